/-! THE CLASS MAKES NETWORKS -/
section CM
variable {S T : St} {b x : Nat} {N : Net} {w : Nat → Int} {F : Nat}
theorem netC_mk {a wa ta ea sa : Nat} {fw ft : Nat → Int32} {fe fs : Nat → Option Nat} (eq sq : Nat → Nat) (hT : wfS T) (h0 : T.1 a = some (cO 2 [.ref wa, .ref ta, .ref ea, .ref sa])) (h1 : T.1 wa = some (cI 0 (nN N) fw)) (h2 : ∀ i, i < nN N → fw i = i32 (w i)) (h3 : T.1 ta = some (cI 0 (nN N) ft)) (h4 : ∀ i, i < nN N → ft i = i32 (tN N i))
    (h5 : T.1 ea = some (cQ 3 (eN N) fe)) (h6 : ∀ k, k < eN N → fe k = some (eq k) ∧ T.1 (eq k) = some (cO 4 [.int (i32 (ed N k).1), .int (i32 (ed N k).2.1), .int (i32 (ed N k).2.2)]))
    (h7 : T.1 sa = some (cQ 4 (sN N) fs)) (h8 : ∀ k, k < sN N → fs k = some (sq k) ∧ T.1 (sq k) = some (cO 5 [.int (i32 (sd N k).1), .int (i32 (sd N k).2.1), .int (i32 (sd N k).2.2)])) : netC T.2.1 T a N w :=
  ⟨wa, ta, ea, sa, fw, ft, fe, fs, eq, sq, ⟨hT.lt h0, h0⟩, ⟨hT.lt h1, h1, h2⟩, ⟨hT.lt h3, h3, h4⟩, ⟨hT.lt h5, h5, fun k hk => ⟨(h6 k hk).1, hT.lt (h6 k hk).2, (h6 k hk).2⟩⟩, hT.lt h7, h7, fun k hk => ⟨(h8 k hk).1, hT.lt (h8 k hk).2, (h8 k hk).2⟩⟩
theorem C_init2 {a w t e s : Nat} {g0 g1 g2 g3 : Value} (h : S.1 a = some (cO 2 [g0, g1, g2, g3])) : C_X2_init_2 S a w t e s = some (put S a (cO 2 [.ref w, .ref t, .ref e, .ref s])) := by
  have e1 : gP S 2 a 0 (.ref w) = some (put S a (cO 2 [.ref w, g1, g2, g3])) := gP_of h (by simp)
  have e2 : gP (put S a (cO 2 [.ref w, g1, g2, g3])) 2 a 1 (.ref t) = some (put (put S a (cO 2 [.ref w, g1, g2, g3])) a (cO 2 [.ref w, .ref t, g2, g3])) := gP_of (put_me _ _ _) (by simp)
  rw [put_put] at e2
  have e3 : gP (put S a (cO 2 [.ref w, .ref t, g2, g3])) 2 a 2 (.ref e) = some (put (put S a (cO 2 [.ref w, .ref t, g2, g3])) a (cO 2 [.ref w, .ref t, .ref e, g3])) := gP_of (put_me _ _ _) (by simp)
  rw [put_put] at e3
  have e4 : gP (put S a (cO 2 [.ref w, .ref t, .ref e, g3])) 2 a 3 (.ref s) = some (put (put S a (cO 2 [.ref w, .ref t, .ref e, g3])) a (cO 2 [.ref w, .ref t, .ref e, .ref s])) := gP_of (put_me _ _ _) (by simp)
  rw [put_put] at e4
  unfold C_X2_init_2
  simp only [e1, e2, e3, e4, Option.bind_eq_bind, Option.bind_some]
theorem C_init2n {m w t e s : Nat} : C_X2_init_2 (al S (cO 2 df_2) m) S.2.1 w t e s = some (al S (cO 2 [.ref w, .ref t, .ref e, .ref s]) m) := by
  rw [C_init2 (g0 := .null) (g1 := .null) (g2 := .null) (g3 := .null) (al_me S m (cO 2 df_2)), put_al]
theorem mkQ0 {kd : Nat} : nQ_ S kd 0 = some (S.2.1, al S (cQ kd 0 (fun _ => none)) 0) := mkQ (n := 0) (by decide) (by decide)
theorem C_init5 {a : Nat} {x y z : Int32} {g0 g1 g2 : Value} (h : S.1 a = some (cO 4 [g0, g1, g2])) : C_X5_init S a x y z = some (put S a (cO 4 [.int x, .int y, .int z])) := by
  have e1 : gP S 4 a 0 (.int x) = some (put S a (cO 4 [.int x, g1, g2])) := gP_of h (by simp)
  have e2 : gP (put S a (cO 4 [.int x, g1, g2])) 4 a 1 (.int y) = some (put (put S a (cO 4 [.int x, g1, g2])) a (cO 4 [.int x, .int y, g2])) := gP_of (put_me _ _ _) (by simp)
  rw [put_put] at e2
  have e3 : gP (put S a (cO 4 [.int x, .int y, g2])) 4 a 2 (.int z) = some (put (put S a (cO 4 [.int x, .int y, g2])) a (cO 4 [.int x, .int y, .int z])) := gP_of (put_me _ _ _) (by simp)
  rw [put_put] at e3
  unfold C_X5_init
  simp only [e1, e2, e3, Option.bind_eq_bind, Option.bind_some]
theorem C_init6 {a : Nat} {x y z : Int32} {g0 g1 g2 : Value} (h : S.1 a = some (cO 5 [g0, g1, g2])) : C_X6_init S a x y z = some (put S a (cO 5 [.int x, .int y, .int z])) := by
  have e1 : gP S 5 a 0 (.int x) = some (put S a (cO 5 [.int x, g1, g2])) := gP_of h (by simp)
  have e2 : gP (put S a (cO 5 [.int x, g1, g2])) 5 a 1 (.int y) = some (put (put S a (cO 5 [.int x, g1, g2])) a (cO 5 [.int x, .int y, g2])) := gP_of (put_me _ _ _) (by simp)
  rw [put_put] at e2
  have e3 : gP (put S a (cO 5 [.int x, .int y, g2])) 5 a 2 (.int z) = some (put (put S a (cO 5 [.int x, .int y, g2])) a (cO 5 [.int x, .int y, .int z])) := gP_of (put_me _ _ _) (by simp)
  rw [put_put] at e3
  unfold C_X6_init
  simp only [e1, e2, e3, Option.bind_eq_bind, Option.bind_some]
/-- a new network -/
theorem C_newNet {a : Nat} {n : Nat} (hw : wfS S) (ha : S.1 a = some (cO 2 df_2)) (hn : n ≤ 8) (hF : 4294967296 < F) : Rt (C_X2_init F S a (i32 n)) (fun T => T.2.1 = S.2.1 + 4 ∧ fr a a 4 16 S T ∧ (∀ q e, S.1 q = some e → q ≠ a → T.1 q = some e) ∧ netC T.2.1 T a (nReset n) (wN (nReset n))) := by
  have al1 := hw.lt ha
  unfold C_X2_init
  rw [mkI (by omega) (by omega)]
  simp only [Option.bind_eq_bind, Option.bind_some, Int.toNat_natCast]
  rw [mkI (by omega) (by omega)]
  simp only [Option.bind_eq_bind, Option.bind_some, Int.toNat_natCast]
  rw [mkQ0]
  simp only [Option.bind_eq_bind, Option.bind_some]
  rw [mkQ0]
  simp only [Option.bind_eq_bind, Option.bind_some, al_n]
  have w1 : wfS (al S (cI 0 n (fun _ => 0)) n) := hw.al
  have w2 : wfS (al (al S (cI 0 n (fun _ => 0)) n) (cI 0 n (fun _ => 0)) n) := w1.al
  have w3 : wfS (al (al (al S (cI 0 n (fun _ => 0)) n) (cI 0 n (fun _ => 0)) n) (cQ 3 0 (fun _ => none)) 0) := w2.al
  have w4 : wfS (al (al (al (al S (cI 0 n (fun _ => 0)) n) (cI 0 n (fun _ => 0)) n) (cQ 3 0 (fun _ => none)) 0) (cQ 4 0 (fun _ => none)) 0) := w3.al
  have c0 : (al (al (al (al S (cI 0 n (fun _ => 0)) n) (cI 0 n (fun _ => 0)) n) (cQ 3 0 (fun _ => none)) 0) (cQ 4 0 (fun _ => none)) 0).2 = (S.2.1 + 4, S.2.2.1 + 4, S.2.2.2 + n + n + 0 + 0) := rfl
  have ca : ∀ q, (al (al (al (al S (cI 0 n (fun _ => 0)) n) (cI 0 n (fun _ => 0)) n) (cQ 3 0 (fun _ => none)) 0) (cQ 4 0 (fun _ => none)) 0).1 q = if q = S.2.1 + 3 then some (cQ 4 0 (fun _ => none)) else if q = S.2.1 + 2 then some (cQ 3 0 (fun _ => none)) else if q = S.2.1 + 1 then some (cI 0 n (fun _ => 0)) else if q = S.2.1 then some (cI 0 n (fun _ => 0)) else S.1 q := fun q => rfl
  generalize al (al (al (al S (cI 0 n (fun _ => 0)) n) (cI 0 n (fun _ => 0)) n) (cQ 3 0 (fun _ => none)) 0) (cQ 4 0 (fun _ => none)) 0 = S4 at *
  have ha4 : S4.1 a = some (cO 2 [.null, .null, .null, .null]) := by rw [ca, if_neg (by omega), if_neg (by omega), if_neg (by omega), if_neg (by omega)]; exact ha
  rw [C_init2 ha4]
  simp only [Option.bind_eq_bind, Option.bind_some]
  show Rt (C_X2_init_20 F a (i32 n) F (i32 0) _) _
  refine Rt.loop (ι := Nat) (fun k v U => v = i32 k ∧ k ≤ n ∧ U.2 = S4.2 ∧ U.1 a = some (cO 2 [.ref S.2.1, .ref (S.2.1 + 1), .ref (S.2.1 + 2), .ref (S.2.1 + 3)]) ∧ (∃ f, U.1 S.2.1 = some (cI 0 n f) ∧ ∀ i, i < k → f i = i32 1) ∧ ∀ q, q ≠ a → q ≠ S.2.1 → U.1 q = S4.1 q) (fun k => n - k) ?_ F 0 _ _ ⟨rfl, by omega, rfl, put_me _ _ _, ⟨fun _ => 0, ?_, fun i hi => by omega⟩, fun q hq _ => put_ne hq⟩ (by omega)
  rotate_left
  · rw [put_ne (by omega), ca, if_neg (by omega), if_neg (by omega), if_neg (by omega), if_pos rfl]
  rintro f k _ U ⟨rfl, hk, u1, u2, ⟨g, u3, u4⟩, u5⟩ ih
  unfold C_X2_init_20
  simp (disch := omega) only [i_le, i_lt, i_eq]
  refine Rt.ite (fun h => ?_) (fun h => ?_)
  · obtain rfl : k = n := by omega
    have hT : wfS U := by
      intro q hq
      rw [u1, c0] at hq
      have hq' : S.2.1 + 4 ≤ q := hq
      rw [u5 q (by omega) (by omega)]
      exact w4 q (by rw [c0]; exact hq')
    have old : ∀ q e, S.1 q = some e → q ≠ a → U.1 q = some e := by
      intro q e hq hqa
      have := hw.lt hq
      rw [u5 q hqa (by omega), ca, if_neg (by omega), if_neg (by omega), if_neg (by omega), if_neg (by omega)]; exact hq
    refine Rt.some ⟨by rw [u1, c0], ⟨hT, by rw [u1, c0]; simp only; omega, by rw [u1, c0]; exact Nat.le_refl _, by rw [u1, c0]; simp only; omega, fun q e hq hqa _ => old q e hq hqa⟩, old, ?_⟩
    refine netC_mk (fun _ => 0) (fun _ => 0) hT u2 (wa := S.2.1) (fw := g) (by rw [nReset_n]; exact u3) (fun i hi => ?_) (ft := fun _ => 0) (by rw [nReset_n, u5 _ (by omega) (by omega), ca, if_neg (by omega), if_neg (by omega), if_pos rfl]) (fun i hi => ?_) (fe := fun _ => none) (by rw [u5 _ (by omega) (by omega), ca, if_neg (by omega), if_pos rfl]; rfl) (fun k hk => absurd hk (Nat.not_lt_zero k)) (fs := fun _ => none) (by rw [u5 _ (by omega) (by omega), ca, if_pos rfl]; rfl) (fun k hk => absurd hk (Nat.not_lt_zero k))
    · rw [nReset_n] at hi; rw [u4 i hi, (nReset_w hi).1]
    · rw [nReset_n] at hi; rw [(nReset_w hi).2]; rfl
  · rw [gA_of u2 (k := 0) rfl]
    simp only [Option.bind_eq_bind, Option.bind_some, i_c0, i_c1, i_c2, i_c3, i_c4, i_c5, i_c6, i_c8, i_c9, i_c10, i_c12, i_c16, i_c17, i_c18, i_c31, i_c32, i_c45, i_c48, i_c50, i_c54, i_c55, i_c57, i_c58, i_c59, i_c61, i_c64, i_c73, i_c118, i_c119, i_c120, i_c126, i_c365, i_c1000, i_cFAR]
    rw [tI_of u3 (by omega) (by omega) (by omega)]
    simp only [Option.bind_eq_bind, Option.bind_some, i_add, i_sub, i_mul, i_neg]
    refine ih (k + 1) _ _ ⟨rfl, by omega, u1, ?_, ⟨_, put_me _ _ _, fun i hi => ?_⟩, fun q h1 h2 => ?_⟩ (by omega)
    · rw [put_ne (by omega)]; exact u2
    · rw [upd_at, Int.toNat_natCast]
      by_cases e : i = k
      · rw [if_pos e]
      · rw [if_neg e]; exact u4 i (by omega)
    · rw [put_ne h2]; exact u5 q h1 h2
theorem C_with {a i L : Nat} {v : Int32} {f : Nat → Int32} (h : S.1 a = some (cI 0 L f)) (hi : i < L) (hL : L ≤ 64) : C_X2_with S a (i32 i) v = some (S.2.1, al S (cI 0 L (upd f i v)) L) := by
  unfold C_X2_with
  rw [gcl_of h]
  simp only [Option.bind_eq_bind, Option.bind_some]
  rw [aI_of (al_me _ _ _)]
  simp only [Option.bind_eq_bind, Option.bind_some]
  rw [tI_of (al_me _ _ _) (by omega) (by omega) (by omega)]
  simp only [Option.bind_eq_bind, Option.bind_some, put_al, Int.toNat_natCast]
/-- a network that does not use the int array at z -/
def avd (z : Nat) (S : St) (a : Nat) : Prop := ∀ wa ta v w, S.1 a = some (cO 2 [.ref wa, .ref ta, v, w]) → wa ≠ z ∧ ta ≠ z
theorem avd_mk {S T : St} {x a wa ta : Nat} {v w : Value} (hT : T.1 a = some (cO 2 [.ref wa, .ref ta, v, w])) (h : ∀ z, z < S.2.1 → avd z S x → wa ≠ z ∧ ta ≠ z) : ∀ z, z < S.2.1 → avd z S x → avd z T a := by
  intro z hz ha w1 t1 v1 w2 e
  rw [hT] at e
  cases e
  exact h z hz ha
theorem C_withWeightA {i : Nat} {v : Int} (hN : okN N) (hw : wfS S) (h : netC b S x N w) (hi : i < nN N) : ∃ a T, C_X2_withWeight S x (i32 i) (i32 v) = some (a, T) ∧ ex 2 12 S T ∧ (∀ z, z < S.2.1 → avd z S x → avd z T a) ∧ netC T.2.1 T a (nWei N i v) (fun j => if j = i then v else w j) := by
  have z1 := hN.sz.1
  obtain ⟨wa, ta, ea, sa, fw, ft, fe, fs, eq, sq, ⟨a1, a2⟩, ⟨b1, b2, b3⟩, ⟨c1, c2, c3⟩, ⟨d1, d2, d3⟩, e1, e2, e3⟩ := h
  have x1 : ex 1 4 S (al S (cO 2 df_2) 4) := ex.al hw
  have x2 : ex 2 (4 + nN N) S (al (al S (cO 2 df_2) 4) (cI 0 (nN N) (upd fw i (i32 v))) (nN N)) := x1.tr (ex.al x1.1) (by omega) (by omega)
  have k0 : (al (al S (cO 2 df_2) 4) (cI 0 (nN N) (upd fw i (i32 v))) (nN N)).1 S.2.1 = some (cO 2 [.null, .null, .null, .null]) := by
    rw [al_ne (by rw [al_n]; omega)]; exact al_me _ _ _
  have x3 := ex.put (e := cO 2 [.ref (S.2.1 + 1), .ref ta, .ref ea, .ref sa]) hw x2 (Nat.le_refl _) k0
  refine ⟨S.2.1, _, ?_, x3.le (by omega) (by omega), avd_mk (put_me _ _ _) (fun z hz ha => ⟨by omega, (ha _ _ _ _ a2).2⟩), ?_⟩
  rotate_left
  · refine netC_mk eq sq x3.1 (put_me _ _ _) (fw := upd fw i (i32 v)) ?_ (fun j hj => ?_) (ft := ft) ?_ (fun j hj => ?_) (x3.get d2) (fun k hk => ⟨(d3 k hk).1, x3.get (d3 k hk).2.2⟩) (x3.get e2) (fun k hk => ⟨(e3 k hk).1, x3.get (e3 k hk).2.2⟩)
    · rw [nWei_n, put_ne (by omega)]; exact al_me _ _ _
    · rw [nWei_n] at hj
      rw [upd_at]
      by_cases e : j = i
      · rw [if_pos e, if_pos e]
      · rw [if_neg e, if_neg e]; exact b3 j hj
    · rw [nWei_n]; exact x3.get c2
    · rw [nWei_n] at hj
      rw [(nWei_w hi).2]; exact c3 j hj
  · unfold C_X2_withWeight
    rw [gO_of a2]
    simp only [Option.bind_eq_bind, Option.bind_some, nO_eq]
    rw [gA_of (k := 0) (x1.get a2) rfl]
    simp only [Option.bind_eq_bind, Option.bind_some]
    rw [C_with (x1.get b2) hi (by omega)]
    simp only [Option.bind_eq_bind, Option.bind_some]
    rw [gA_of (k := 1) (x2.get a2) rfl, gA_of (k := 2) (x2.get a2) rfl, gA_of (k := 3) (x2.get a2) rfl]
    simp only [Option.bind_eq_bind, Option.bind_some]
    rw [C_init2 k0]
    rfl
theorem C_withWeight {i : Nat} {v : Int} (hN : okN N) (hw : wfS S) (h : netC b S x N w) (hi : i < nN N) : ∃ a T, C_X2_withWeight S x (i32 i) (i32 v) = some (a, T) ∧ ex 2 12 S T ∧ netC T.2.1 T a (nWei N i v) (fun j => if j = i then v else w j) := by
  obtain ⟨y, T, h1, h2, -, h3⟩ := C_withWeightA (v := v) hN hw h hi
  exact ⟨y, T, h1, h2, h3⟩
theorem C_withTrendA {i : Nat} {v : Int} (hN : okN N) (hw : wfS S) (h : netC b S x N w) (hi : i < nN N) : ∃ a T, C_X2_withTrend S x (i32 i) (i32 v) = some (a, T) ∧ ex 2 12 S T ∧ (∀ z, z < S.2.1 → avd z S x → avd z T a) ∧ netC T.2.1 T a (nTre N i v) w := by
  have z1 := hN.sz.1
  obtain ⟨wa, ta, ea, sa, fw, ft, fe, fs, eq, sq, ⟨a1, a2⟩, ⟨b1, b2, b3⟩, ⟨c1, c2, c3⟩, ⟨d1, d2, d3⟩, e1, e2, e3⟩ := h
  have x1 : ex 1 4 S (al S (cO 2 df_2) 4) := ex.al hw
  have x2 : ex 2 (4 + nN N) S (al (al S (cO 2 df_2) 4) (cI 0 (nN N) (upd ft i (i32 v))) (nN N)) := x1.tr (ex.al x1.1) (by omega) (by omega)
  have k0 : (al (al S (cO 2 df_2) 4) (cI 0 (nN N) (upd ft i (i32 v))) (nN N)).1 S.2.1 = some (cO 2 [.null, .null, .null, .null]) := by
    rw [al_ne (by rw [al_n]; omega)]; exact al_me _ _ _
  have x3 := ex.put (e := cO 2 [.ref wa, .ref (S.2.1 + 1), .ref ea, .ref sa]) hw x2 (Nat.le_refl _) k0
  refine ⟨S.2.1, _, ?_, x3.le (by omega) (by omega), avd_mk (put_me _ _ _) (fun z hz ha => ⟨(ha _ _ _ _ a2).1, by omega⟩), ?_⟩
  rotate_left
  · refine netC_mk eq sq x3.1 (put_me _ _ _) (fw := fw) ?_ (fun j hj => ?_) (ft := upd ft i (i32 v)) ?_ (fun j hj => ?_) (x3.get d2) (fun k hk => ⟨(d3 k hk).1, x3.get (d3 k hk).2.2⟩) (x3.get e2) (fun k hk => ⟨(e3 k hk).1, x3.get (e3 k hk).2.2⟩)
    · rw [nTre_n]; exact x3.get b2
    · rw [nTre_n] at hj; exact b3 j hj
    · rw [nTre_n, put_ne (by omega)]; exact al_me _ _ _
    · rw [nTre_n] at hj
      rw [upd_at, (nTre_w hi).2]
      by_cases e : j = i
      · rw [if_pos e, if_pos e]
      · rw [if_neg e, if_neg e]; exact c3 j hj
  · unfold C_X2_withTrend
    rw [gO_of a2]
    simp only [Option.bind_eq_bind, Option.bind_some, nO_eq]
    rw [gA_of (k := 0) (x1.get a2) rfl, gA_of (k := 1) (x1.get a2) rfl]
    simp only [Option.bind_eq_bind, Option.bind_some]
    rw [C_with (x1.get c2) hi (by omega)]
    simp only [Option.bind_eq_bind, Option.bind_some]
    rw [gA_of (k := 2) (x2.get a2) rfl, gA_of (k := 3) (x2.get a2) rfl]
    simp only [Option.bind_eq_bind, Option.bind_some]
    rw [C_init2 k0]
    rfl
theorem C_withTrend {i : Nat} {v : Int} (hN : okN N) (hw : wfS S) (h : netC b S x N w) (hi : i < nN N) : ∃ a T, C_X2_withTrend S x (i32 i) (i32 v) = some (a, T) ∧ ex 2 12 S T ∧ netC T.2.1 T a (nTre N i v) w := by
  obtain ⟨y, T, h1, h2, -, h3⟩ := C_withTrendA (v := v) hN hw h hi
  exact ⟨y, T, h1, h2, h3⟩
theorem C_changed {s : Int} (hN : okN N) (hw : wfS S) (h : netC b S x N w) (hF : 4294967296 < F) : Rt (C_X2_changed F S x (i32 s)) (fun v => ex 2 12 S v.2 ∧ netC v.2.2.1 v.2 v.1 N (fun i => w i + s * tN N i)) := by
  have z1 := hN.sz.1
  obtain ⟨wa, ta, ea, sa, fw, ft, fe, fs, eq, sq, ⟨a1, a2⟩, ⟨b1, b2, b3⟩, ⟨c1, c2, c3⟩, ⟨d1, d2, d3⟩, e1, e2, e3⟩ := h
  unfold C_X2_changed
  rw [gO_of a2, gA_of (k := 0) a2 rfl]
  simp only [Option.bind_eq_bind, Option.bind_some]
  rw [gcl_of b2]
  simp only [Option.bind_eq_bind, Option.bind_some]
  rw [aI_of (al_me _ _ _)]
  simp only [Option.bind_eq_bind, Option.bind_some, i_c0]
  refine Rt.loop (ι := Nat) (fun k v U => v = i32 k ∧ k ≤ nN N ∧ ex 1 (nN N) S U ∧ U.2.1 = S.2.1 + 1 ∧ ∃ f, U.1 S.2.1 = some (cI 0 (nN N) f) ∧ ∀ i, i < nN N → f i = i32 (if i < k then w i + s * tN N i else w i)) (fun k => nN N - k) ?_ F 0 _ _ ⟨rfl, by omega, ex.al hw, rfl, fw, al_me _ _ _, fun i hi => by rw [if_neg (by omega)]; exact b3 i hi⟩ (by omega)
  rintro n k _ U ⟨rfl, hk, u1, u2, f, u3, u4⟩ ih
  unfold C_X2_changed_13
  rw [aN_of u3]
  simp (disch := omega) only [Option.bind_eq_bind, Option.bind_some, i_le, i_lt, i_eq]
  refine Rt.ite (fun h => ?_) (fun h => ?_)
  · obtain rfl : k = nN N := by omega
    unfold C_X2_changed_39
    have x2 : ex 2 (nN N + 4) S (al U (cO 2 df_2) 4) := u1.tr (ex.al u1.1) (by omega) (by omega)
    simp only [Option.bind_eq_bind, Option.bind_some, nO_eq]
    rw [gA_of (k := 1) (x2.get a2) rfl, gA_of (k := 2) (x2.get a2) rfl, gA_of (k := 3) (x2.get a2) rfl]
    simp only [Option.bind_eq_bind, Option.bind_some]
    rw [C_init2n]
    have x3 : ex 2 (nN N + 4) S (al U (cO 2 [.ref S.2.1, .ref ta, .ref ea, .ref sa]) 4) := u1.tr (ex.al u1.1) (by omega) (by omega)
    refine Rt.of rfl ⟨x3.le (by omega) (by omega), netC_mk eq sq x3.1 (al_me _ _ _) (fw := f) ?_ (fun j hj => ?_) (x3.get c2) c3 (x3.get d2) (fun k hk => ⟨(d3 k hk).1, x3.get (d3 k hk).2.2⟩) (x3.get e2) (fun k hk => ⟨(e3 k hk).1, x3.get (e3 k hk).2.2⟩)⟩
    · show (al U _ 4).1 S.2.1 = _
      rw [al_ne (by omega)]; exact u3
    · rw [u4 j hj, if_pos hj]
  · have hk' : k < nN N := by omega
    rw [lI_of u3 (by omega) (by omega) (by omega), gA_of (k := 1) (u1.get a2) rfl]
    simp only [Option.bind_eq_bind, Option.bind_some]
    rw [lI_of (u1.get c2) (by omega) (by omega) (by omega)]
    simp only [Option.bind_eq_bind, Option.bind_some, Int.toNat_natCast]
    rw [tI_of u3 (by omega) (by omega) (by omega), u4 k hk', c3 k hk', if_neg (by omega)]
    simp only [Option.bind_eq_bind, Option.bind_some, i_c0, i_c1, i_c2, i_c3, i_c4, i_c5, i_c6, i_c8, i_c9, i_c10, i_c12, i_c16, i_c17, i_c18, i_c31, i_c32, i_c45, i_c48, i_c50, i_c54, i_c55, i_c57, i_c58, i_c59, i_c61, i_c64, i_c73, i_c118, i_c119, i_c120, i_c126, i_c365, i_c1000, i_cFAR, i_add, i_sub, i_mul, i_neg]
    refine ih (k + 1) _ _ ⟨rfl, by omega, ex.put hw u1 (Nat.le_refl _) u3, u2, _, put_me _ _ _, fun i hi => ?_⟩ (by omega)
    rw [upd_at, Int.toNat_natCast]
    by_cases e : i = k
    · rw [if_pos e, if_pos (by omega), e]
    · rw [if_neg e, u4 i hi]
      by_cases e2 : i < k
      · rw [if_pos e2, if_pos (by omega)]
      · rw [if_neg e2, if_neg (by omega)]
theorem cpy_at {α : Type} (f g : Nat → α) (sp dp n k : Nat) : va_cpy f g sp dp n k = if dp ≤ k ∧ k < dp + n then f (sp + (k - dp)) else g k := rfl
theorem vup_at {α : Type} (f : Nat → α) (k j : Nat) (v : α) : va_up f k v j = if j = k then v else f j := rfl
theorem C_withEdgeA {q : Nat} {a c : Nat} {l : Int} (hN : okN N) (hw : wfS S) (h : netC b S x N w) (hq : S.1 q = some (cO 4 [.int (i32 a), .int (i32 c), .int (i32 l)])) : ∃ y T, C_X2_withEdge S x q = some (y, T) ∧ ex 2 17 S T ∧ (∀ z, z < S.2.1 → avd z S x → avd z T y) ∧ netC T.2.1 T y (nCon N a c l) w := by
  have z2 := hN.sz.2.1
  obtain ⟨wa, ta, ea, sa, fw, ft, fe, fs, eq, sq, ⟨a1, a2⟩, ⟨b1, b2, b3⟩, ⟨c1, c2, c3⟩, ⟨d1, d2, d3⟩, e1, e2, e3⟩ := h
  have en : ((eN N : Int) + 1).toNat = eN N + 1 := by omega
  have x1 : ∀ f, ex 1 (eN N + 1) S (al S (cQ 3 (eN N + 1) f) (eN N + 1)) := fun f => ex.al hw
  have x2 : ∀ f g, ex 2 (eN N + 1 + 4) S (al (al S (cQ 3 (eN N + 1) f) (eN N + 1)) g 4) := fun f g => (x1 f).tr (ex.al (x1 f).1) (by omega) (by omega)
  refine ⟨S.2.1 + 1, al (al S (cQ 3 (eN N + 1) (va_up (va_cpy fe (fun _ => none) 0 0 (eN N)) (eN N) (some q))) (eN N + 1)) (cO 2 [.ref wa, .ref ta, .ref S.2.1, .ref sa]) 4, ?_, (x2 _ _).le (by omega) (by omega), avd_mk (al_me _ _ _) (fun z hz ha => ha _ _ _ _ a2), ?_⟩
  · unfold C_X2_withEdge
    rw [gO_of a2, gA_of (k := 2) a2 rfl]
    simp only [Option.bind_eq_bind, Option.bind_some]
    rw [aN_of d2]
    simp only [Option.bind_eq_bind, Option.bind_some, i_c0, i_c1, i_c2, i_c3, i_c4, i_c5, i_c6, i_c8, i_c9, i_c10, i_c12, i_c16, i_c17, i_c18, i_c31, i_c32, i_c45, i_c48, i_c50, i_c54, i_c55, i_c57, i_c58, i_c59, i_c61, i_c64, i_c73, i_c118, i_c119, i_c120, i_c126, i_c365, i_c1000, i_cFAR, i_add, i_sub, i_mul, i_neg]
    rw [mkQ (by omega) (by omega), en]
    simp only [Option.bind_eq_bind, Option.bind_some]
    rw [gA_of (k := 2) ((x1 _).get a2) rfl]
    simp only [Option.bind_eq_bind, Option.bind_some]
    rw [aN_of ((x1 _).get d2)]
    simp only [Option.bind_eq_bind, Option.bind_some]
    rw [cQ_of ((x1 _).get d2) (al_me _ _ _) (by omega) (by omega) (by omega) (by omega) (by omega) (by omega) (by omega) (fun i hi => ⟨eq i, _, by rw [show (0 : Int).toNat + i = i by simp]; exact (d3 i (by omega)).1, (x1 _).get (d3 i (by omega)).2.2⟩)]
    simp only [Option.bind_eq_bind, Option.bind_some, put_al, Int.toNat_natCast]
    rw [gA_of (k := 2) ((x1 _).get a2) rfl]
    simp only [Option.bind_eq_bind, Option.bind_some]
    rw [aN_of ((x1 _).get d2)]
    simp only [Option.bind_eq_bind, Option.bind_some]
    rw [tA_of ((x1 _).get hq) (al_me _ _ _) (by omega) (by omega) (by omega)]
    simp only [Option.bind_eq_bind, Option.bind_some, put_al, Int.toNat_natCast, nO_eq]
    rw [gA_of (k := 0) ((x2 _ _).get a2) rfl, gA_of (k := 1) ((x2 _ _).get a2) rfl, gA_of (k := 3) ((x2 _ _).get a2) rfl]
    simp only [Option.bind_eq_bind, Option.bind_some]
    rw [C_init2n]
    rfl
  · refine netC_mk (fun k => if k < eN N then eq k else q) sq (x2 _ _).1 (al_me _ _ _) ((x2 _ _).get b2) b3 ((x2 _ _).get c2) c3 (fe := va_up (va_cpy fe (fun _ => none) 0 0 (eN N)) (eN N) (some q)) ?_ (fun k hk => ?_) ((x2 _ _).get e2) (fun k hk => ⟨(e3 k hk).1, (x2 _ _).get (e3 k hk).2.2⟩)
    · rw [nCon_e, al_ne (by rw [al_n]; omega)]; exact al_me _ _ _
    · rw [nCon_e] at hk
      rw [nCon_ed, vup_at, cpy_at]
      by_cases hh : k < eN N
      · rw [if_neg (by omega), if_pos (by omega), show 0 + (k - 0) = k by omega]
        simp only [if_pos hh]
        exact ⟨(d3 k hh).1, (x2 _ _).get (d3 k hh).2.2⟩
      · simp only [if_neg hh]
        rw [if_pos (by omega), if_pos (by omega)]
        exact ⟨rfl, (x2 _ _).get hq⟩
theorem C_withEdge {q : Nat} {a c : Nat} {l : Int} (hN : okN N) (hw : wfS S) (h : netC b S x N w) (hq : S.1 q = some (cO 4 [.int (i32 a), .int (i32 c), .int (i32 l)])) : ∃ y T, C_X2_withEdge S x q = some (y, T) ∧ ex 2 17 S T ∧ netC T.2.1 T y (nCon N a c l) w := by
  obtain ⟨y, T, h1, h2, -, h3⟩ := C_withEdgeA hN hw h hq
  exact ⟨y, T, h1, h2, h3⟩
theorem C_withStretchA {q : Nat} {e : Nat} {u v : Int} (hN : okN N) (hw : wfS S) (h : netC b S x N w) (hq : S.1 q = some (cO 5 [.int (i32 e), .int (i32 u), .int (i32 v)])) : ∃ y T, C_X2_withStretch S x q = some (y, T) ∧ ex 2 17 S T ∧ (∀ z, z < S.2.1 → avd z S x → avd z T y) ∧ netC T.2.1 T y (nFor N e u v) w := by
  have z3 := hN.sz.2.2
  obtain ⟨wa, ta, ea, sa, fw, ft, fe, fs, eq, sq, ⟨a1, a2⟩, ⟨b1, b2, b3⟩, ⟨c1, c2, c3⟩, ⟨d1, d2, d3⟩, e1, e2, e3⟩ := h
  have en : ((sN N : Int) + 1).toNat = sN N + 1 := by omega
  have x1 : ∀ f, ex 1 (sN N + 1) S (al S (cQ 4 (sN N + 1) f) (sN N + 1)) := fun f => ex.al hw
  have x2 : ∀ f g, ex 2 (sN N + 1 + 4) S (al (al S (cQ 4 (sN N + 1) f) (sN N + 1)) g 4) := fun f g => (x1 f).tr (ex.al (x1 f).1) (by omega) (by omega)
  refine ⟨S.2.1 + 1, al (al S (cQ 4 (sN N + 1) (va_up (va_cpy fs (fun _ => none) 0 0 (sN N)) (sN N) (some q))) (sN N + 1)) (cO 2 [.ref wa, .ref ta, .ref ea, .ref S.2.1]) 4, ?_, (x2 _ _).le (by omega) (by omega), avd_mk (al_me _ _ _) (fun z hz ha => ha _ _ _ _ a2), ?_⟩
  · unfold C_X2_withStretch
    rw [gO_of a2, gA_of (k := 3) a2 rfl]
    simp only [Option.bind_eq_bind, Option.bind_some]
    rw [aN_of e2]
    simp only [Option.bind_eq_bind, Option.bind_some, i_c0, i_c1, i_c2, i_c3, i_c4, i_c5, i_c6, i_c8, i_c9, i_c10, i_c12, i_c16, i_c17, i_c18, i_c31, i_c32, i_c45, i_c48, i_c50, i_c54, i_c55, i_c57, i_c58, i_c59, i_c61, i_c64, i_c73, i_c118, i_c119, i_c120, i_c126, i_c365, i_c1000, i_cFAR, i_add, i_sub, i_mul, i_neg]
    rw [mkQ (by omega) (by omega), en]
    simp only [Option.bind_eq_bind, Option.bind_some]
    rw [gA_of (k := 3) ((x1 _).get a2) rfl]
    simp only [Option.bind_eq_bind, Option.bind_some]
    rw [aN_of ((x1 _).get e2)]
    simp only [Option.bind_eq_bind, Option.bind_some]
    rw [cQ_of ((x1 _).get e2) (al_me _ _ _) (by omega) (by omega) (by omega) (by omega) (by omega) (by omega) (by omega) (fun i hi => ⟨sq i, _, by rw [show (0 : Int).toNat + i = i by simp]; exact (e3 i (by omega)).1, (x1 _).get (e3 i (by omega)).2.2⟩)]
    simp only [Option.bind_eq_bind, Option.bind_some, put_al, Int.toNat_natCast]
    rw [gA_of (k := 3) ((x1 _).get a2) rfl]
    simp only [Option.bind_eq_bind, Option.bind_some]
    rw [aN_of ((x1 _).get e2)]
    simp only [Option.bind_eq_bind, Option.bind_some]
    rw [tA_of ((x1 _).get hq) (al_me _ _ _) (by omega) (by omega) (by omega)]
    simp only [Option.bind_eq_bind, Option.bind_some, put_al, Int.toNat_natCast, nO_eq]
    rw [gA_of (k := 0) ((x2 _ _).get a2) rfl, gA_of (k := 1) ((x2 _ _).get a2) rfl, gA_of (k := 2) ((x2 _ _).get a2) rfl]
    simp only [Option.bind_eq_bind, Option.bind_some]
    rw [C_init2n]
    rfl
  · refine netC_mk eq (fun k => if k < sN N then sq k else q) (x2 _ _).1 (al_me _ _ _) ((x2 _ _).get b2) b3 ((x2 _ _).get c2) c3 ((x2 _ _).get d2) (fun k hk => ⟨(d3 k hk).1, (x2 _ _).get (d3 k hk).2.2⟩) (fs := va_up (va_cpy fs (fun _ => none) 0 0 (sN N)) (sN N) (some q)) ?_ (fun k hk => ?_)
    · rw [nFor_s, al_ne (by rw [al_n]; omega)]; exact al_me _ _ _
    · rw [nFor_s] at hk
      rw [nFor_sd, vup_at, cpy_at]
      by_cases hh : k < sN N
      · rw [if_neg (by omega), if_pos (by omega), show 0 + (k - 0) = k by omega]
        simp only [if_pos hh]
        exact ⟨(e3 k hh).1, (x2 _ _).get (e3 k hh).2.2⟩
      · simp only [if_neg hh]
        rw [if_pos (by omega), if_pos (by omega)]
        exact ⟨rfl, (x2 _ _).get hq⟩
theorem C_withStretch {q : Nat} {e : Nat} {u v : Int} (hN : okN N) (hw : wfS S) (h : netC b S x N w) (hq : S.1 q = some (cO 5 [.int (i32 e), .int (i32 u), .int (i32 v)])) : ∃ y T, C_X2_withStretch S x q = some (y, T) ∧ ex 2 17 S T ∧ netC T.2.1 T y (nFor N e u v) w := by
  obtain ⟨y, T, h1, h2, -, h3⟩ := C_withStretchA hN hw h hq
  exact ⟨y, T, h1, h2, h3⟩
theorem C_withoutStretch {k : Nat} (hN : okN N) (hw : wfS S) (h : netC b S x N w) (hk : k < sN N) : ∃ y T, C_X2_withoutStretch S x (i32 k) = some (y, T) ∧ ex 2 17 S T ∧ netC T.2.1 T y (nAll N k) w := by
  have z3 := hN.sz.2.2
  obtain ⟨wa, ta, ea, sa, fw, ft, fe, fs, eq, sq, ⟨a1, a2⟩, ⟨b1, b2, b3⟩, ⟨c1, c2, c3⟩, ⟨d1, d2, d3⟩, e1, e2, e3⟩ := h
  have en : ((sN N : Int) - 1).toNat = sN N - 1 := by omega
  have x1 : ∀ f, ex 1 (sN N - 1) S (al S (cQ 4 (sN N - 1) f) (sN N - 1)) := fun f => ex.al hw
  have x2 : ∀ f g, ex 2 (sN N - 1 + 4) S (al (al S (cQ 4 (sN N - 1) f) (sN N - 1)) g 4) := fun f g => (x1 f).tr (ex.al (x1 f).1) (by omega) (by omega)
  refine ⟨S.2.1 + 1, al (al S (cQ 4 (sN N - 1) (va_cpy fs (va_cpy fs (fun _ => none) 0 0 k) (k + 1) k (sN N - 1 - k))) (sN N - 1)) (cO 2 [.ref wa, .ref ta, .ref ea, .ref S.2.1]) 4, ?_, (x2 _ _).le (by omega) (by omega), ?_⟩
  · unfold C_X2_withoutStretch
    rw [gO_of a2, gA_of (k := 3) a2 rfl]
    simp only [Option.bind_eq_bind, Option.bind_some]
    rw [aN_of e2]
    simp only [Option.bind_eq_bind, Option.bind_some, i_c0, i_c1, i_c2, i_c3, i_c4, i_c5, i_c6, i_c8, i_c9, i_c10, i_c12, i_c16, i_c17, i_c18, i_c31, i_c32, i_c45, i_c48, i_c50, i_c54, i_c55, i_c57, i_c58, i_c59, i_c61, i_c64, i_c73, i_c118, i_c119, i_c120, i_c126, i_c365, i_c1000, i_cFAR, i_add, i_sub, i_mul, i_neg]
    rw [mkQ (by omega) (by omega), en]
    simp only [Option.bind_eq_bind, Option.bind_some]
    rw [gA_of (k := 3) ((x1 _).get a2) rfl]
    simp only [Option.bind_eq_bind, Option.bind_some]
    rw [cQ_of ((x1 _).get e2) (al_me _ _ _) (by omega) (by omega) (by omega) (by omega) (by omega) (by omega) (by omega) (fun i hi => ⟨sq i, _, by rw [show (0 : Int).toNat + i = i by simp]; exact (e3 i (by omega)).1, (x1 _).get (e3 i (by omega)).2.2⟩)]
    simp only [Option.bind_eq_bind, Option.bind_some, put_al, Int.toNat_natCast]
    rw [gA_of (k := 3) ((x1 _).get a2) rfl]
    simp only [Option.bind_eq_bind, Option.bind_some]
    rw [aN_of (al_me _ _ _)]
    simp only [Option.bind_eq_bind, Option.bind_some, i_add, i_sub, i_mul, i_neg]
    have ek : ((k : Int) + 1).toNat = k + 1 := by omega
    have em : (((sN N - 1 : Nat) : Int) - k).toNat = sN N - 1 - k := by omega
    rw [cQ_of ((x1 _).get e2) (al_me _ _ _) (by omega) (by omega) (by omega) (by omega) (by omega) (by omega) (by omega) (fun i hi => ⟨sq (k + 1 + i), _, by rw [ek]; exact (e3 _ (by omega)).1, (x1 _).get (e3 _ (by omega)).2.2⟩)]
    simp only [Option.bind_eq_bind, Option.bind_some, put_al, Int.toNat_natCast, nO_eq, ek, em]
    rw [gA_of (k := 0) ((x2 _ _).get a2) rfl, gA_of (k := 1) ((x2 _ _).get a2) rfl, gA_of (k := 2) ((x2 _ _).get a2) rfl]
    simp only [Option.bind_eq_bind, Option.bind_some]
    rw [C_init2n]
    rfl
  · refine netC_mk eq (fun j => if j < k then sq j else sq (j + 1)) (x2 _ _).1 (al_me _ _ _) ((x2 _ _).get b2) b3 ((x2 _ _).get c2) c3 ((x2 _ _).get d2) (fun k hk => ⟨(d3 k hk).1, (x2 _ _).get (d3 k hk).2.2⟩) (fs := va_cpy fs (va_cpy fs (fun _ => none) 0 0 k) (k + 1) k (sN N - 1 - k)) ?_ (fun j hj => ?_)
    · rw [nAll_s hk, al_ne (by rw [al_n]; omega)]; exact al_me _ _ _
    · rw [nAll_s hk] at hj
      rw [nAll_sd, cpy_at, cpy_at]
      by_cases hh : j < k
      · rw [if_neg (by omega), if_pos (by omega), if_pos hh, show 0 + (j - 0) = j by omega]
        simp only [if_pos hh]
        exact ⟨(e3 j (by omega)).1, (x2 _ _).get (e3 j (by omega)).2.2⟩
      · rw [if_pos (by omega), if_neg hh, show k + 1 + (j - k) = j + 1 by omega]
        simp only [if_neg hh]
        exact ⟨(e3 (j + 1) (by omega)).1, (x2 _ _).get (e3 (j + 1) (by omega)).2.2⟩
end CM
