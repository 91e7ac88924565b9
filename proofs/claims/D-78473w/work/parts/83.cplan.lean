/-! THE CLASS MAKES A PLAN: its distances -/
def dtab (n : Nat) (f : Nat → Int32) (M : Mx) : Prop := ∀ i j, i < n → j < n → f (n * i + j) = i32 (M i j)
theorem div_idx {n i j : Nat} (hj : j < n) : (n * i + j) / n = i ∧ (n * i + j) % n = j := by
  have hn : 0 < n := by omega
  rw [Nat.mul_add_div hn, Nat.div_eq_of_lt hj, Nat.mul_add_mod, Nat.mod_eq_of_lt hj]
  exact ⟨rfl, rfl⟩
theorem dtab_upd {n : Nat} {f : Nat → Int32} {M : Mx} {a c : Nat} {v : Int} (h : dtab n f M) (hc : c < n) : dtab n (upd f (n * a + c) (i32 v)) (fun i j => if i = a ∧ j = c then v else M i j) := by
  intro i j hi hj
  rw [upd_at]
  show _ = i32 (if i = a ∧ j = c then v else M i j)
  by_cases e : i = a ∧ j = c
  · rw [if_pos e, if_pos (by rw [e.1, e.2])]
  · rw [if_neg e, if_neg]
    · exact h i j hi hj
    · intro z
      have h1 := div_idx (i := i) hj
      have h2 := div_idx (i := a) hc
      rw [z] at h1
      exact e ⟨by omega, by omega⟩
theorem md {n k : Nat} : (k : Int) - (k : Int) / (n : Int) * (n : Int) = ((k % n : Nat) : Int) := by
  rw [show ((k % n : Nat) : Int) = (k : Int) % (n : Int) from rfl, Int.emod_def, Int.mul_comm]
section CP
variable {S T : St} {b x p : Nat} {N : Net} {w : Nat → Int} {F : Nat}
/-- the plan while its table is laid -/
def plI (S U : St) (p x : Nat) (N : Net) (f : Nat → Int32) : Prop := U.2 = (S.2.1 + 1, S.2.2.1 + 1, S.2.2.2 + nN N * nN N) ∧ U.1 p = some (cO 3 [.ref x, .int (i32 (nN N)), .ref S.2.1, .null, .null, .null, .null]) ∧ U.1 S.2.1 = some (cI 0 (nN N * nN N) f) ∧ ∀ q, q ≠ p → q ≠ S.2.1 → U.1 q = S.1 q
theorem C_newPlan (hN : okN N) (hw : wfS S) (hp : S.1 p = some (cO 3 df_3)) (h : netC b S x N w) (hb : b ≤ S.2.1) (hF : 4294967296 < F) : Rt (C_X3_init F S p x) (fun T => fr b p 1 64 S T ∧ T.2.1 = S.2.1 + 1 ∧ planB b T p x S.2.1 N w none none none none) := by
  have hz := hN.sz
  have z1 := hz.1
  have z2 := hz.2.1
  have n1 := hN.1
  have s64 := sq64 hz
  have hlt := hw.lt hp
  obtain ⟨wa, ta, ea, sa, fw, ft, fe, fs, eq, sq, ⟨a1, a2⟩, ⟨b1, b2, b3⟩, ⟨c1, c2, c3⟩, ⟨d1, d2, d3⟩, e1, e2, e3⟩ := h
  have h : netC b S x N w := ⟨wa, ta, ea, sa, fw, ft, fe, fs, eq, sq, ⟨a1, a2⟩, ⟨b1, b2, b3⟩, ⟨c1, c2, c3⟩, ⟨d1, d2, d3⟩, e1, e2, e3⟩
  have npc : ∀ {q : Nat} {e : Cel}, S.1 q = some e → netK e → q ≠ p := by
    rintro q e hq hn rfl
    rw [hp] at hq; cases hq; exact hn rfl
  have ne3 : ∀ {q : Nat} {e : Cel}, S.1 q = some e → q ≠ S.2.1 := fun hq => by have := hw.lt hq; omega
  -- the head
  have p1 : gP S 3 p 0 (.ref x) = some (put S p (cO 3 [.ref x, .int 0, .null, .null, .null, .null, .null])) := gP_of hp (by decide)
  have sz : C_X2_size (put S p (cO 3 [.ref x, .int 0, .null, .null, .null, .null, .null])) x = some (i32 (nN N)) := by
    refine C_size hz (h.mono (Nat.le_refl _) (fun q e hq hn he => ?_))
    rw [put_ne (npc he hn)]; exact he
  have p2 : gP (put S p (cO 3 [.ref x, .int 0, .null, .null, .null, .null, .null])) 3 p 1 (.int (i32 (nN N))) = some (put S p (cO 3 [.ref x, .int (i32 (nN N)), .null, .null, .null, .null, .null])) := by
    rw [gP_of (put_me _ _ _) (by simp), put_put]; rfl
  have p3 : gI (put S p (cO 3 [.ref x, .int (i32 (nN N)), .null, .null, .null, .null, .null])) 3 p 1 = some (i32 (nN N)) := gI_of (put_me _ _ _) rfl
  have en : ((nN N : Int) * (nN N : Int)) = ((nN N * nN N : Nat) : Int) := by push_cast; rfl
  have p4 : nI_ (put S p (cO 3 [.ref x, .int (i32 (nN N)), .null, .null, .null, .null, .null])) 0 (i32 (nN N) * i32 (nN N)) = some (S.2.1, al (put S p (cO 3 [.ref x, .int (i32 (nN N)), .null, .null, .null, .null, .null])) (cI 0 (nN N * nN N) (fun _ => 0)) (nN N * nN N)) := by
    rw [i_mul, en, mkI (by omega) (by omega)]; rfl
  have p5 : gP (al (put S p (cO 3 [.ref x, .int (i32 (nN N)), .null, .null, .null, .null, .null])) (cI 0 (nN N * nN N) (fun _ => 0)) (nN N * nN N)) 3 p 2 (.ref S.2.1) = some (put (al (put S p (cO 3 [.ref x, .int (i32 (nN N)), .null, .null, .null, .null, .null])) (cI 0 (nN N * nN N) (fun _ => 0)) (nN N * nN N)) p (cO 3 [.ref x, .int (i32 (nN N)), .ref S.2.1, .null, .null, .null, .null])) := by
    refine gP_of (fs := [.ref x, .int (i32 (nN N)), .null, .null, .null, .null, .null]) ?_ (by simp)
    rw [al_at, if_neg (by show ¬ p = S.2.1; omega)]; exact put_me _ _ _
  unfold C_X3_init
  simp only [p1, sz, p2, p3, p4, p5, Option.bind_eq_bind, Option.bind_some]
  -- what is read of the state while the table is laid
  have gets : ∀ {U : St} {f : Nat → Int32}, plI S U p x N f → gA U 3 p 2 = some S.2.1 ∧ gI U 3 p 1 = some (i32 (nN N)) ∧ aN U 0 S.2.1 = some (i32 ((nN N * nN N : Nat) : Int)) ∧ gA U 2 x 2 = some ea ∧ aN U 3 ea = some (i32 (eN N)) ∧ (∃ fs, gO U 3 p = some fs) := by
    rintro U f ⟨u1, u2, u3, u5⟩
    have k1 : U.1 x = some (cO 2 [.ref wa, .ref ta, .ref ea, .ref sa]) := by rw [u5 x (npc a2 (show (2 : Nat) ≠ 3 by decide)) (ne3 a2)]; exact a2
    have k2 : U.1 ea = some (cQ 3 (eN N) fe) := by rw [u5 ea (npc d2 trivial) (ne3 d2)]; exact d2
    exact ⟨gA_of u2 rfl, gI_of u2 rfl, aN_of u3, gA_of k1 rfl, aN_of k2, _, gO_of u2⟩
  have geti : ∀ {U : St} {f : Nat → Int32} {v : Int32} {k : Nat}, plI S U p x N f → k < nN N * nN N → tI U 0 S.2.1 (i32 k) v = some (put U S.2.1 (cI 0 (nN N * nN N) (upd f k v))) := by
    intro U f v k hf hk
    rw [tI_of hf.2.2.1 (by omega) (by omega) (by omega), Int.toNat_natCast]
  have puts : ∀ {U : St} {f : Nat → Int32} {k : Nat} {v : Int32}, plI S U p x N f → plI S (put U S.2.1 (cI 0 (nN N * nN N) (upd f k v))) p x N (upd f k v) := by
    rintro U f k v ⟨u1, u2, -, u5⟩
    exact ⟨u1, by rw [put_ne (by omega)]; exact u2, put_me _ _ _, fun q h1 h2 => by rw [put_ne h2]; exact u5 q h1 h2⟩
  have dist : ∀ {U : St} {f : Nat → Int32} {M : Mx} {i j : Nat}, plI S U p x N f → dtab (nN N) f M → i < nN N → j < nN N → C_X3_distance U p (i32 i) (i32 j) = some (i32 (M i j)) := by
    intro U f M i j hU hM hi hj
    obtain ⟨g1, g2, g3, g4, g5, fs, g0⟩ := gets hU
    have e : (nN N : Int) * i + j = ((nN N * i + j : Nat) : Int) := by push_cast; rfl
    have il := idx_lt hi hj
    unfold C_X3_distance
    simp only [g0, g1, g2, Option.bind_eq_bind, Option.bind_some, i_add, i_sub, i_mul, i_neg]
    rw [e, lI_of hU.2.2.1 (by omega) (by omega) (by omega), Int.toNat_natCast, hM i j hi hj]
    rfl
  -- the end
  have fin : ∀ {U : St} {f : Nat → Int32}, plI S U p x N f → dtab (nN N) f (dN N) → Rt (some U) (fun T => fr b p 1 64 S T ∧ T.2.1 = S.2.1 + 1 ∧ planB b T p x S.2.1 N w none none none none) := by
    rintro U f ⟨u1, u2, u3, u5⟩ u4
    have hT : wfS U := by
      intro q hq
      rw [u1] at hq
      have hq' : S.2.1 + 1 ≤ q := hq
      rw [u5 q (by omega) (by omega)]; exact hw q (by omega)
    have old : ∀ q e, S.1 q = some e → q ≠ p → U.1 q = some e := fun q e hq hqp => by rw [u5 q hqp (ne3 hq)]; exact hq
    refine Rt.some ⟨⟨hT, by rw [u1]; exact Nat.le_succ _, by rw [u1]; exact Nat.le_refl _, by rw [u1]; simp only; omega, fun q e hq hqp _ => old q e hq hqp⟩, by rw [u1], Nat.le_refl _, u2, hb, ⟨f, u3, u4⟩, h.mono (Nat.le_refl _) (fun q e hq hn he => old q e he (npc he hn))⟩
  show Rt (C_X3_init_34 F p x F (i32 0) _) _
  -- first: 0 and FAR
  refine Rt.loop (ι := Nat) (fun k v U => v = i32 k ∧ k ≤ nN N * nN N ∧ ∃ f, plI S U p x N f ∧ ∀ j, j < k → f j = i32 (if j / nN N = j % nN N then 0 else 100000)) (fun k => nN N * nN N - k) ?_ F 0 _ _ ⟨rfl, by omega, fun _ => 0, ⟨rfl, put_me _ _ _, ?_, fun q h1 h2 => ?_⟩, fun k hk => by omega⟩ (by omega)
  rotate_left
  · rw [put_ne (by omega)]; exact al_me _ _ _
  · rw [put_ne h1, al_at, if_neg (by show ¬ q = S.2.1; exact h2), put_ne h1]
  rintro n k _ U ⟨rfl, hk, f, hU, hf⟩ ih
  obtain ⟨g1, g2, g3, g4, g5, -⟩ := gets hU
  unfold C_X3_init_34
  simp only [g1, g2, g3, Option.bind_eq_bind, Option.bind_some]
  simp (disch := omega) only [i_c0, i_c1, i_c2, i_c3, i_c4, i_c5, i_c6, i_c8, i_c9, i_c10, i_c12, i_c16, i_c17, i_c18, i_c31, i_c32, i_c45, i_c48, i_c50, i_c54, i_c55, i_c57, i_c58, i_c59, i_c61, i_c64, i_c73, i_c118, i_c119, i_c120, i_c126, i_c365, i_c1000, i_cFAR, i_le, i_lt, i_eq]
  refine Rt.ite (fun hh => ?_) (fun hh => ?_)
  rotate_left
  · rw [if_neg (by omega), if_neg (by omega)]
    have kd : k / nN N ≤ k := Nat.div_le_self _ _
    have km : k % nN N ≤ k := Nat.mod_le _ _
    rw [i_div (by omega) (by omega) (by omega) (by omega), i_mul, i_sub, md, show (k : Int) / (nN N : Int) = ((k / nN N : Nat) : Int) from rfl]
    have stp : ∀ v : Int, v = (if k / nN N = k % nN N then 0 else 100000) → Rt (C_X3_init_69 F (C_X3_init_34 F p x n) p x (i32 k) S.2.1 (i32 k) (i32 v) U) (fun T => fr b p 1 64 S T ∧ T.2.1 = S.2.1 + 1 ∧ planB b T p x S.2.1 N w none none none none) := by
      intro v hv
      unfold C_X3_init_69
      rw [geti hU (by omega)]
      simp only [Option.bind_eq_bind, Option.bind_some, i_c0, i_c1, i_c2, i_c3, i_c4, i_c5, i_c6, i_c8, i_c9, i_c10, i_c12, i_c16, i_c17, i_c18, i_c31, i_c32, i_c45, i_c48, i_c50, i_c54, i_c55, i_c57, i_c58, i_c59, i_c61, i_c64, i_c73, i_c118, i_c119, i_c120, i_c126, i_c365, i_c1000, i_cFAR, i_add, i_sub, i_mul, i_neg]
      refine ih (k + 1) _ _ ⟨rfl, by omega, _, puts hU, fun j hj => ?_⟩ (by omega)
      rw [upd_at]
      by_cases e : j = k
      · rw [if_pos e, hv, e]
      · rw [if_neg e]; exact hf j (by omega)
    generalize k / nN N = kq at *
    generalize k % nN N = kr at *
    refine Rt.ite (fun h2 => ?_) (fun h2 => ?_)
    · rw [i_eq (by omega) (by omega) (by omega) (by omega)] at h2
      exact stp 0 (by rw [if_pos (by omega)])
    · rw [i_eq (by omega) (by omega) (by omega) (by omega)] at h2
      exact stp 100000 (by rw [if_neg (by omega)])
  obtain rfl : k = nN N * nN N := by omega
  have hd0 : dtab (nN N) f dB := by
    intro i j hi hj
    rw [hf _ (idx_lt hi hj), (div_idx hj).1, (div_idx hj).2]
    rfl
  clear ih hf
  unfold C_X3_init_76
  show Rt (C_X3_init_78 F p x F (i32 0) U) _
  -- the edges
  refine Rt.loop (ι := Nat) (fun k v U => v = i32 k ∧ k ≤ eN N ∧ ∃ f, plI S U p x N f ∧ dtab (nN N) f ((N.2.1.take k).foldl dE dB)) (fun k => eN N - k) ?_ F 0 _ _ ⟨rfl, by omega, f, hU, hd0⟩ (by omega)
  rintro n k _ U ⟨rfl, hk, f, hU, hf⟩ ih
  obtain ⟨g1, g2, g3, g4, g5, -⟩ := gets hU
  unfold C_X3_init_78
  simp only [g4, g5, Option.bind_eq_bind, Option.bind_some]
  simp (disch := omega) only [i_le, i_lt, i_eq]
  refine Rt.ite (fun hh => ?_) (fun hh => ?_)
  rotate_left
  · have hk' : k < eN N := by omega
    obtain ⟨q1, q2, q3⟩ := d3 k hk'
    obtain ⟨o1, o2, o3, o4, o5⟩ := hN.2.2.2.2.1 k hk'
    have ek : ed N k = N.2.1[k]'hk' := getD_at hk'
    have kea : U.1 ea = some (cQ 3 (eN N) fe) := by rw [hU.2.2.2 ea (npc d2 trivial) (ne3 d2)]; exact d2
    have keq : U.1 (eq k) = some (cO 4 [.int (i32 (ed N k).1), .int (i32 (ed N k).2.1), .int (i32 (ed N k).2.2)]) := by rw [hU.2.2.2 _ (npc q3 (show (4 : Nat) ≠ 3 by decide)) (ne3 q3)]; exact q3
    rw [lA_of (q := eq k) kea (by omega) (by omega) (by omega) (by rw [Int.toNat_natCast]; exact q1)]
    simp only [Option.bind_eq_bind, Option.bind_some, g1, g2]
    rw [gI_of (k := 0) keq rfl, gI_of (k := 1) keq rfl, gI_of (k := 2) keq rfl]
    simp only [Option.bind_eq_bind, Option.bind_some]
    have i1 : (nN N : Int) * ((ed N k).1 : Int) + ((ed N k).2.1 : Int) = ((nN N * (ed N k).1 + (ed N k).2.1 : Nat) : Int) := by push_cast; rfl
    have i2 : (nN N : Int) * ((ed N k).2.1 : Int) + ((ed N k).1 : Int) = ((nN N * (ed N k).2.1 + (ed N k).1 : Nat) : Int) := by push_cast; rfl
    rw [i_mul, i_add, i1, geti hU (idx_lt o1 o2)]
    simp only [Option.bind_eq_bind, Option.bind_some]
    have t1 := dtab_upd (a := (ed N k).1) (v := (ed N k).2.2) hf o2
    have t2 := dtab_upd (a := (ed N k).2.1) (v := (ed N k).2.2) t1 o1
    have hU1 := puts (k := nN N * (ed N k).1 + (ed N k).2.1) (v := i32 (ed N k).2.2) hU
    obtain ⟨g1', g2', -⟩ := gets hU1
    have keq1 : (put U S.2.1 (cI 0 (nN N * nN N) (upd f (nN N * (ed N k).1 + (ed N k).2.1) (i32 (ed N k).2.2)))).1 (eq k) = some (cO 4 [.int (i32 (ed N k).1), .int (i32 (ed N k).2.1), .int (i32 (ed N k).2.2)]) := by rw [put_ne (ne3 q3)]; exact keq
    simp only [g1', g2', Option.bind_eq_bind, Option.bind_some]
    rw [gI_of (k := 1) keq1 rfl, gI_of (k := 0) keq1 rfl, gI_of (k := 2) keq1 rfl]
    simp only [Option.bind_eq_bind, Option.bind_some]
    rw [i_mul, i_add, i2, geti hU1 (idx_lt o2 o1)]
    simp only [Option.bind_eq_bind, Option.bind_some, i_c0, i_c1, i_c2, i_c3, i_c4, i_c5, i_c6, i_c8, i_c9, i_c10, i_c12, i_c16, i_c17, i_c18, i_c31, i_c32, i_c45, i_c48, i_c50, i_c54, i_c55, i_c57, i_c58, i_c59, i_c61, i_c64, i_c73, i_c118, i_c119, i_c120, i_c126, i_c365, i_c1000, i_cFAR, i_add, i_sub, i_mul, i_neg]
    refine ih (k + 1) _ _ ⟨rfl, by omega, _, puts hU1, fun i j hi hj => ?_⟩ (by omega)
    rw [t2 i j hi hj, List.take_succ_eq_append_getElem hk', List.foldl_append, ← ek]
    congr 1
    show _ = dE _ (ed N k) i j
    unfold dE
    dsimp only
    by_cases e : i = (ed N k).2.1 ∧ j = (ed N k).1
    · rw [if_pos e, if_pos (by omega)]
    · rw [if_neg e]
      by_cases e' : i = (ed N k).1 ∧ j = (ed N k).2.1
      · rw [if_pos e', if_pos (by omega)]
      · rw [if_neg e', if_neg (by omega)]
  obtain rfl : k = eN N := by omega
  rw [List.take_of_length_le (show N.2.1.length ≤ eN N from Nat.le_refl _)] at hf
  clear ih
  unfold C_X3_init_146
  show Rt (C_X3_init_148 F p F (i32 0) U) _
  -- the phases
  refine Rt.loop (ι := Nat) (fun v a U => a = i32 v ∧ v ≤ nN N ∧ ∃ f, plI S U p x N f ∧ dtab (nN N) f (fwN (d0 N.2.1) v)) (fun v => nN N - v) ?_ F 0 _ _ ⟨rfl, by omega, f, hU, hf⟩ (by omega)
  rintro n v _ U ⟨rfl, hv, f, hU, hf⟩ ih
  obtain ⟨g1, g2, g3, g4, g5, -⟩ := gets hU
  unfold C_X3_init_148
  simp only [g2, Option.bind_eq_bind, Option.bind_some]
  simp (disch := omega) only [i_le, i_lt, i_eq]
  refine Rt.ite (fun hh => ?_) (fun hh => ?_)
  · obtain rfl : v = nN N := by omega
    exact fin hU hf
  have hv' : v < nN N := by omega
  have hI := fwN_I8 (okN_d0 hN) (k := v) (by omega)
  show Rt (C_X3_init_158 F (C_X3_init_148 F p n) p (i32 v) F (i32 0) U) _
  refine Rt.loop (ι := Nat) (fun k a U => a = i32 k ∧ k ≤ nN N * nN N ∧ ∃ f, plI S U p x N f ∧ dtab (nN N) f (fwMid (fwN (d0 N.2.1) v) v (nN N) k)) (fun k => nN N * nN N - k) ?_ F 0 _ _ ⟨rfl, by omega, f, hU, fun i j hi hj => by rw [hf i j hi hj]; unfold fwMid; rw [if_neg (by omega)]⟩ (by omega)
  rintro n2 k _ V ⟨rfl, hk, g, hV, hg⟩ ih2
  obtain ⟨k1', k2', k3', k4', k5', -⟩ := gets hV
  unfold C_X3_init_158
  simp only [k1', k2', k3', Option.bind_eq_bind, Option.bind_some]
  simp (disch := omega) only [i_c0, i_c1, i_c2, i_c3, i_c4, i_c5, i_c6, i_c8, i_c9, i_c10, i_c12, i_c16, i_c17, i_c18, i_c31, i_c32, i_c45, i_c48, i_c50, i_c54, i_c55, i_c57, i_c58, i_c59, i_c61, i_c64, i_c73, i_c118, i_c119, i_c120, i_c126, i_c365, i_c1000, i_cFAR, i_le, i_lt, i_eq]
  refine Rt.ite (fun h2 => ?_) (fun h2 => ?_)
  · obtain rfl : k = nN N * nN N := by omega
    unfold C_X3_init_211
    simp only [Option.bind_eq_bind, Option.bind_some, i_c0, i_c1, i_c2, i_c3, i_c4, i_c5, i_c6, i_c8, i_c9, i_c10, i_c12, i_c16, i_c17, i_c18, i_c31, i_c32, i_c45, i_c48, i_c50, i_c54, i_c55, i_c57, i_c58, i_c59, i_c61, i_c64, i_c73, i_c118, i_c119, i_c120, i_c126, i_c365, i_c1000, i_cFAR, i_add, i_sub, i_mul, i_neg]
    refine ih (v + 1) _ _ ⟨rfl, by omega, g, hV, fun i j hi hj => ?_⟩ (by omega)
    rw [hg i j hi hj]
    unfold fwMid
    rw [if_pos (by have := idx_lt hi hj; rw [Nat.mul_comm i]; exact this)]
    rfl
  have hk' : k < nN N * nN N := by omega
  have hi : k / nN N < nN N := Nat.div_lt_of_lt_mul hk'
  have hj : k % nN N < nN N := Nat.mod_lt _ (by omega)
  have ek : nN N * (k / nN N) + k % nN N = k := Nat.div_add_mod k (nN N)
  have r1 := fwMid_row hI v (nN N) k (k / nN N)
  have r2 := fwMid_row hI v (nN N) k (k % nN N)
  have r3 : fwMid (fwN (d0 N.2.1) v) v (nN N) k (k / nN N) (k % nN N) = fwN (d0 N.2.1) v (k / nN N) (k % nN N) := by
    unfold fwMid; rw [if_neg (by rw [Nat.mul_comm, ek]; omega)]
  have b1' := hI.2.1 (k / nN N) v
  have b2' := hI.2.1 v (k % nN N)
  have b3' := hI.2.1 (k / nN N) (k % nN N)
  have c1' := hI.2.2.2 (k / nN N) v
  have c2' := hI.2.2.2 v (k % nN N)
  have c3' := hI.2.2.2 (k / nN N) (k % nN N)
  have gk : g k = i32 (fwN (d0 N.2.1) v (k / nN N) (k % nN N)) := by rw [← r3, ← hg _ _ hi hj, ek]
  rw [lI_of hV.2.2.1 (by omega) (by omega) (by omega), Int.toNat_natCast, gk]
  simp only [Option.bind_eq_bind, Option.bind_some]
  rw [if_neg (by omega)]
  rw [i_div (by omega) (by omega) (by omega) (by omega), show (k : Int) / (nN N : Int) = ((k / nN N : Nat) : Int) from rfl]
  rw [dist hV hg hi hv', r1.1]
  simp only [Option.bind_eq_bind, Option.bind_some]
  rw [if_neg (by omega)]
  have em : i32 ((k / nN N : Nat) : Int) * i32 (nN N) = i32 ((k : Int) / (nN N : Int) * (nN N : Int)) := by rw [i_mul]; rfl
  rw [em, i_sub, md, dist hV hg hv' hj, r2.2]
  simp only [Option.bind_eq_bind, Option.bind_some, i_add]
  have put1 : ∀ u : Int, u = fw1 (fwN (d0 N.2.1) v) v (k / nN N) (k % nN N) → Rt ((tI V 0 S.2.1 (i32 k) (i32 u)).bind fun S43 => C_X3_init_158 F (C_X3_init_148 F p n) p (i32 v) n2 (i32 (↑k + 1)) S43) (fun T => fr b p 1 64 S T ∧ T.2.1 = S.2.1 + 1 ∧ planB b T p x S.2.1 N w none none none none) := by
    intro u hu
    rw [geti hV hk']
    simp only [Option.bind_eq_bind, Option.bind_some]
    refine ih2 (k + 1) _ _ ⟨rfl, by omega, _, puts hV, fun i j hi' hj' => ?_⟩ (by omega)
    have di := div_idx (i := i) hj'
    rw [upd_at]
    by_cases e : nN N * i + j = k
    · rw [if_pos e, hu]
      unfold fwMid
      rw [if_pos (by rw [Nat.mul_comm i]; omega), ← e, di.1, di.2]
    · rw [if_neg e, hg i j hi' hj']
      unfold fwMid
      by_cases e2 : i * nN N + j < k
      · rw [if_pos e2, if_pos (by omega)]
      · rw [if_neg e2, if_neg (by rw [Nat.mul_comm i] at e2 ⊢; omega)]
  by_cases q : fwN (d0 N.2.1) v (k / nN N) v + fwN (d0 N.2.1) v v (k % nN N) < fwN (d0 N.2.1) v (k / nN N) (k % nN N)
  · rw [if_pos (by rw [i_lt (by omega) (by omega) (by omega) (by omega)]; exact q)]
    exact put1 _ (by unfold fw1; omega)
  · rw [if_neg (by rw [i_lt (by omega) (by omega) (by omega) (by omega)]; exact q)]
    exact put1 _ (by unfold fw1; omega)
end CP
