/-! THE CLASS's SAVED NETWORKS: the deque; what is kept when cells that no plan owns change -/
def kn (S T : St) : Prop := ∀ q e, S.1 q = some e → nk e = false → T.1 q = some e
theorem kn.tr {S T U : St} (h : kn S T) (h2 : kn T U) : kn S U := fun q e hq hn => h2 q e (h q e hq hn) hn
theorem kn.rf {S : St} : kn S S := fun _ _ h _ => h
section KN
variable {S T : St} {b x p D P E A Q L B W M u C Hh a j : Nat} {pts : List (Nat × Fq)} {N : Net} {w : Nat → Int} {v3 v4 v5 v6 : Option Nat} {mem : Nat → Prop} {f0 : Nat} {f : Nat → Int32} {h : Nat → Int64}
theorem netC.kn (h : netC b S a N w) (k : kn S T) : netC b T a N w := by
  obtain ⟨wa, ta, ea, sa, fw, ft, fe, fs, eq, sq, ⟨a1, a2⟩, ⟨b1, b2, b3⟩, ⟨c1, c2, c3⟩, ⟨d1, d2, d3⟩, e1, e2, e3⟩ := h
  exact ⟨wa, ta, ea, sa, fw, ft, fe, fs, eq, sq, ⟨a1, k _ _ a2 rfl⟩, ⟨b1, k _ _ b2 rfl, b3⟩, ⟨c1, k _ _ c2 rfl, c3⟩, ⟨d1, k _ _ d2 rfl, fun i hi => ⟨(d3 i hi).1, (d3 i hi).2.1, k _ _ (d3 i hi).2.2 rfl⟩⟩, e1, k _ _ e2 rfl, fun i hi => ⟨(e3 i hi).1, (e3 i hi).2.1, k _ _ (e3 i hi).2.2 rfl⟩⟩
theorem netC.up {b' : Nat} (h : netC b S a N w) (hb : b ≤ b') : netC b' S a N w := h.mono hb (fun _ _ _ _ he => he)
theorem planB.kn (h : planB b S p x D N w v3 v4 v5 v6) (k : kn S T) : planB b T p x D N w v3 v4 v5 v6 := by
  obtain ⟨b1, b2, b3, ⟨f, f1, f2⟩, b4⟩ := h
  exact ⟨b1, k _ _ b2 rfl, b3, ⟨f, k _ _ f1 rfl, f2⟩, b4.kn k⟩
theorem ptC.kn (h : ptC b S P E A Q L pts f0) (k : kn S T) : ptC b T P E A Q L pts f0 := by
  obtain ⟨h1, h2, h3, h4, h5, h6, fe, fa, fq, h7, h8, h9, h10⟩ := h
  exact ⟨h1, k _ _ h2 rfl, h3, h4, h5, h6, fe, fa, fq, k _ _ h7 rfl, k _ _ h8 rfl, k _ _ h9 rfl, h10⟩
theorem bsC.kn (h : bsC b S B W M u mem) (k : kn S T) : bsC b T B W M u mem := by
  obtain ⟨h1, h3, h4, ⟨f, g, f1, f2⟩, h7⟩ := h
  exact ⟨h1, k _ _ h3 rfl, h4, ⟨f, g, k _ _ f1 rfl, f2⟩, h7⟩
theorem plP.kn (hp : plP b S p x D P E A Q L pts B W M u N w v5 v6 mem) (k : kn S T) (hw : wfS T) : plP b T p x D P E A Q L pts B W M u N w v5 v6 mem :=
  ⟨hw, hp.2.1.kn k, hp.2.2.1.kn k, hp.2.2.2.1.kn k, hp.2.2.2.2⟩
theorem plC.kn (hp : plC b S p x D P E A Q L pts B W M u C Hh N w f h) (k : kn S T) (hw : wfS T) : plC b T p x D P E A Q L pts B W M u C Hh N w f h :=
  ⟨hp.1.kn k hw, hp.2.1, hp.2.2.1, k _ _ hp.2.2.2.1 rfl, k _ _ hp.2.2.2.2.1 rfl, hp.2.2.2.2.2⟩
theorem plS.kn (hp : plS j b S p x N w) (k : kn S T) (hw : wfS T) (hs : S.2.1 ≤ T.2.1) : plS j b T p x N w := by
  obtain ⟨-, h2, h3⟩ := hp
  refine ⟨hw, by omega, ?_⟩
  rcases h3 with ⟨e, D, h3⟩ | ⟨e, D, P, E, A, Q, L, pts, B, W, M, u, h3⟩ | ⟨e, D, P, E, A, Q, L, pts, B, W, M, u, C, Hh, f, h, h3⟩
  · exact Or.inl ⟨e, D, h3.kn k⟩
  · exact Or.inr (Or.inl ⟨e, D, P, E, A, Q, L, pts, B, W, M, u, h3.kn k hw⟩)
  · exact Or.inr (Or.inr ⟨e, D, P, E, A, Q, L, pts, B, W, M, u, C, Hh, f, h, h3.kn k hw⟩)
theorem plS.net (hp : plS j b S p x N w) : netC b S x N w := by
  obtain ⟨D, _, _, _, _, h⟩ := hp.pl
  exact h.2.2.2.2
end KN
/-- the deque -/
def nt0 : Net := ([], [], [])
def dqC (b : Nat) (S : St) (x : Nat) (P : List Net) : Prop := ∃ (ar h : Nat) (f : Nat → Option Nat) (as : Nat → Nat), S.1 x = some (cO 11 [.ref ar, .int (i32 h), .int (i32 ((h + P.length) % 17 : Nat))]) ∧ S.1 ar = some (cQ 6 17 f) ∧ (h < 17 ∧ P.length ≤ 6) ∧ ∀ i, i < P.length → f ((h + i) % 17) = some (as i) ∧ netC b S (as i) (P.getD i nt0) (wN (P.getD i nt0))
/-- all but the deque's own -/
def dk (c : Cel) : Prop := match c with
  | .inl (k, _) => k ≠ 6
  | .inr (ci, _) => ci ≠ 11
theorem dk_of {e : Cel} (h : nk e = false) : dk e := by
  match e, h with
  | .inl (k, q), h =>
    intro z
    have z' : k = 6 := z
    subst z'
    cases h
  | .inr (ci, q), h =>
    intro z
    have z' : ci = 11 := z
    subst z'
    cases h
section DQ
variable {S T : St} {b x y : Nat} {P : List Net} {F : Nat} {N : Net}
theorem dqC.ke (h : dqC b S x P) (k : ∀ q e, S.1 q = some e → ¬ dk e → T.1 q = some e) (k2 : ∀ a N, netC b S a N (wN N) → netC b T a N (wN N)) : dqC b T x P := by
  obtain ⟨ar, h0, f, as, a, c, d, e⟩ := h
  exact ⟨ar, h0, f, as, k _ _ a (fun z => z rfl), k _ _ c (fun z => z rfl), d, fun i hi => ⟨(e i hi).1, k2 _ _ (e i hi).2⟩⟩
theorem dqC.up {b' : Nat} (h : dqC b S x P) (hb : b ≤ b') : dqC b' S x P := by
  obtain ⟨ar, h0, f, as, a, c, d, e⟩ := h
  exact ⟨ar, h0, f, as, a, c, d, fun i hi => ⟨(e i hi).1, (e i hi).2.up hb⟩⟩
theorem C_dsize (h : dqC b S x P) : C_J2_size S x = some (i32 P.length) := by
  obtain ⟨ar, h0, f, as, a, c, ⟨d1, d2⟩, e⟩ := h
  apply Rt.eq
  unfold C_J2_size C_J2_sub
  rw [gO_of a, gI_of (k := 2) a rfl, gI_of (k := 1) a rfl, gA_of (k := 0) a rfl]
  refine Rt.let (Rt.let (Rt.let (Rt.let ?_)))
  rw [aN_of c]
  refine Rt.let ?_
  show Rt (((some (i32 ((h0 + P.length) % 17 : Nat) - i32 (h0 : Int))) >>= fun y1 => if 0 ≤ y1 then some y1 else (some (y1 + i32 17)) >>= fun y2 => some y2) >>= fun r => some r) _
  rw [i_sub]
  by_cases hh : h0 + P.length < 17
  · rw [show (((h0 + P.length) % 17 : Nat) : Int) - h0 = P.length by omega]
    show Rt ((if (0 : Int32) ≤ i32 (P.length : Int) then some (i32 (P.length : Int)) else _) >>= fun r => some r) _
    rw [if_pos (by rw [i_c0, i_le (by omega) (by omega) (by omega) (by omega)]; omega)]
    exact Rt.let (Rt.some rfl)
  · rw [show (((h0 + P.length) % 17 : Nat) : Int) - h0 = (P.length : Int) - 17 by omega]
    show Rt ((if (0 : Int32) ≤ i32 ((P.length : Int) - 17) then _ else (some (i32 ((P.length : Int) - 17) + i32 17)) >>= fun y2 => some y2) >>= fun r => some r) _
    rw [if_neg (by rw [i_c0, i_le (by omega) (by omega) (by omega) (by omega)]; omega), i_add]
    exact Rt.let (Rt.some (by congr 1; omega))
theorem C_isEmpty (h : dqC b S x P) : C_J2_isEmpty S x = some (i32 (tr01 (P = []))) := by
  obtain ⟨ar, h0, f, as, a, c, ⟨d1, d2⟩, e⟩ := h
  apply Rt.eq
  unfold C_J2_isEmpty
  rw [gO_of a, gI_of (k := 2) a rfl, gI_of (k := 1) a rfl]
  refine Rt.let (Rt.let (Rt.let (Rt.ite (fun z => Rt.some (tr_1 ?_)) (fun z => Rt.some (tr_0 ?_)))))
  · rw [i_eq (by omega) (by omega) (by omega) (by omega)] at z
    exact List.length_eq_zero_iff.mp (by omega)
  · rw [i_eq (by omega) (by omega) (by omega) (by omega)] at z
    rintro rfl
    exact z (by show (h0 : Int) = ((h0 + 0) % 17 : Nat); omega)
theorem aN17 {U : St} {ar : Nat} {f : Nat → Option Nat} (h : U.1 ar = some (cQ 6 17 f)) : aN U 6 ar = some (i32 17) := aN_of h
theorem C_inc {a : Nat} (h : a < 17) : C_J2_inc (i32 a) (i32 17) = some (i32 ((a + 1) % 17 : Nat)) := by
  unfold C_J2_inc
  rw [i_c1, i_add]
  show (if i32 ((a : Int) + 1) < i32 17 then _ else _) = _
  by_cases h1 : a + 1 < 17
  · rw [if_pos (by rw [i_lt (by omega) (by omega) (by omega) (by omega)]; omega)]
    congr 2; omega
  · rw [if_neg (by rw [i_lt (by omega) (by omega) (by omega) (by omega)]; omega), show (a + 1) % 17 = 0 by omega]
    rfl
/-- two cells of the deque change -/
theorem dq_puts {ar : Nat} {f : Nat → Option Nat} {fs : List Value} {e e' : Cel} (hw : wfS S) (a : S.1 x = some (cO 11 fs)) (c : S.1 ar = some (cQ 6 17 f)) : wfS (put (put S ar e) x e') ∧ (∀ q g, S.1 q = some g → dk g → (put (put S ar e) x e').1 q = some g) ∧ x ≠ ar := by
  have xa : x ≠ ar := by
    rintro rfl
    rw [a] at c; cases c
  refine ⟨(hw.put c).put (by rw [put_ne xa]; exact a), fun q g hq hk => ?_, xa⟩
  have n1 : q ≠ x := by
    rintro rfl
    rw [a] at hq; cases hq; exact hk rfl
  have n2 : q ≠ ar := by
    rintro rfl
    rw [c] at hq; cases hq; exact hk rfl
  rw [put_ne n1, put_ne n2]; exact hq
theorem C_dfirst (hw : wfS S) (h : dqC b S x P) (hP : P ≠ []) : ∃ q T, C_J2_removeFirst S x = some (q, T) ∧ wfS T ∧ T.2 = S.2 ∧ (∀ q e, S.1 q = some e → dk e → T.1 q = some e) ∧ dqC b T x (P.drop 1) := by
  obtain ⟨ar, h0, f, as, a, c, ⟨d1, d2⟩, e⟩ := h
  have hl : 0 < P.length := List.length_pos_iff.mpr hP
  obtain ⟨w1, w2, w3⟩ := dq_puts (e := cQ 6 17 (va_up f h0 none)) (e' := cO 11 [.ref ar, .int (i32 ((h0 + 1) % 17 : Nat)), .int (i32 ((h0 + P.length) % 17 : Nat))]) hw a c
  have f0 : f h0 = some (as 0) := by have := (e 0 hl).1; rwa [show (h0 + 0) % 17 = h0 by omega] at this
  have cx : (put S ar (cQ 6 17 (va_up f h0 none))).1 x = some (cO 11 [.ref ar, .int (i32 h0), .int (i32 ((h0 + P.length) % 17 : Nat))]) := by rw [put_ne w3]; exact a
  refine ⟨as 0, _, ?_, w1, rfl, w2, ar, (h0 + 1) % 17, va_up f h0 none, fun i => as (i + 1), ?_, ?_, ⟨by omega, by rw [List.length_drop]; omega⟩, fun i hi => ?_⟩
  · unfold C_J2_removeFirst C_J2_pollFirst C_J2_elementAt
    rw [gO_of a, gA_of (k := 0) a rfl, gI_of (k := 1) a rfl]
    simp only [Option.bind_eq_bind, Option.bind_some]
    rw [lQ_of c (by omega) (by omega) (by omega), Int.toNat_natCast, f0]
    simp only [Option.bind_eq_bind, Option.bind_some]
    rw [if_neg (by simp), tQ_of c (by omega) (by omega) (by omega), Int.toNat_natCast]
    simp only [Option.bind_eq_bind, Option.bind_some]
    rw [aN17 (put_me _ _ _)]
    simp only [Option.bind_eq_bind, Option.bind_some]
    have ei := C_inc d1
    rw [ei]
    simp only [Option.bind_eq_bind, Option.bind_some]
    have p1 : gP (put S ar (cQ 6 17 (va_up f h0 none))) 11 x 1 (.int (i32 ((h0 + 1) % 17 : Nat))) = some (put (put S ar (cQ 6 17 (va_up f h0 none))) x (cO 11 [.ref ar, .int (i32 ((h0 + 1) % 17 : Nat)), .int (i32 ((h0 + P.length) % 17 : Nat))])) := gP_of cx (by simp)
    rw [p1]
    simp only [Option.bind_eq_bind, Option.bind_some]
    rw [if_neg (by simp)]
  · rw [put_me, List.length_drop]
    rw [show ((h0 + 1) % 17 + (P.length - 1)) % 17 = (h0 + P.length) % 17 by omega]
  · rw [put_ne (Ne.symm w3)]; exact put_me _ _ _
  · rw [List.length_drop] at hi
    have ei := e (i + 1) (by omega)
    have eg : (P.drop 1).getD i nt0 = P.getD (i + 1) nt0 := by
      rw [List.getD_eq_getElem?_getD, List.getD_eq_getElem?_getD, List.getElem?_drop, Nat.add_comm]
    rw [eg, vup_at, if_neg (by omega), show ((h0 + 1) % 17 + i) % 17 = (h0 + (i + 1)) % 17 by omega]
    exact ⟨ei.1, ei.2.kn (fun q g hg hn => w2 q g hg (dk_of hn))⟩
theorem C_dadd {fs : List Value} (hw : wfS S) (h : dqC b S x P) (hP : P.length < 6) (hy : netC b S y N (wN N)) : ∃ T, C_J2_addLast F S x y = some T ∧ wfS T ∧ T.2 = S.2 ∧ (∀ q e, S.1 q = some e → dk e → T.1 q = some e) ∧ dqC b T x (P ++ [N]) := by
  obtain ⟨ar, h0, f, as, a, c, ⟨d1, d2⟩, e⟩ := h
  obtain ⟨w1, w2, w3⟩ := dq_puts (e := cQ 6 17 (va_up f ((h0 + P.length) % 17) (some y))) (e' := cO 11 [.ref ar, .int (i32 h0), .int (i32 (((h0 + P.length) % 17 + 1) % 17 : Nat))]) hw a c
  have cx : (put S ar (cQ 6 17 (va_up f ((h0 + P.length) % 17) (some y)))).1 x = some (cO 11 [.ref ar, .int (i32 h0), .int (i32 ((h0 + P.length) % 17 : Nat))]) := by rw [put_ne w3]; exact a
  refine ⟨_, ?_, w1, rfl, w2, ar, h0, va_up f ((h0 + P.length) % 17) (some y), fun i => if i < P.length then as i else y, ?_, ?_, ⟨d1, by rw [List.length_append]; show P.length + 1 ≤ 6; omega⟩, fun i hi => ?_⟩
  · obtain ⟨wa, ta, ea, sa, fw, ft, fe, fs, eq, sq, ⟨a1, a2⟩, -⟩ := hy
    unfold C_J2_addLast
    rw [gO_of a, gA_of (k := 0) a rfl, gI_of (k := 2) a rfl]
    simp only [Option.bind_eq_bind, Option.bind_some]
    rw [tA_of a2 c (by omega) (by omega) (by omega), Int.toNat_natCast]
    simp only [Option.bind_eq_bind, Option.bind_some]
    rw [gI_of (k := 1) cx rfl, gI_of (k := 2) cx rfl]
    simp only [Option.bind_eq_bind, Option.bind_some]
    rw [aN17 (put_me _ _ _)]
    simp only [Option.bind_eq_bind, Option.bind_some]
    have ei := C_inc (show (h0 + P.length) % 17 < 17 by omega)
    rw [ei]
    simp only [Option.bind_eq_bind, Option.bind_some]
    have p1 : gP (put S ar (cQ 6 17 (va_up f ((h0 + P.length) % 17) (some y)))) 11 x 2 (.int (i32 (((h0 + P.length) % 17 + 1) % 17 : Nat))) = some (put (put S ar (cQ 6 17 (va_up f ((h0 + P.length) % 17) (some y)))) x (cO 11 [.ref ar, .int (i32 h0), .int (i32 (((h0 + P.length) % 17 + 1) % 17 : Nat))])) := gP_of cx (by simp)
    rw [p1]
    simp only [Option.bind_eq_bind, Option.bind_some]
    rw [if_neg (by rw [i_eq (by omega) (by omega) (by omega) (by omega)]; omega)]
  · rw [put_me, List.length_append]
    show some (cO 11 [.ref ar, .int (i32 h0), .int (i32 (((h0 + P.length) % 17 + 1) % 17 : Nat))]) = some (cO 11 [.ref ar, .int (i32 h0), .int (i32 ((h0 + (P.length + 1)) % 17 : Nat))])
    rw [show ((h0 + P.length) % 17 + 1) % 17 = (h0 + (P.length + 1)) % 17 by omega]
  · rw [put_ne (Ne.symm w3)]; exact put_me _ _ _
  · rw [List.length_append] at hi
    have hi' : i < P.length + 1 := hi
    rw [vup_at, getD_app]
    dsimp only
    by_cases q : i < P.length
    · rw [if_neg (by omega), if_pos q, if_pos q]
      exact ⟨(e i q).1, (e i q).2.kn (fun q g hg hn => w2 q g hg (dk_of hn))⟩
    · obtain rfl : i = P.length := by omega
      rw [if_pos rfl, if_neg q, if_neg q, if_pos rfl]
      exact ⟨rfl, hy.kn (fun q g hg hn => w2 q g hg (dk_of hn))⟩
theorem C_dec {a : Nat} (h : a < 17) : C_J2_dec (i32 a) (i32 17) = some (i32 ((a + 16) % 17 : Nat)) := by
  unfold C_J2_dec
  rw [show (-1 : Int32) = i32 (-1) from rfl, i_add, i_c0]
  show (if i32 0 ≤ i32 ((a : Int) + -1) then some (i32 ((a : Int) + -1)) else (some (i32 17 - 1)) >>= fun y2 => some y2) = _
  by_cases h1 : 0 < a
  · rw [if_pos (by rw [i_le (by omega) (by omega) (by omega) (by omega)]; omega)]
    congr 2; omega
  · rw [if_neg (by rw [i_le (by omega) (by omega) (by omega) (by omega)]; omega)]
    obtain rfl : a = 0 := by omega
    rfl
theorem C_dlast (hw : wfS S) (h : dqC b S x P) (hP : P ≠ []) : ∃ q T, C_J2_removeLast S x = some (q, T) ∧ wfS T ∧ T.2 = S.2 ∧ (∀ q e, S.1 q = some e → dk e → T.1 q = some e) ∧ dqC b T x P.dropLast ∧ netC b T q (P.getD (P.length - 1) nt0) (wN (P.getD (P.length - 1) nt0)) := by
  obtain ⟨ar, h0, f, as, a, c, ⟨d1, d2⟩, e⟩ := h
  have hl : 0 < P.length := List.length_pos_iff.mpr hP
  obtain ⟨e1, e2⟩ := e (P.length - 1) (by omega)
  have xa : ar ≠ x := by
    rintro rfl
    rw [a] at c; cases c
  have em : ((h0 + P.length) % 17 + 16) % 17 = (h0 + (P.length - 1)) % 17 := by omega
  have kl : (h0 + (P.length - 1)) % 17 < 17 := by omega
  have kd : ∀ i, i < P.length - 1 → ¬ (h0 + i) % 17 = (h0 + (P.length - 1)) % 17 := fun i hi => by omega
  have ei := C_dec (show (h0 + P.length) % 17 < 17 by omega)
  rw [em] at ei
  have elen : (h0 + P.dropLast.length) % 17 = (h0 + (P.length - 1)) % 17 := by rw [List.length_dropLast]
  generalize (h0 + (P.length - 1)) % 17 = k at *
  generalize (h0 + P.length) % 17 = k2 at *
  have p1 : gP S 11 x 2 (.int (i32 k)) = some (put S x (cO 11 [.ref ar, .int (i32 h0), .int (i32 k)])) := gP_of a (by simp)
  have ca : (put S x (cO 11 [.ref ar, .int (i32 h0), .int (i32 k)])).1 ar = some (cQ 6 17 f) := by rw [put_ne xa]; exact c
  have w2 : ∀ q g, S.1 q = some g → dk g → (put (put S x (cO 11 [.ref ar, .int (i32 h0), .int (i32 k)])) ar (cQ 6 17 (va_up f k none))).1 q = some g := by
    intro q g hq hk
    have n1 : q ≠ x := by
      rintro rfl
      rw [a] at hq; cases hq; exact hk rfl
    have n2 : q ≠ ar := by
      rintro rfl
      rw [c] at hq; cases hq; exact hk rfl
    rw [put_ne n2, put_ne n1]; exact hq
  refine ⟨as (P.length - 1), _, ?_, (hw.put a).put ca, rfl, w2, ⟨ar, h0, va_up f k none, as, ?_, put_me _ _ _, ⟨d1, by rw [List.length_dropLast]; omega⟩, fun i hi => ?_⟩, e2.kn (fun q g hg hn => w2 q g hg (dk_of hn))⟩
  · apply Rt.eq
    have pl : C_J2_pollLast S x = some (some (as (P.length - 1)), put (put S x (cO 11 [.ref ar, .int (i32 h0), .int (i32 k)])) ar (cQ 6 17 (va_up f k none))) := by
      apply Rt.eq
      unfold C_J2_pollLast C_J2_elementAt
      rw [gO_of a, gA_of (k := 0) a rfl, gI_of (k := 2) a rfl]
      refine Rt.let (Rt.let (Rt.let ?_))
      rw [aN17 c]
      refine Rt.let ?_
      rw [ei]
      refine Rt.let ?_
      rw [lQ_of c (by omega) (by omega) (by omega), Int.toNat_natCast, e1]
      refine Rt.let (Rt.ite (fun z => by cases z) (fun _ => ?_))
      rw [p1]
      refine Rt.let ?_
      rw [tQ_of ca (by omega) (by omega) (by omega), Int.toNat_natCast]
      exact Rt.let (Rt.some rfl)
    unfold C_J2_removeLast
    rw [gO_of a, pl]
    exact Rt.let (Rt.let (Rt.let (Rt.ite (fun z => by cases z) (fun _ => Rt.let (Rt.some rfl)))))
  · rw [put_ne (Ne.symm xa), put_me, elen]
  · rw [List.length_dropLast] at hi
    have eg : P.dropLast.getD i nt0 = P.getD i nt0 := by
      rw [List.getD_eq_getElem?_getD, List.getD_eq_getElem?_getD, List.getElem?_dropLast, if_pos hi]
    rw [eg, vup_at, if_neg (kd i hi)]
    exact ⟨(e i (by omega)).1, (e i (by omega)).2.kn (fun q g hg hn => w2 q g hg (dk_of hn))⟩
theorem C_newDeq (hw : wfS S) (a : S.1 x = some (cO 11 df_11)) : ∃ T, C_J2_init S x = some T ∧ wfS T ∧ T.2 = (S.2.1 + 1, S.2.2.1 + 1, S.2.2.2 + 17) ∧ (∀ q e, S.1 q = some e → q ≠ x → T.1 q = some e) ∧ dqC b T x [] := by
  have xs : x ≠ S.2.1 := by have := hw.lt a; omega
  have eX : (al S (cQ 6 17 (fun _ => none)) 17).1 x = some (cO 11 df_11) := by rw [al_ne xs]; exact a
  have p1 : gP (al S (cQ 6 17 (fun _ => none)) 17) 11 x 0 (.ref S.2.1) = some (put (al S (cQ 6 17 (fun _ => none)) 17) x (cO 11 [.ref S.2.1, .int 0, .int 0])) := gP_of eX (by decide)
  refine ⟨put (al S (cQ 6 17 (fun _ => none)) 17) x (cO 11 [.ref S.2.1, .int 0, .int 0]), ?_, hw.al.put eX, rfl, fun q e hq hne => ?_, S.2.1, 0, fun _ => none, fun _ => 0, put_me _ _ _, ?_, ⟨by omega, by simp⟩, fun i hi => by simp at hi⟩
  · unfold C_J2_init C_J1_init
    have mk : nQ_ S 6 17 = some (S.2.1, al S (cQ 6 17 (fun _ => none)) 17) := mkQ (n := 17) (by decide) (by decide)
    rw [mk]
    simp only [Option.bind_eq_bind, Option.bind_some]
    rw [p1]
    rfl
  · rw [put_ne hne, al_ne (by have := hw.lt hq; omega)]; exact hq
  · rw [put_ne (Ne.symm xs)]; exact al_me _ _ _
end DQ
