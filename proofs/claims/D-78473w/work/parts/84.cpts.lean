/-! POINTS: a fraction comes to its place -/
theorem tdiv_s {a g : Nat} {s : Int} (hs : s = 1 ∨ s = -1) : Int.tdiv (s * a) (s * g) = ((a / g : Nat) : Int) := by
  rcases hs with rfl | rfl
  · rw [Int.one_mul, Int.one_mul, Int.tdiv_eq_ediv_of_nonneg (by omega)]; rfl
  · rw [show (-1 : Int) * a = -a by omega, show (-1 : Int) * g = -g by omega, Int.tdiv_neg, Int.neg_tdiv, Int.neg_neg, Int.tdiv_eq_ediv_of_nonneg (by omega)]; rfl
/-- reduced, and small -/
def rdd (x : Fq) : Prop := okx x ∧ Int.gcd x.1 x.2 = 1
theorem rdd_eq {x y : Fq} (hx : rdd x) (hy : rdd y) (h : feq x y) : x = y := by
  have e0 := rdc_feq (part := 0) hx.1.2.2.1 hx.1.1 hy.1.2.2.1 hy.1.1 h
  have e1 := rdc_feq (part := 1) hx.1.2.2.1 hx.1.1 hy.1.2.2.1 hy.1.1 h
  unfold rdc at e0 e1
  rw [hx.2, hy.2] at e0 e1
  simp at e0 e1
  exact Prod.ext e0 e1
/-- the reduced form of a fraction -/
def redF (a c : Nat) : Fq := (((a / Nat.gcd a c : Nat) : Int), ((c / Nat.gcd a c : Nat) : Int))
theorem redF_feq {a c : Nat} : feq (redF a c) ((a : Int), (c : Int)) := by
  unfold feq redF
  simp only
  have h1 := Nat.div_mul_cancel (Nat.gcd_dvd_left a c)
  have h2 := Nat.div_mul_cancel (Nat.gcd_dvd_right a c)
  have : (a / Nat.gcd a c) * c = a * (c / Nat.gcd a c) := by
    conv => lhs; rhs; rw [← h2]
    conv => rhs; lhs; rw [← h1]
    rw [Nat.mul_assoc, Nat.mul_comm (c / Nat.gcd a c), ← Nat.mul_assoc]
  exact_mod_cast this
theorem redF_rdd {a c : Nat} (hc : 0 < c) (hc2 : c ≤ 1000) (ha : a ≤ 50000) : rdd (redF a c) := by
  have g1 : 0 < Nat.gcd a c := Nat.gcd_pos_of_pos_right a hc
  have d1 : a / Nat.gcd a c ≤ a := Nat.div_le_self _ _
  have d2 : c / Nat.gcd a c ≤ c := Nat.div_le_self _ _
  have d3 : 0 < c / Nat.gcd a c := Nat.div_pos (Nat.gcd_le_right a hc) g1
  refine ⟨⟨?_, ?_, ?_, ?_⟩, ?_⟩
  · show (0 : Int) < ((c / Nat.gcd a c : Nat) : Int); omega
  · show ((c / Nat.gcd a c : Nat) : Int) ≤ 1000; omega
  · exact Int.natCast_nonneg _
  · show ((a / Nat.gcd a c : Nat) : Int) ≤ 50000; omega
  · show Nat.gcd (a / Nat.gcd a c) (c / Nat.gcd a c) = 1
    rw [Nat.gcd_div (Nat.gcd_dvd_left a c) (Nat.gcd_dvd_right a c), Nat.div_self g1]
theorem getD_ins {α : Type} {l : List α} {v d : α} {a i : Nat} (ha : a ≤ l.length) : (l.take a ++ v :: l.drop a).getD i d = if i < a then l.getD i d else if i = a then v else l.getD (i - 1) d := by
  have la : (l.take a).length = a := by rw [List.length_take]; omega
  by_cases h : i < a
  · rw [if_pos h, getD_left (by omega), List.getD_eq_getElem?_getD, List.getD_eq_getElem?_getD, List.getElem?_take_of_lt h]
  · rw [if_neg h, List.getD_eq_getElem?_getD, List.getElem?_append_right (by omega), la]
    by_cases h2 : i = a
    · rw [if_pos h2, h2, Nat.sub_self]; rfl
    · rw [if_neg h2, List.getD_eq_getElem?_getD, show i - a = (i - 1 - a) + 1 by omega, List.getElem?_cons_succ, List.getElem?_drop]
      congr 2; omega
/-- the points' arrays -/
def ptC (b : Nat) (S : St) (P E A Q L : Nat) (pts : List (Nat × Fq)) (f0 : Nat) : Prop := b ≤ P ∧ S.1 P = some (cO 6 [.ref E, .ref A, .ref Q, .int (i32 pts.length), .int (i32 f0)]) ∧ (b ≤ E ∧ b ≤ A ∧ b ≤ Q) ∧ (E ≠ A ∧ A ≠ Q ∧ E ≠ Q) ∧ pts.length ≤ L ∧ (64 ≤ L ∧ L ≤ 64 + 2 * pts.length) ∧
  ∃ fe fa fq : Nat → Int32, S.1 E = some (cI 0 L fe) ∧ S.1 A = some (cI 0 L fa) ∧ S.1 Q = some (cI 0 L fq) ∧ ∀ k, k < pts.length → fe k = i32 (pts.getD k (0, 0, 1)).1 ∧ fa k = i32 (pts.getD k (0, 0, 1)).2.1 ∧ fq k = i32 (pts.getD k (0, 0, 1)).2.2
/-- what else is there stays; the arrays are the old ones or new -/
def ptK (S T : St) (P E A Q E' A' Q' : Nat) : Prop := (∀ q e, S.1 q = some e → q ≠ P → q ≠ E → q ≠ A → q ≠ Q → T.1 q = some e) ∧ (E' = E ∨ S.2.1 ≤ E') ∧ (A' = A ∨ S.2.1 ≤ A') ∧ (Q' = Q ∨ S.2.1 ≤ Q')
/-- the segment of the edge that is being laid -/
def sgOk (e f0 : Nat) (pts : List (Nat × Fq)) : Prop := f0 ≤ pts.length ∧ (∀ k, f0 ≤ k → k < pts.length → (pts.getD k (0, 0, 1)).1 = e ∧ rdd (pts.getD k (0, 0, 1)).2) ∧ ∀ j k, f0 ≤ j → j < k → k < pts.length → flt (pts.getD j (0, 0, 1)).2 (pts.getD k (0, 0, 1)).2
/-- x has come in -/
def ptI (e f0 : Nat) (x : Fq) (pts pts' : List (Nat × Fq)) : Prop := pts'.take f0 = pts.take f0 ∧ pts.length ≤ pts'.length ∧ pts'.length ≤ pts.length + 1 ∧ ∀ y : Fq, (∃ k, f0 ≤ k ∧ k < pts'.length ∧ (pts'.getD k (0, 0, 1)).2 = y) ↔ (∃ k, f0 ≤ k ∧ k < pts.length ∧ (pts.getD k (0, 0, 1)).2 = y) ∨ y = x
theorem ptI_ins {e f0 a : Nat} {x : Fq} {pts : List (Nat × Fq)} (h0 : f0 ≤ a) (ha : a ≤ pts.length) : ptI e f0 x pts (pts.take a ++ (e, x) :: pts.drop a) := by
  have len : (pts.take a ++ (e, x) :: pts.drop a).length = pts.length + 1 := by rw [List.length_append, List.length_cons, List.length_take, List.length_drop]; omega
  refine ⟨?_, by omega, by omega, fun y => ⟨?_, ?_⟩⟩
  · rw [List.take_append_of_le_length (by rw [List.length_take]; omega), List.take_take, Nat.min_eq_left h0]
  · rintro ⟨k, k1, k2, k3⟩
    rw [len] at k2
    rw [getD_ins ha] at k3
    by_cases h : k < a
    · rw [if_pos h] at k3; exact Or.inl ⟨k, k1, by omega, k3⟩
    · rw [if_neg h] at k3
      by_cases h2 : k = a
      · rw [if_pos h2] at k3; exact Or.inr k3.symm
      · rw [if_neg h2] at k3; exact Or.inl ⟨k - 1, by omega, by omega, k3⟩
  · rintro (⟨k, k1, k2, k3⟩ | rfl)
    · by_cases h : k < a
      · exact ⟨k, k1, by omega, by rw [getD_ins ha, if_pos h]; exact k3⟩
      · exact ⟨k + 1, by omega, by omega, by rw [getD_ins ha, if_neg (by omega), if_neg (by omega)]; exact k3⟩
    · exact ⟨a, h0, by omega, by rw [getD_ins ha, if_neg (by omega), if_pos rfl]⟩
theorem sgOk_ins {e f0 a : Nat} {x : Fq} {pts : List (Nat × Fq)} (h : sgOk e f0 pts) (h0 : f0 ≤ a) (ha : a ≤ pts.length) (hx : rdd x) (h1 : ∀ k, f0 ≤ k → k < a → flt (pts.getD k (0, 0, 1)).2 x) (h2 : ∀ k, a ≤ k → k < pts.length → flt x (pts.getD k (0, 0, 1)).2) : sgOk e f0 (pts.take a ++ (e, x) :: pts.drop a) := by
  have len : (pts.take a ++ (e, x) :: pts.drop a).length = pts.length + 1 := by rw [List.length_append, List.length_cons, List.length_take, List.length_drop]; omega
  obtain ⟨g1, g2, g3⟩ := h
  refine ⟨by omega, fun k k1 k2 => ?_, fun j k k1 k2 k3 => ?_⟩
  · rw [len] at k2
    rw [getD_ins ha]
    by_cases h : k < a
    · rw [if_pos h]; exact g2 k k1 (by omega)
    · rw [if_neg h]
      by_cases h2 : k = a
      · rw [if_pos h2]; exact ⟨rfl, hx⟩
      · rw [if_neg h2]; exact g2 (k - 1) (by omega) (by omega)
  · rw [len] at k3
    rw [getD_ins ha, getD_ins ha]
    by_cases h : k < a
    · rw [if_pos (by omega), if_pos h]; exact g3 j k k1 k2 (by omega)
    · rw [if_neg h]
      by_cases h' : k = a
      · rw [if_pos h', if_pos (by omega)]; exact h1 j k1 (by omega)
      · rw [if_neg h']
        by_cases hj : j < a
        · rw [if_pos hj]; exact g3 j (k - 1) k1 (by omega) (by omega)
        · rw [if_neg hj]
          by_cases hj' : j = a
          · rw [if_pos hj']; exact h2 (k - 1) (by omega) (by omega)
          · rw [if_neg hj']; exact g3 (j - 1) (k - 1) (by omega) (by omega) (by omega)
section CE
variable {S T : St} {b p P E A Q L : Nat} {pts : List (Nat × Fq)} {f0 : Nat} {F : Nat}
theorem C_longer {a L : Nat} {f : Nat → Int32} (h : S.1 a = some (cI 0 L f)) (hw : wfS S) (hL : L ≤ 65536) : C_X7_longer S a = some (S.2.1, al S (cI 0 (2 * L) (va_cpy f (fun _ => 0) 0 0 L)) (2 * L)) := by
  have hlt := hw.lt h
  have e : (2 : Int) * (L : Int) = ((2 * L : Nat) : Int) := by push_cast; rfl
  have x1 : ∀ c, (al S c (2 * L)).1 a = some (cI 0 L f) := fun c => by rw [al_ne (by omega)]; exact h
  unfold C_X7_longer
  rw [aN_of h]
  simp only [Option.bind_eq_bind, Option.bind_some, i_c2, i_mul]
  rw [e, mkI (by omega) (by omega)]
  simp only [Option.bind_eq_bind, Option.bind_some, Int.toNat_natCast]
  rw [aN_of (x1 _)]
  simp only [Option.bind_eq_bind, Option.bind_some]
  show ((cI_ _ 0 a S.2.1 (i32 0) (i32 0) (i32 L)).bind _) = _
  rw [cI_of (x1 _) (al_me _ _ _) (by omega) (by omega) (by omega) (by omega) (by omega) (by omega) (by omega)]
  simp only [Option.bind_eq_bind, Option.bind_some, put_al, Int.toNat_natCast]
  rfl
theorem C_enter {e a c : Nat} {s : Int} (hs : s = 1 ∨ s = -1) (hw : wfS S) (hp : ptC b S P E A Q L pts f0) (hg : sgOk e f0 pts) (hc : 0 < c) (hc2 : c ≤ 1000) (ha : a ≤ 50000) (he : e < 100) (hl : pts.length ≤ 3000) (hpP : p ≠ P) (hF : 4294967296 < F) :
    Rt (C_X7_enter F S P (i32 e) (j64 (s * a)) (j64 (s * c))) (fun T => ∃ E' A' Q' L' pts', ptC b T P E' A' Q' L' pts' f0 ∧ sgOk e f0 pts' ∧ ptI e f0 (redF a c) pts pts' ∧ L ≤ L' ∧ fr b p (L' - L) (6 * (L' - L)) S T ∧ ptK S T P E A Q E' A' Q') := by
  have g0 : 0 < Nat.gcd a c := Nat.gcd_pos_of_pos_right a hc
  have g1 : Nat.gcd a c ≤ c := Nat.gcd_le_right a hc
  have hx := redF_rdd hc hc2 ha
  generalize hxx : redF a c = x at hx
  have ex1 : ((a / Nat.gcd a c : Nat) : Int) = x.1 := by rw [← hxx]; rfl
  have ex2 : ((c / Nat.gcd a c : Nat) : Int) = x.2 := by rw [← hxx]; rfl
  obtain ⟨x1, x2, x3, x4⟩ := hx.1
  obtain ⟨p1, p2, ⟨p3, p4, p5⟩, ⟨p6, p7, p8⟩, p9, p10, fe, fa, fq, p11, p12, p13, p14⟩ := hp
  have hp : ptC b S P E A Q L pts f0 := ⟨p1, p2, ⟨p3, p4, p5⟩, ⟨p6, p7, p8⟩, p9, p10, fe, fa, fq, p11, p12, p13, p14⟩
  have gf0 : f0 ≤ pts.length := hg.1
  have pr : ∀ k, f0 ≤ k → k < pts.length → okx (pts.getD k (0, 0, 1)).2 := fun k h1 h2 => (hg.2.1 k h1 h2).2.1
  -- from a state whose arrays have room
  have tail : ∀ (U : St) (E' A' Q' L' k : Nat), ptC b U P E' A' Q' L' pts f0 → pts.length < L' → wfS U → L ≤ L' → L' ≤ 64 + 2 * (pts.length + 1) → fr b p (L' - L) (6 * (L' - L)) S U → ptK S U P E A Q E' A' Q' → f0 ≤ k → k ≤ pts.length → (∀ j, f0 ≤ j → j < k → flt (pts.getD j (0, 0, 1)).2 x) → (∀ j, k ≤ j → j < pts.length → flt x (pts.getD j (0, 0, 1)).2) →
      Rt (C_X7_enter_174 F P (i32 e) (i32 x.1) (i32 x.2) (i32 k) U) (fun T => ∃ E' A' Q' L' pts', ptC b T P E' A' Q' L' pts' f0 ∧ sgOk e f0 pts' ∧ ptI e f0 x pts pts' ∧ L ≤ L' ∧ fr b p (L' - L) (6 * (L' - L)) S T ∧ ptK S T P E A Q E' A' Q') := by
    rintro U E' A' Q' L' k ⟨q1, q2, ⟨q3, q4, q5⟩, ⟨q6, q7, q8⟩, q9, q10, ge, ga, gq, q11, q12, q13, q14⟩ hroom hwU hLL hL2 hfr hK h0 hk hlo hhi
    have nPE : P ≠ E' := by rintro rfl; rw [q2] at q11; cases q11
    have nPA : P ≠ A' := by rintro rfl; rw [q2] at q12; cases q12
    have nPQ : P ≠ Q' := by rintro rfl; rw [q2] at q13; cases q13
    unfold C_X7_enter_174
    rw [gI_of (k := 3) q2 rfl]
    simp only [Option.bind_eq_bind, Option.bind_some]
    refine Rt.loop (ι := Nat) (fun m v V => ∃ j : Nat, v = i32 j ∧ m = j ∧ k ≤ j ∧ j ≤ pts.length ∧ V.2 = U.2 ∧ (∃ fa', V.1 A' = some (cI 0 L' fa') ∧ ∀ i, fa' i = if j < i ∧ i ≤ pts.length then ga (i - 1) else ga i) ∧ (∃ fq', V.1 Q' = some (cI 0 L' fq') ∧ ∀ i, fq' i = if j < i ∧ i ≤ pts.length then gq (i - 1) else gq i) ∧ ∀ z, z ≠ A' → z ≠ Q' → V.1 z = U.1 z) (fun m => m) ?_ F pts.length _ _ ⟨pts.length, rfl, rfl, hk, Nat.le_refl _, rfl, ⟨ga, q12, fun i => by rw [if_neg (by omega)]⟩, ⟨gq, q13, fun i => by rw [if_neg (by omega)]⟩, fun _ _ _ => rfl⟩ (by omega)
    rintro n m _ V ⟨j, rfl, rfl, hkj, hjl, v1, ⟨fa', v2, v3⟩, ⟨fq', v4, v5⟩, v6⟩ ih
    have vP : V.1 P = some (cO 6 [.ref E', .ref A', .ref Q', .int (i32 pts.length), .int (i32 f0)]) := by rw [v6 P nPA nPQ]; exact q2
    unfold C_X7_enter_180
    simp (disch := omega) only [i_le, i_lt, i_eq]
    refine Rt.ite (fun hh => ?_) (fun hh => ?_)
    · obtain rfl : m = k := by omega
      unfold C_X7_enter_225
      have vE : V.1 E' = some (cI 0 L' ge) := by rw [v6 E' q6 q8]; exact q11
      rw [gA_of (k := 0) vP rfl, gI_of (k := 3) vP rfl]
      simp only [Option.bind_eq_bind, Option.bind_some]
      rw [tI_of vE (by omega) (by omega) (by omega), Int.toNat_natCast]
      simp only [Option.bind_eq_bind, Option.bind_some]
      have wP : (put V E' (cI 0 L' (upd ge pts.length (i32 e)))).1 P = some (cO 6 [.ref E', .ref A', .ref Q', .int (i32 pts.length), .int (i32 f0)]) := by rw [put_ne nPE]; exact vP
      have wA : (put V E' (cI 0 L' (upd ge pts.length (i32 e)))).1 A' = some (cI 0 L' fa') := by rw [put_ne (Ne.symm q6)]; exact v2
      rw [gA_of (k := 1) wP rfl]
      simp only [Option.bind_eq_bind, Option.bind_some]
      rw [tI_of wA (by omega) (by omega) (by omega), Int.toNat_natCast]
      simp only [Option.bind_eq_bind, Option.bind_some]
      have yP : (put (put V E' (cI 0 L' (upd ge pts.length (i32 e)))) A' (cI 0 L' (upd fa' m (i32 x.1)))).1 P = some (cO 6 [.ref E', .ref A', .ref Q', .int (i32 pts.length), .int (i32 f0)]) := by rw [put_ne nPA]; exact wP
      have yQ : (put (put V E' (cI 0 L' (upd ge pts.length (i32 e)))) A' (cI 0 L' (upd fa' m (i32 x.1)))).1 Q' = some (cI 0 L' fq') := by rw [put_ne (Ne.symm q7), put_ne (Ne.symm q8)]; exact v4
      rw [gA_of (k := 2) yP rfl]
      simp only [Option.bind_eq_bind, Option.bind_some]
      rw [tI_of yQ (by omega) (by omega) (by omega), Int.toNat_natCast]
      simp only [Option.bind_eq_bind, Option.bind_some]
      have zP : (put (put (put V E' (cI 0 L' (upd ge pts.length (i32 e)))) A' (cI 0 L' (upd fa' m (i32 x.1)))) Q' (cI 0 L' (upd fq' m (i32 x.2)))).1 P = some (cO 6 [.ref E', .ref A', .ref Q', .int (i32 pts.length), .int (i32 f0)]) := by rw [put_ne nPQ]; exact yP
      have zE : (put (put (put V E' (cI 0 L' (upd ge pts.length (i32 e)))) A' (cI 0 L' (upd fa' m (i32 x.1)))) Q' (cI 0 L' (upd fq' m (i32 x.2)))).1 E' = some (cI 0 L' (upd ge pts.length (i32 e))) := by rw [put_ne q8, put_ne q6]; exact put_me _ _ _
      have zA : (put (put (put V E' (cI 0 L' (upd ge pts.length (i32 e)))) A' (cI 0 L' (upd fa' m (i32 x.1)))) Q' (cI 0 L' (upd fq' m (i32 x.2)))).1 A' = some (cI 0 L' (upd fa' m (i32 x.1))) := by rw [put_ne q7]; exact put_me _ _ _
      have zQ : (put (put (put V E' (cI 0 L' (upd ge pts.length (i32 e)))) A' (cI 0 L' (upd fa' m (i32 x.1)))) Q' (cI 0 L' (upd fq' m (i32 x.2)))).1 Q' = some (cI 0 L' (upd fq' m (i32 x.2))) := put_me _ _ _
      have zo : ∀ z, z ≠ E' → z ≠ A' → z ≠ Q' → (put (put (put V E' (cI 0 L' (upd ge pts.length (i32 e)))) A' (cI 0 L' (upd fa' m (i32 x.1)))) Q' (cI 0 L' (upd fq' m (i32 x.2)))).1 z = U.1 z := by
        intro z h2 h3 h4
        rw [put_ne h4, put_ne h3, put_ne h2]; exact v6 z h3 h4
      have zc : (put (put (put V E' (cI 0 L' (upd ge pts.length (i32 e)))) A' (cI 0 L' (upd fa' m (i32 x.1)))) Q' (cI 0 L' (upd fq' m (i32 x.2)))).2 = U.2 := v1
      generalize put (put (put V E' (cI 0 L' (upd ge pts.length (i32 e)))) A' (cI 0 L' (upd fa' m (i32 x.1)))) Q' (cI 0 L' (upd fq' m (i32 x.2))) = W at *
      have eP : gP W 6 P 3 (.int (i32 ((pts.length : Int) + 1))) = some (put W P (cO 6 [.ref E', .ref A', .ref Q', .int (i32 ((pts.length : Int) + 1)), .int (i32 f0)])) := gP_of zP (by simp)
      rw [gI_of (k := 3) zP rfl]
      simp only [Option.bind_eq_bind, Option.bind_some, i_c0, i_c1, i_c2, i_c3, i_c4, i_c5, i_c6, i_c8, i_c9, i_c10, i_c12, i_c16, i_c17, i_c18, i_c31, i_c32, i_c45, i_c48, i_c50, i_c54, i_c55, i_c57, i_c58, i_c59, i_c61, i_c64, i_c73, i_c118, i_c119, i_c120, i_c126, i_c365, i_c1000, i_cFAR, i_add, i_sub, i_mul, i_neg]
      rw [eP]
      have len : (pts.take m ++ (e, x) :: pts.drop m).length = pts.length + 1 := by rw [List.length_append, List.length_cons, List.length_take, List.length_drop]; omega
      have oth : ∀ z, z ≠ P → z ≠ E' → z ≠ A' → z ≠ Q' → (put W P (cO 6 [.ref E', .ref A', .ref Q', .int (i32 ((pts.length : Int) + 1)), .int (i32 f0)])).1 z = U.1 z := by
        intro z h1 h2 h3 h4
        rw [put_ne h1]; exact zo z h2 h3 h4
      have cnt : (put W P (cO 6 [.ref E', .ref A', .ref Q', .int (i32 ((pts.length : Int) + 1)), .int (i32 f0)])).2 = U.2 := zc
      refine Rt.of rfl ⟨E', A', Q', L', pts.take m ++ (e, x) :: pts.drop m, ⟨q1, ?_, ⟨q3, q4, q5⟩, ⟨q6, q7, q8⟩, by omega, ⟨q10.1, by omega⟩, upd ge pts.length (i32 e), upd fa' m (i32 x.1), upd fq' m (i32 x.2), ?_, ?_, ?_, fun i hi => ?_⟩, sgOk_ins hg h0 hk hx hlo hhi, ptI_ins h0 hk, hLL, ?_, ?_⟩
      · rw [put_me, len]; rfl
      · rw [put_ne (Ne.symm nPE)]; exact zE
      · rw [put_ne (Ne.symm nPA)]; exact zA
      · rw [put_ne (Ne.symm nPQ)]; exact zQ
      · rw [len] at hi
        rw [getD_ins hk]
        by_cases hi1 : i < m
        · rw [if_pos hi1]
          refine ⟨?_, ?_, ?_⟩
          · rw [upd_at, if_neg (by omega)]; exact (q14 i (by omega)).1
          · rw [upd_at, if_neg (by omega), v3, if_neg (by omega)]; exact (q14 i (by omega)).2.1
          · rw [upd_at, if_neg (by omega), v5, if_neg (by omega)]; exact (q14 i (by omega)).2.2
        · rw [if_neg hi1]
          by_cases hi2 : i = m
          · rw [if_pos hi2]
            refine ⟨?_, ?_, ?_⟩
            · rw [upd_at]
              by_cases hi3 : i = pts.length
              · rw [if_pos hi3]
              · rw [if_neg hi3, (q14 i (by omega)).1, (hg.2.1 i (by omega) (by omega)).1]
            · rw [upd_at, if_pos hi2]
            · rw [upd_at, if_pos hi2]
          · rw [if_neg hi2]
            have h14 := q14 (i - 1) (by omega)
            refine ⟨?_, ?_, ?_⟩
            · rw [upd_at, (hg.2.1 (i - 1) (by omega) (by omega)).1]
              by_cases hi3 : i = pts.length
              · rw [if_pos hi3]
              · rw [if_neg hi3, (q14 i (by omega)).1, (hg.2.1 i (by omega) (by omega)).1]
            · rw [upd_at, if_neg hi2, v3, if_pos (by omega)]; exact h14.2.1
            · rw [upd_at, if_neg hi2, v5, if_pos (by omega)]; exact h14.2.2
      · obtain ⟨f1, f2, f3, f4, f5⟩ := hfr
        refine ⟨fun z hz => ?_, by rw [cnt]; exact f2, by rw [cnt]; exact f3, by rw [cnt]; exact f4, fun z g hz hzp hzc => ?_⟩
        · rw [cnt] at hz
          rw [oth z (by have := hwU.lt q2; omega) (by have := hwU.lt q11; omega) (by have := hwU.lt q12; omega) (by have := hwU.lt q13; omega)]; exact hwU z hz
        · have hzU := f5 z g hz hzp hzc
          have ne : ∀ {y : Nat} {h : Cel}, U.1 y = some h → b ≤ y → nk h = false → z ≠ y := by
            rintro y h hy hby hn rfl
            rw [hy] at hzU; cases hzU
            rcases hzc with hzc | hzc
            · omega
            · rw [hn] at hzc; cases hzc
          rw [oth z (ne q2 q1 rfl) (ne q11 q3 rfl) (ne q12 q4 rfl) (ne q13 q5 rfl)]; exact hzU
      · obtain ⟨k1, k2, k3, k4⟩ := hK
        refine ⟨fun z g hz h1 h2 h3 h4 => ?_, k2, k3, k4⟩
        have := hw.lt hz
        rw [oth z h1 (by rcases k2 with h | h <;> omega) (by rcases k3 with h | h <;> omega) (by rcases k4 with h | h <;> omega)]
        exact k1 z g hz h1 h2 h3 h4
    · rw [gA_of (k := 1) vP rfl]
      simp only [Option.bind_eq_bind, Option.bind_some, i_c0, i_c1, i_c2, i_c3, i_c4, i_c5, i_c6, i_c8, i_c9, i_c10, i_c12, i_c16, i_c17, i_c18, i_c31, i_c32, i_c45, i_c48, i_c50, i_c54, i_c55, i_c57, i_c58, i_c59, i_c61, i_c64, i_c73, i_c118, i_c119, i_c120, i_c126, i_c365, i_c1000, i_cFAR, i_add, i_sub, i_mul, i_neg]
      have ej : ((m : Int) - 1).toNat = m - 1 := by omega
      rw [lI_of v2 (by omega) (by omega) (by omega), ej]
      simp only [Option.bind_eq_bind, Option.bind_some]
      rw [tI_of v2 (by omega) (by omega) (by omega), Int.toNat_natCast]
      simp only [Option.bind_eq_bind, Option.bind_some]
      have wP : (put V A' (cI 0 L' (upd fa' m (fa' (m - 1))))).1 P = some (cO 6 [.ref E', .ref A', .ref Q', .int (i32 pts.length), .int (i32 f0)]) := by rw [put_ne nPA]; exact vP
      have wQ : (put V A' (cI 0 L' (upd fa' m (fa' (m - 1))))).1 Q' = some (cI 0 L' fq') := by rw [put_ne (Ne.symm q7)]; exact v4
      rw [gA_of (k := 2) wP rfl]
      simp only [Option.bind_eq_bind, Option.bind_some]
      rw [lI_of wQ (by omega) (by omega) (by omega), ej]
      simp only [Option.bind_eq_bind, Option.bind_some]
      rw [tI_of wQ (by omega) (by omega) (by omega), Int.toNat_natCast]
      simp only [Option.bind_eq_bind, Option.bind_some, i_neg, i_add]
      refine ih (m - 1) _ _ ⟨m - 1, by congr 1; omega, rfl, by omega, by omega, v1, ⟨_, by rw [put_ne q7]; exact put_me _ _ _, fun i => ?_⟩, ⟨_, put_me _ _ _, fun i => ?_⟩, fun z h1 h2 => by rw [put_ne h2, put_ne h1]; exact v6 z h1 h2⟩ (by omega)
      · rw [upd_at]
        by_cases hi : i = m
        · rw [if_pos hi, v3, if_neg (by omega), if_pos (by omega), hi]
        · rw [if_neg hi, v3]
          by_cases hi2 : m < i ∧ i ≤ pts.length
          · rw [if_pos hi2, if_pos (by omega)]
          · rw [if_neg hi2, if_neg (by omega)]
      · rw [upd_at]
        by_cases hi : i = m
        · rw [if_pos hi, v5, if_neg (by omega), if_pos (by omega), hi]
        · rw [if_neg hi, v5]
          by_cases hi2 : m < i ∧ i ≤ pts.length
          · rw [if_pos hi2, if_pos (by omega)]
          · rw [if_neg hi2, if_neg (by omega)]
  -- the place is known: room is made if there is none
  have ins : ∀ k, f0 ≤ k → k ≤ pts.length → (∀ j, f0 ≤ j → j < k → flt (pts.getD j (0, 0, 1)).2 x) → (∀ j, k ≤ j → j < pts.length → flt x (pts.getD j (0, 0, 1)).2) →
      Rt (C_X7_enter_129 F P (i32 e) (i32 x.1) (i32 x.2) (i32 k) S) (fun T => ∃ E' A' Q' L' pts', ptC b T P E' A' Q' L' pts' f0 ∧ sgOk e f0 pts' ∧ ptI e f0 x pts pts' ∧ L ≤ L' ∧ fr b p (L' - L) (6 * (L' - L)) S T ∧ ptK S T P E A Q E' A' Q') := by
    intro k h0 hk hlo hhi
    unfold C_X7_enter_129
    rw [gI_of (k := 3) p2 rfl, gA_of (k := 0) p2 rfl]
    simp only [Option.bind_eq_bind, Option.bind_some]
    rw [aN_of p11]
    simp (disch := omega) only [Option.bind_eq_bind, Option.bind_some, i_le, i_lt, i_eq]
    refine Rt.ite (fun hh => ?_) (fun hh => ?_)
    · have hL : pts.length = L := by omega
      have lP := hw.lt p2
      have lE := hw.lt p11
      have lA := hw.lt p12
      have lQ := hw.lt p13
      rw [C_longer p11 hw (by omega)]
      simp only [Option.bind_eq_bind, Option.bind_some]
      -- the first array
      have w1 : wfS (al S (cI 0 (2 * L) (va_cpy fe (fun _ => 0) 0 0 L)) (2 * L)) := hw.al
      have u1 : (al S (cI 0 (2 * L) (va_cpy fe (fun _ => 0) 0 0 L)) (2 * L)).1 P = some (cO 6 [.ref E, .ref A, .ref Q, .int (i32 pts.length), .int (i32 f0)]) := by rw [al_ne (by omega)]; exact p2
      have g1 : gP (al S (cI 0 (2 * L) (va_cpy fe (fun _ => 0) 0 0 L)) (2 * L)) 6 P 0 (.ref S.2.1) = some (put (al S (cI 0 (2 * L) (va_cpy fe (fun _ => 0) 0 0 L)) (2 * L)) P (cO 6 [.ref S.2.1, .ref A, .ref Q, .int (i32 pts.length), .int (i32 f0)])) := gP_of u1 (by simp)
      rw [g1]
      simp only [Option.bind_eq_bind, Option.bind_some]
      have s1 : ∀ z, (put (al S (cI 0 (2 * L) (va_cpy fe (fun _ => 0) 0 0 L)) (2 * L)) P (cO 6 [.ref S.2.1, .ref A, .ref Q, .int (i32 pts.length), .int (i32 f0)])).1 z = if z = P then some (cO 6 [.ref S.2.1, .ref A, .ref Q, .int (i32 pts.length), .int (i32 f0)]) else if z = S.2.1 then some (cI 0 (2 * L) (va_cpy fe (fun _ => 0) 0 0 L)) else S.1 z := fun z => rfl
      have n1 : (put (al S (cI 0 (2 * L) (va_cpy fe (fun _ => 0) 0 0 L)) (2 * L)) P (cO 6 [.ref S.2.1, .ref A, .ref Q, .int (i32 pts.length), .int (i32 f0)])).2 = (S.2.1 + 1, S.2.2.1 + 1, S.2.2.2 + 2 * L) := rfl
      have wf1 := w1.put (c := cO 6 [.ref S.2.1, .ref A, .ref Q, .int (i32 pts.length), .int (i32 f0)]) u1
      generalize put (al S (cI 0 (2 * L) (va_cpy fe (fun _ => 0) 0 0 L)) (2 * L)) P (cO 6 [.ref S.2.1, .ref A, .ref Q, .int (i32 pts.length), .int (i32 f0)]) = S1 at *
      have nPA : A ≠ P := by rintro rfl; rw [p2] at p12; cases p12
      have nPQ : Q ≠ P := by rintro rfl; rw [p2] at p13; cases p13
      have a1 : S1.1 P = some (cO 6 [.ref S.2.1, .ref A, .ref Q, .int (i32 pts.length), .int (i32 f0)]) := by rw [s1, if_pos rfl]
      have a2 : S1.1 A = some (cI 0 L fa) := by rw [s1, if_neg nPA, if_neg (by omega)]; exact p12
      rw [gA_of (k := 1) a1 rfl]
      simp only [Option.bind_eq_bind, Option.bind_some]
      rw [C_longer a2 wf1 (by omega)]
      simp only [Option.bind_eq_bind, Option.bind_some]
      have m1 : S1.2.1 = S.2.1 + 1 := by rw [n1]
      rw [m1]
      have w2 : wfS (al S1 (cI 0 (2 * L) (va_cpy fa (fun _ => 0) 0 0 L)) (2 * L)) := wf1.al
      have u2 : (al S1 (cI 0 (2 * L) (va_cpy fa (fun _ => 0) 0 0 L)) (2 * L)).1 P = some (cO 6 [.ref S.2.1, .ref A, .ref Q, .int (i32 pts.length), .int (i32 f0)]) := by rw [al_ne (by omega)]; exact a1
      have g2 : gP (al S1 (cI 0 (2 * L) (va_cpy fa (fun _ => 0) 0 0 L)) (2 * L)) 6 P 1 (.ref (S.2.1 + 1)) = some (put (al S1 (cI 0 (2 * L) (va_cpy fa (fun _ => 0) 0 0 L)) (2 * L)) P (cO 6 [.ref S.2.1, .ref (S.2.1 + 1), .ref Q, .int (i32 pts.length), .int (i32 f0)])) := gP_of u2 (by simp)
      rw [g2]
      simp only [Option.bind_eq_bind, Option.bind_some]
      have s2 : ∀ z, (put (al S1 (cI 0 (2 * L) (va_cpy fa (fun _ => 0) 0 0 L)) (2 * L)) P (cO 6 [.ref S.2.1, .ref (S.2.1 + 1), .ref Q, .int (i32 pts.length), .int (i32 f0)])).1 z = if z = P then some (cO 6 [.ref S.2.1, .ref (S.2.1 + 1), .ref Q, .int (i32 pts.length), .int (i32 f0)]) else if z = S1.2.1 then some (cI 0 (2 * L) (va_cpy fa (fun _ => 0) 0 0 L)) else S1.1 z := fun z => rfl
      have n2 : (put (al S1 (cI 0 (2 * L) (va_cpy fa (fun _ => 0) 0 0 L)) (2 * L)) P (cO 6 [.ref S.2.1, .ref (S.2.1 + 1), .ref Q, .int (i32 pts.length), .int (i32 f0)])).2 = (S1.2.1 + 1, S1.2.2.1 + 1, S1.2.2.2 + 2 * L) := rfl
      have wf2 := w2.put (c := cO 6 [.ref S.2.1, .ref (S.2.1 + 1), .ref Q, .int (i32 pts.length), .int (i32 f0)]) u2
      generalize put (al S1 (cI 0 (2 * L) (va_cpy fa (fun _ => 0) 0 0 L)) (2 * L)) P (cO 6 [.ref S.2.1, .ref (S.2.1 + 1), .ref Q, .int (i32 pts.length), .int (i32 f0)]) = S2 at *
      have b1' : S2.1 P = some (cO 6 [.ref S.2.1, .ref (S.2.1 + 1), .ref Q, .int (i32 pts.length), .int (i32 f0)]) := by rw [s2, if_pos rfl]
      have b2' : S2.1 Q = some (cI 0 L fq) := by rw [s2, if_neg nPQ, if_neg (by omega), s1, if_neg nPQ, if_neg (by omega)]; exact p13
      rw [gA_of (k := 2) b1' rfl]
      simp only [Option.bind_eq_bind, Option.bind_some]
      rw [C_longer b2' wf2 (by omega)]
      simp only [Option.bind_eq_bind, Option.bind_some]
      have m2 : S2.2.1 = S.2.1 + 2 := by rw [n2, m1]
      rw [m2]
      have w3 : wfS (al S2 (cI 0 (2 * L) (va_cpy fq (fun _ => 0) 0 0 L)) (2 * L)) := wf2.al
      have u3 : (al S2 (cI 0 (2 * L) (va_cpy fq (fun _ => 0) 0 0 L)) (2 * L)).1 P = some (cO 6 [.ref S.2.1, .ref (S.2.1 + 1), .ref Q, .int (i32 pts.length), .int (i32 f0)]) := by rw [al_ne (by omega)]; exact b1'
      have g3 : gP (al S2 (cI 0 (2 * L) (va_cpy fq (fun _ => 0) 0 0 L)) (2 * L)) 6 P 2 (.ref (S.2.1 + 2)) = some (put (al S2 (cI 0 (2 * L) (va_cpy fq (fun _ => 0) 0 0 L)) (2 * L)) P (cO 6 [.ref S.2.1, .ref (S.2.1 + 1), .ref (S.2.1 + 2), .int (i32 pts.length), .int (i32 f0)])) := gP_of u3 (by simp)
      rw [g3]
      simp only [Option.bind_eq_bind, Option.bind_some]
      have s3 : ∀ z, (put (al S2 (cI 0 (2 * L) (va_cpy fq (fun _ => 0) 0 0 L)) (2 * L)) P (cO 6 [.ref S.2.1, .ref (S.2.1 + 1), .ref (S.2.1 + 2), .int (i32 pts.length), .int (i32 f0)])).1 z = if z = P then some (cO 6 [.ref S.2.1, .ref (S.2.1 + 1), .ref (S.2.1 + 2), .int (i32 pts.length), .int (i32 f0)]) else if z = S2.2.1 then some (cI 0 (2 * L) (va_cpy fq (fun _ => 0) 0 0 L)) else S2.1 z := fun z => rfl
      have n3 : (put (al S2 (cI 0 (2 * L) (va_cpy fq (fun _ => 0) 0 0 L)) (2 * L)) P (cO 6 [.ref S.2.1, .ref (S.2.1 + 1), .ref (S.2.1 + 2), .int (i32 pts.length), .int (i32 f0)])).2 = (S2.2.1 + 1, S2.2.2.1 + 1, S2.2.2.2 + 2 * L) := rfl
      have wf3 := w3.put (c := cO 6 [.ref S.2.1, .ref (S.2.1 + 1), .ref (S.2.1 + 2), .int (i32 pts.length), .int (i32 f0)]) u3
      generalize put (al S2 (cI 0 (2 * L) (va_cpy fq (fun _ => 0) 0 0 L)) (2 * L)) P (cO 6 [.ref S.2.1, .ref (S.2.1 + 1), .ref (S.2.1 + 2), .int (i32 pts.length), .int (i32 f0)]) = S3 at *
      have old : ∀ z g, S.1 z = some g → z ≠ P → S3.1 z = some g := by
        intro z g hz hzP
        have := hw.lt hz
        rw [s3, if_neg hzP, if_neg (by omega), s2, if_neg hzP, if_neg (by omega), s1, if_neg hzP, if_neg (by omega)]; exact hz
      have sE : S3.1 S.2.1 = some (cI 0 (2 * L) (va_cpy fe (fun _ => 0) 0 0 L)) := by rw [s3, if_neg (by omega), if_neg (by omega), s2, if_neg (by omega), if_neg (by omega), s1, if_neg (by omega), if_pos rfl]
      have sA : S3.1 (S.2.1 + 1) = some (cI 0 (2 * L) (va_cpy fa (fun _ => 0) 0 0 L)) := by rw [s3, if_neg (by omega), if_neg (by omega), s2, if_neg (by omega), if_pos (by omega)]
      have sQ : S3.1 (S.2.1 + 2) = some (cI 0 (2 * L) (va_cpy fq (fun _ => 0) 0 0 L)) := by rw [s3, if_neg (by omega), if_pos (by omega)]
      refine tail S3 S.2.1 (S.2.1 + 1) (S.2.1 + 2) (2 * L) k ⟨p1, by rw [s3, if_pos rfl], ⟨by omega, by omega, by omega⟩, ⟨by omega, by omega, by omega⟩, by omega, ⟨by omega, by omega⟩, _, _, _, sE, sA, sQ, fun j hj => ?_⟩ (by omega) wf3 (by omega) (by omega) ⟨wf3, by rw [n3, m2]; show S.2.1 ≤ _; omega, ?_, ?_, fun z g hz hzp hzc => ?_⟩ ⟨fun z g hz h1 _ _ _ => old z g hz h1, Or.inr (Nat.le_refl _), Or.inr (by omega), Or.inr (by omega)⟩ h0 hk hlo hhi
      · rw [cpy_at, cpy_at, cpy_at, if_pos (by omega), if_pos (by omega), if_pos (by omega), show 0 + (j - 0) = j by omega]
        exact p14 j hj
      · rw [n3, n2, n1]; show S.2.2.1 + 1 + 1 + 1 ≤ _; omega
      · rw [n3, n2, n1]; show S.2.2.2 + 2 * L + 2 * L + 2 * L ≤ _; omega
      · refine old z g hz ?_
        rintro rfl
        rw [p2] at hz; cases hz
        rcases hzc with hzc | hzc
        · omega
        · cases hzc
    · refine tail S E A Q L k hp (by omega) hw (Nat.le_refl _) (by omega) (fr.rf hw) ⟨fun z g hz _ _ _ _ => hz, Or.inl rfl, Or.inl rfl, Or.inl rfl⟩ h0 hk hlo hhi
  -- the place: all behind it are greater
  have mid : ∀ k, f0 ≤ k → k ≤ pts.length → (k = f0 ∨ fle (pts.getD (k - 1) (0, 0, 1)).2 x) → (∀ j, k ≤ j → j < pts.length → flt x (pts.getD j (0, 0, 1)).2) →
      Rt (C_X7_enter_91 F P (i32 e) (i32 x.1) (i32 x.2) (i32 k) S) (fun T => ∃ E' A' Q' L' pts', ptC b T P E' A' Q' L' pts' f0 ∧ sgOk e f0 pts' ∧ ptI e f0 x pts pts' ∧ L ≤ L' ∧ fr b p (L' - L) (6 * (L' - L)) S T ∧ ptK S T P E A Q E' A' Q') := by
    intro k h0 hk hle hhi
    unfold C_X7_enter_91
    rw [gI_of (k := 4) p2 rfl]
    simp (disch := omega) only [Option.bind_eq_bind, Option.bind_some, i_le, i_lt, i_eq]
    refine Rt.ite (fun hh => ins k h0 hk (fun j h1 h2 => by omega) hhi) (fun hh => ?_)
    have ek : ((k : Int) - 1).toNat = k - 1 := by omega
    have o := pr (k - 1) (by omega) (by omega)
    obtain ⟨o1, o2, o3, o4⟩ := o
    have lt1 : (pts.getD (k - 1) (0, 0, 1)).2 ≠ x → ∀ j, f0 ≤ j → j < k → flt (pts.getD j (0, 0, 1)).2 x := by
      intro hne j h1 h2
      have hl1 : flt (pts.getD (k - 1) (0, 0, 1)).2 x := by
        rcases hle with h | h
        · omega
        · rcases flt_or_feq h with h | h
          · exact h
          · exact absurd (rdd_eq (hg.2.1 (k - 1) (by omega) (by omega)).2 hx h) hne
      by_cases hj : j = k - 1
      · rw [hj]; exact hl1
      · exact flt_trans (pr j h1 (by omega)).1 o1 x1 (hg.2.2 j (k - 1) h1 (by omega) (by omega)) hl1
    rw [gA_of (k := 1) p2 rfl]
    simp only [Option.bind_eq_bind, Option.bind_some, i_c0, i_c1, i_c2, i_c3, i_c4, i_c5, i_c6, i_c8, i_c9, i_c10, i_c12, i_c16, i_c17, i_c18, i_c31, i_c32, i_c45, i_c48, i_c50, i_c54, i_c55, i_c57, i_c58, i_c59, i_c61, i_c64, i_c73, i_c118, i_c119, i_c120, i_c126, i_c365, i_c1000, i_cFAR, i_add, i_sub, i_mul, i_neg]
    rw [lI_of p12 (by omega) (by omega) (by omega), ek, (p14 (k - 1) (by omega)).2.1]
    simp (disch := omega) only [Option.bind_eq_bind, Option.bind_some, i_le, i_lt, i_eq]
    refine Rt.ite (fun h1 => ?_) (fun h1 => ins k h0 hk (lt1 (fun z => h1 (by rw [z]))) hhi)
    rw [gA_of (k := 2) p2 rfl]
    simp only [Option.bind_eq_bind, Option.bind_some]
    rw [lI_of p13 (by omega) (by omega) (by omega), ek, (p14 (k - 1) (by omega)).2.2]
    simp (disch := omega) only [Option.bind_eq_bind, Option.bind_some, i_le, i_lt, i_eq]
    refine Rt.ite (fun h2 => ?_) (fun h2 => ins k h0 hk (lt1 (fun z => h2 (by rw [z]))) hhi)
    refine Rt.some ⟨E, A, Q, L, pts, hp, hg, ⟨rfl, Nat.le_refl _, by omega, fun y => ⟨Or.inl, ?_⟩⟩, Nat.le_refl _, fr.rf hw, fun z g hz _ _ _ _ => hz, Or.inl rfl, Or.inl rfl, Or.inl rfl⟩
    rintro (h | rfl)
    · exact h
    · exact ⟨k - 1, by omega, by omega, Prod.ext h1 h2⟩
  -- the reduced fraction
  have main : Rt (C_X7_enter_20 F P (i32 e) (j64 (s * a)) (j64 (s * c)) (j64 (Nat.gcd a c)) (j64 s) S) (fun T => ∃ E' A' Q' L' pts', ptC b T P E' A' Q' L' pts' f0 ∧ sgOk e f0 pts' ∧ ptI e f0 x pts pts' ∧ L ≤ L' ∧ fr b p (L' - L) (6 * (L' - L)) S T ∧ ptK S T P E A Q E' A' Q') := by
    have sa : s * (a : Int) = a ∨ s * (a : Int) = -a := by rcases hs with rfl | rfl <;> omega
    have sc : s * (c : Int) = c ∨ s * (c : Int) = -c := by rcases hs with rfl | rfl <;> omega
    have sg : s * ((Nat.gcd a c : Nat) : Int) = Nat.gcd a c ∨ s * ((Nat.gcd a c : Nat) : Int) = -(Nat.gcd a c : Int) := by rcases hs with rfl | rfl <;> omega
    unfold C_X7_enter_20
    rw [j_mul, Int.mul_comm ((Nat.gcd a c : Nat) : Int) s]
    simp (disch := omega) only [Option.bind_eq_bind, Option.bind_some, j_c0, j_le, j_lt, j_eq, j_tdiv]
    rw [if_neg (by omega), tdiv_s hs, tdiv_s hs, ex1, ex2, j_int, j_int, gI_of (k := 3) p2 rfl]
    simp only [Option.bind_eq_bind, Option.bind_some]
    rw [if_neg (by omega)]
    refine Rt.loop (ι := Nat) (fun m v V => v = i32 m ∧ V = S ∧ f0 ≤ m ∧ m ≤ pts.length ∧ ∀ j, m ≤ j → j < pts.length → flt x (pts.getD j (0, 0, 1)).2) (fun m => m) ?_ F pts.length _ _ ⟨rfl, rfl, gf0, Nat.le_refl _, fun j h1 h2 => by omega⟩ (by omega)
    rintro n m _ V ⟨rfl, rfl, hm1, hm2, hm3⟩ ih
    unfold C_X7_enter_44
    rw [gI_of (k := 4) p2 rfl]
    simp (disch := omega) only [Option.bind_eq_bind, Option.bind_some, i_le, i_lt, i_eq]
    refine Rt.ite (fun hh => mid m hm1 hm2 (Or.inl (by omega)) hm3) (fun hh => ?_)
    have ek : ((m : Int) - 1).toNat = m - 1 := by omega
    obtain ⟨o1, o2, o3, o4⟩ := pr (m - 1) (by omega) (by omega)
    rw [gA_of (k := 2) p2 rfl]
    simp only [Option.bind_eq_bind, Option.bind_some, i_c0, i_c1, i_c2, i_c3, i_c4, i_c5, i_c6, i_c8, i_c9, i_c10, i_c12, i_c16, i_c17, i_c18, i_c31, i_c32, i_c45, i_c48, i_c50, i_c54, i_c55, i_c57, i_c58, i_c59, i_c61, i_c64, i_c73, i_c118, i_c119, i_c120, i_c126, i_c365, i_c1000, i_cFAR, i_add, i_sub, i_mul, i_neg]
    rw [lI_of p13 (by omega) (by omega) (by omega), ek, (p14 (m - 1) (by omega)).2.2, gA_of (k := 1) p2 rfl]
    simp only [Option.bind_eq_bind, Option.bind_some]
    rw [lI_of p12 (by omega) (by omega) (by omega), ek, (p14 (m - 1) (by omega)).2.1]
    simp only [Option.bind_eq_bind, Option.bind_some]
    have mm1 := mul_rng (a := (pts.getD (m - 1) (0, 0, 1)).2.1) (b := x.2) (A := 50000) (B := 1000) o3 o4 (by omega) x2
    have mm2 := mul_rng (a := x.1) (b := (pts.getD (m - 1) (0, 0, 1)).2.2) (A := 50000) (B := 1000) x3 x4 (by omega) o2
    rw [i_long (by omega) (by omega), i_long (by omega) (by omega), i_long (by omega) (by omega), i_long (by omega) (by omega), j_mul, j_mul]
    refine Rt.ite (fun h1 => ?_) (fun h1 => ?_)
    · rw [j_le (by omega) (by omega) (by omega) (by omega)] at h1
      exact mid m hm1 hm2 (Or.inr h1) hm3
    · rw [j_le (by omega) (by omega) (by omega) (by omega)] at h1
      refine ih (m - 1) _ _ ⟨by congr 1; omega, rfl, by omega, by omega, fun j h2 h3 => ?_⟩ (by omega)
      by_cases hj : j = m - 1
      · rw [hj]; exact Int.not_le.mp h1
      · exact hm3 j (by omega) h3
  have sc : s * (c : Int) = c ∨ s * (c : Int) = -c := by rcases hs with rfl | rfl <;> omega
  unfold C_X7_enter
  rw [gO_of p2, C_divisor hs (by omega) (by omega)]
  refine Rt.let (Rt.let (Rt.ite (fun hh => ?_) (fun hh => ?_)))
  · rw [j_c0, j_le (by omega) (by omega) (by omega) (by omega)] at hh
    have : s = 1 := by rcases hs with h | h; exact h; subst h; omega
    subst this; exact main
  · rw [j_c0, j_le (by omega) (by omega) (by omega) (by omega)] at hh
    have : s = -1 := by rcases hs with h | h; subst h; omega; exact h
    subst this; exact main
end CE
