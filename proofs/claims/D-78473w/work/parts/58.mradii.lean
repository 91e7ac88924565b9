/-! THE MODEL's RADII -/
/-- an entry of a table of fractions -/
def tbl (σ : MS) (a b s : Nat) (r : Fq) : Prop := mB σ a s = j64 r.1 ∧ mB σ b s = j64 r.2 ∧ 0 < r.2 ∧ r.2 ≤ 198 ∧ 0 ≤ r.1 ∧ r.1 ≤ 1272150000
def radT (N : Net) (w : Nat → Int) (σ : MS) (m : Nat) : Prop := ∀ s, s < m → ∃ r, tbl σ 2 3 s r ∧ isRad N w s r
theorem tbl.kp {σ τ : MS} {a b s : Nat} {r : Fq} {iS lS aS bS : List Nat} (h : tbl σ a b s r) (hk : kp iS lS aS bS σ τ) (ha : a ∉ bS) (hb : b ∉ bS) : tbl τ a b s r := by
  unfold tbl at *
  rw [hk.2.2.2 a ha, hk.2.2.2 b hb]; exact h
theorem radT.kp {N : Net} {w : Nat → Int} {σ τ : MS} {m : Nat} {iS lS aS bS : List Nat} (h : radT N w σ m) (hk : kp iS lS aS bS σ τ) (h2 : 2 ∉ bS := by decide) (h3 : 3 ∉ bS := by decide) : radT N w τ m := fun s hs => by
  obtain ⟨r, h4, h5⟩ := h s hs
  exact ⟨r, h4.kp hk h2 h3, h5⟩
section MR
variable {σ : MS} {N : Net} {F : Nat} {w : Nat → Int}
theorem pow8 {N : Net} (h : okN N) : 2 ^ nN N ≤ 256 ∧ 1 ≤ 2 ^ nN N := ⟨Nat.pow_le_pow_right (n := 2) (by decide) h.2.1, Nat.one_le_two_pow⟩
theorem M_laysRadii_eq (hN : mN σ N) (hf : far (nN N) (mA σ 4) (dN N)) (hc : cnN N) (hn : 0 < eN N) (hF : 4294967296 < F) :
    Rt (M_laysRadii F σ) (fun τ => kp [3, 4] [0, 1, 2] [5] [0, 1, 2, 3] σ τ ∧ lcI N (wS N 0) τ ∧ radT N (wS N 0) τ (2 ^ nN N)) := by
  have p8 := pow8 hN.2
  have h8 := hN.2.2.1
  have hw9 := wS_ok hN.2 (s := 0) (by omega) (by omega)
  obtain ⟨τ, e1, k1, w1⟩ := M_weighs_eq (F := F) (s := 0) hN (by omega)
  unfold M_laysRadii
  simp only [i_c0]
  rw [e1]
  simp only [Option.bind_eq_bind, Option.bind_some]
  have hI : lcI N (wS N 0) τ := ⟨hN.kp k1, by rw [k1.2.2.1 4 (by decide)]; exact hf, w1⟩
  refine Rt.loop (ι := Nat) (fun s a υ => a = i32 s ∧ s ≤ 2 ^ nN N ∧ kp [3, 4] [0, 1, 2] [5] [0, 1, 2, 3] σ υ ∧ lcI N (wS N 0) υ ∧ radT N (wS N 0) υ s) (fun s => 2 ^ nN N - s) ?_ F 0 _ _ ⟨rfl, by omega, k1.le, hI, fun s hs => by omega⟩ (by omega)
  rintro n s _ υ ⟨rfl, hs, h1, h2, h3⟩ ih
  unfold M_laysRadii_7
  rw [M_many_eq h2.1]
  simp only [Option.bind_eq_bind, Option.bind_some, i_c1, i_c31, i_shl h8]
  simp (disch := omega) only [i_le, i_lt, i_eq]
  refine Rt.ite (fun h => Rt.some ⟨h1, h2, by obtain rfl : s = 2 ^ nN N := (by omega); exact h3⟩) (fun h => ?_)
  refine Rt.bindO (M_centers_eq h2 hc hw9 hn (show s < 256 by omega) (by omega)) ?_
  rintro φ ⟨k2, e, x, b1, b2, b3⟩
  have px := b3.2.1
  have ox : okx x := by
    obtain ⟨a1, a2, a3, a4, a5⟩ := hN.2.2.2.2.2.1 e b3.1
    have m := mul_rng (a := (ed N e).2.2) (b := x.2) (A := 50) (B := 198) (by omega) a5 (Int.le_of_lt px.1) b2
    exact ⟨px.1, by omega, px.2.1, by have := px.2.2; omega⟩
  have hr := hgt_rng (s := s) hN.2 hc hw9 b3.1 ox px.2.2
  rw [b1.2.2.2]
  simp (disch := omega) only [stB_i, Option.bind_eq_bind, Option.bind_some, mL_sB, b1.2.2.1, Int.toNat_natCast, mB_sB, if_neg (show (3 : Nat) ≠ 2 by decide), i_add, i_sub, i_mul, i_neg]
  refine ih (s + 1) _ _ ⟨rfl, by omega, kp.tr h1 (kp.tr k2.le (kp.tr kp.sB kp.sB)), h2.kp (kp.tr k2.le (kp.tr kp.sB kp.sB) : kp [3, 4] [0, 1, 2] [] [0, 1, 2, 3] υ _), fun s' hs' => ?_⟩ (by omega)
  by_cases eq : s' = s
  · subst eq
    refine ⟨(hgt N (wS N 0) s' e x, x.2), ⟨?_, ?_, px.1, b2, hr.1, by simp only; omega⟩, e, x, b3, rfl⟩
    · simp only [mB_sB, if_neg (show (2 : Nat) ≠ 3 by decide), if_true, updL_at]
    · simp only [mB_sB, if_true, updL_at]
  · obtain ⟨r, ⟨r1, r2, r3⟩, r4⟩ := h3 s' (by omega)
    refine ⟨r, ⟨?_, ?_, r3⟩, r4⟩
    · simp only [mB_sB, if_neg (show (2 : Nat) ≠ 3 by decide), if_true, updL_at, if_neg eq]; rw [k2.2.2.2 2 (by decide)]; exact r1
    · simp only [mB_sB, if_true, updL_at, if_neg eq]; rw [k2.2.2.2 3 (by decide)]; exact r2
/-- the table for two centers -/
def twoT (N : Net) (w : Nat → Int) (σ : MS) (m : Nat) : Prop := ∀ s, s < m → ∃ t, tbl σ 4 5 s t ∧ isK (radF N w) 2 s t
def twoE (σ : MS) (s : Nat) (t : Option Fq) : Prop := match t with
  | none => mB σ 5 s = j64 0
  | some t => tbl σ 4 5 s t
theorem tbl_mul {r t : Fq} (h1 : 0 < r.2 ∧ r.2 ≤ 198 ∧ 0 ≤ r.1 ∧ r.1 ≤ 1272150000) (h2 : 0 < t.2 ∧ t.2 ≤ 198 ∧ 0 ≤ t.1 ∧ t.1 ≤ 1272150000) : 0 ≤ r.1 * t.2 ∧ r.1 * t.2 ≤ 251885700000 :=
  mul_rng (A := 1272150000) (B := 198) h1.2.2.1 h1.2.2.2 (Int.le_of_lt h2.1) h2.2.1
theorem M_laysTwo_eq (hN : mN σ N) (hr : radT N w σ (2 ^ nN N)) (hF : 4294967296 < F) :
    Rt (M_laysTwo F σ) (fun τ => kp [] [] [] [4, 5] σ τ ∧ twoT N w τ (2 ^ nN N)) := by
  have p8 := pow8 hN.2
  have h8 := hN.2.2.1
  have rp := fun a => (radF_pos N w a).1
  unfold M_laysTwo
  simp only [i_c0]
  refine Rt.loop (ι := Nat) (fun s a υ => a = i32 s ∧ s ≤ 2 ^ nN N ∧ kp [] [] [] [4, 5] σ υ ∧ twoT N w υ s) (fun s => 2 ^ nN N - s) ?_ F 0 _ _ ⟨rfl, by omega, kp.rf, fun s hs => by omega⟩ (by omega)
  rintro n s _ υ ⟨rfl, hs, h1, h2⟩ ih
  unfold M_laysTwo_2
  rw [M_many_eq (hN.kp h1)]
  simp only [Option.bind_eq_bind, Option.bind_some, i_c1, i_c31, i_shl h8]
  simp (disch := omega) only [i_le, i_lt, i_eq]
  refine Rt.ite (fun h => Rt.some ⟨h1, by obtain rfl : s = 2 ^ nN N := (by omega); exact h2⟩) (fun h => ?_)
  have hs' : s < 2 ^ nN N := by omega
  simp (disch := omega) only [stB_i, Option.bind_eq_bind, Option.bind_some, i_c0, j_c0, Int.toNat_natCast]
  refine Rt.loop (ι := Nat) (fun a b φ => b = i32 a ∧ a ≤ s + 1 ∧ kp [] [] [] [4, 5] σ φ ∧ twoT N w φ s ∧ ∃ t, twoE φ s t ∧ two1 (radF N w) s a t) (fun a => s + 1 - a) ?_ F 0 _ _ ⟨rfl, by omega, kp.tr h1 kp.sB, ?_, none, ?_, fun a ha => by omega⟩ (by omega)
  rotate_left
  · intro s2 hs2
    obtain ⟨t, ⟨t1, t2, t3⟩, t4⟩ := h2 s2 hs2
    refine ⟨t, ⟨?_, ?_, t3⟩, t4⟩
    · simp only [mB_sB, if_neg (show (4 : Nat) ≠ 5 by decide)]; exact t1
    · simp only [mB_sB, if_true, updL_at, if_neg (show s2 ≠ s by omega)]; exact t2
  · unfold twoE; simp only [mB_sB, if_true, updL_at]
  rintro n2 a _ φ ⟨rfl, ha, k1, k2, t, k3, k4⟩ ih2
  unfold M_laysTwo_21
  simp (disch := omega) only [i_le, i_lt, i_eq]
  refine Rt.ite (fun h3 => ?_) (fun h3 => ?_)
  · obtain rfl : a = s + 1 := by omega
    obtain ⟨t', rfl, ht⟩ := two1_done rp k4
    unfold M_laysTwo_153
    simp only [i_c0, i_c1, i_c2, i_c3, i_c4, i_c5, i_c6, i_c8, i_c9, i_c10, i_c12, i_c16, i_c17, i_c18, i_c31, i_c32, i_c45, i_c48, i_c50, i_c54, i_c55, i_c57, i_c58, i_c59, i_c61, i_c64, i_c73, i_c118, i_c119, i_c120, i_c126, i_c365, i_c1000, i_cFAR, i_add, i_sub, i_mul, i_neg, Option.bind_eq_bind, Option.bind_some]
    refine ih (s + 1) _ _ ⟨rfl, by omega, k1, fun s2 hs2 => ?_⟩ (by omega)
    by_cases eq : s2 = s
    · subst eq; exact ⟨t', k3, ht⟩
    · exact k2 s2 (by omega)
  have nxt : ∀ (ψ : MS) (t' : Option Fq), kp [] [] [] [4, 5] σ ψ → twoT N w ψ s → twoE ψ s t' → two1 (radF N w) s (a + 1) t' → Rt (M_laysTwo_147 F (M_laysTwo_2 F n) (M_laysTwo_21 F (M_laysTwo_2 F n) (i32 s) n2) (i32 s) (i32 a) ψ) (fun τ => kp [] [] [] [4, 5] σ τ ∧ twoT N w τ (2 ^ nN N)) := by
    intro ψ t' q1 q2 q3 q4
    unfold M_laysTwo_147
    simp only [i_c0, i_c1, i_c2, i_c3, i_c4, i_c5, i_c6, i_c8, i_c9, i_c10, i_c12, i_c16, i_c17, i_c18, i_c31, i_c32, i_c45, i_c48, i_c50, i_c54, i_c55, i_c57, i_c58, i_c59, i_c61, i_c64, i_c73, i_c118, i_c119, i_c120, i_c126, i_c365, i_c1000, i_cFAR, i_add, i_sub, i_mul, i_neg, Option.bind_eq_bind, Option.bind_some]
    exact ih2 (a + 1) _ _ ⟨rfl, by omega, q1, q2, t', q3, q4⟩ (by omega)
  have an := andn_le a s
  have an2 := andn_le s a
  simp (disch := omega) only [i_c0, i_c1, i_c2, i_c3, i_c4, i_c5, i_c6, i_c8, i_c9, i_c10, i_c12, i_c16, i_c17, i_c18, i_c31, i_c32, i_c45, i_c48, i_c50, i_c54, i_c55, i_c57, i_c58, i_c59, i_c61, i_c64, i_c73, i_c118, i_c119, i_c120, i_c126, i_c365, i_c1000, i_cFAR, i_neg, i_andn, i_le, i_lt, i_eq]
  refine Rt.ite (fun h4 => ?_) (fun h4 => ?_)
  rotate_left
  · exact nxt φ t k1 k2 k3 (two1_skip k4 (fun z => absurd (by rw [andn_zero.mpr z]; rfl) h4))
  have hsub : sub a s := andn_zero.mp (by omega)
  have hxr := sub_le (xr_sub hsub)
  rw [andn_sub hsub]
  obtain ⟨r1, ⟨a1, a2, a3⟩, a4⟩ := (hr.kp k1) a (by omega)
  obtain ⟨r2, ⟨b1, b2, b3⟩, b4⟩ := (hr.kp k1) (s ^^^ a) (by omega)
  have m1 := tbl_mul a3 b3
  have m2 := tbl_mul b3 a3
  simp (disch := omega) only [rdL_i, Int.toNat_natCast, a1, a2, b1, b2, Option.bind_eq_bind, Option.bind_some, j_add, j_sub, j_mul, j_neg, j_le, j_lt, j_eq]
  have fa := isRad_F a4
  have fb := isRad_F b4
  -- the worse of the two
  have take : ∀ (g : Nat) (v : Fq), g < 256 → tbl φ 2 3 g v → isRad N w g v → fle (radF N w a) v → fle (radF N w (s ^^^ a)) v → (fle v (radF N w a) ∨ fle v (radF N w (s ^^^ a))) →
      Rt (M_laysTwo_81 F (M_laysTwo_2 F n) (M_laysTwo_21 F (M_laysTwo_2 F n) (i32 s) n2) (i32 s) (i32 a) (i32 g) φ) (fun τ => kp [] [] [] [4, 5] σ τ ∧ twoT N w τ (2 ^ nN N)) := by
    intro g v hg ⟨v1, v2, v3⟩ v4 f1 f2 f3
    have put : (∀ t', t = some t' → fle v t') → Rt (M_laysTwo_123 F (M_laysTwo_2 F n) (M_laysTwo_21 F (M_laysTwo_2 F n) (i32 s) n2) (i32 s) (i32 a) (i32 g) φ) (fun τ => kp [] [] [] [4, 5] σ τ ∧ twoT N w τ (2 ^ nN N)) := by
      intro hv
      unfold M_laysTwo_123
      simp (disch := omega) only [rdL_i, stB_i, Int.toNat_natCast, v1, Option.bind_eq_bind, Option.bind_some, mB_sB, if_neg (show (3 : Nat) ≠ 4 by decide), if_neg (show (5 : Nat) ≠ 4 by decide), v2]
      refine nxt _ (some v) (kp.tr k1 (kp.tr kp.sB kp.sB)) (fun s2 hs2 => ?_) ?_ (two1_take rp k4 hsub v3.1 f1 f2 f3 hv)
      · obtain ⟨t, ⟨t1, t2, t3⟩, t4⟩ := k2 s2 hs2
        refine ⟨t, ⟨?_, ?_, t3⟩, t4⟩
        · simp only [mB_sB, if_neg (show (4 : Nat) ≠ 5 by decide), if_true, updL_at, if_neg (show s2 ≠ s by omega)]; exact t1
        · simp only [mB_sB, if_true, updL_at, if_neg (show s2 ≠ s by omega)]; exact t2
      · refine ⟨?_, ?_, v3⟩
        · simp only [mB_sB, if_neg (show (4 : Nat) ≠ 5 by decide), if_true, updL_at]
        · simp only [mB_sB, if_true, updL_at]
    unfold M_laysTwo_81
    match t, k3, k4, put with
    | none, k3, k4, put =>
      simp (disch := omega) only [rdL_i, Int.toNat_natCast, show mB φ 5 s = j64 0 from k3, Option.bind_eq_bind, Option.bind_some, j_c0]
      rw [if_pos trivial]
      exact put (fun t' ht => by cases ht)
    | some t', k3, k4, put =>
      obtain ⟨c1, c2, c3⟩ := k3
      have m3 := tbl_mul v3 c3
      have m4 := tbl_mul c3 v3
      simp (disch := omega) only [rdL_i, Int.toNat_natCast, c1, c2, v1, v2, Option.bind_eq_bind, Option.bind_some, j_c0, j_add, j_sub, j_mul, j_neg, j_le, j_lt, j_eq]
      rw [if_neg (by omega)]
      refine Rt.ite (fun h5 => ?_) (fun h5 => put (fun t2 ht => by cases ht; exact Int.le_of_lt (Int.not_le.mp h5)))
      exact nxt φ (some t') k1 k2 ⟨c1, c2, c3⟩ (two1_skip k4 (fun _ => ⟨t', rfl, by
        rcases f3 with f3 | f3
        · exact Or.inl (fle_trans c3.1 v3.1 (rp a) h5 f3)
        · exact Or.inr (fle_trans c3.1 v3.1 (rp _) h5 f3)⟩))
  refine Rt.ite (fun h5 => ?_) (fun h5 => ?_)
  · exact take (s ^^^ a) r2 (by omega) ⟨b1, b2, b3⟩ b4 (fle_trans (rp a) a3.1 b3.1 (fle_of_feq (feq_symm fa)) (fle_of_flt h5)) (fle_of_feq (feq_symm fb)) (Or.inr (fle_of_feq fb))
  · exact take a r1 (by omega) ⟨a1, a2, a3⟩ a4 (fle_of_feq (feq_symm fa)) (fle_trans (rp _) b3.1 a3.1 (fle_of_feq (feq_symm fb)) (Int.not_lt.mp h5)) (Or.inl (fle_of_feq fa))
/-- the bound -/
def bnd (σ : MS) (b : Fq) : Prop := mL σ 3 = j64 b.1 ∧ mL σ 4 = j64 b.2 ∧ 0 < b.2 ∧ b.2 ≤ 198 ∧ 0 ≤ b.1 ∧ b.1 ≤ 1272150000
theorem radT_F {m s : Nat} (h : radT N w σ m) (hs : s < m) : ∃ r, tbl σ 2 3 s r ∧ feq r (radF N w s) := by
  obtain ⟨r, h1, h2⟩ := h s hs
  exact ⟨r, h1, isRad_F h2⟩
theorem M_laysBound_eq {k : Int} (hN : mN σ N) (hf : far (nN N) (mA σ 4) (dN N)) (hc : cnN N) (hn : 0 < eN N) (hk : 1 ≤ k) (hk3 : k ≤ 3) (hF : 4294967296 < F) :
    Rt (M_laysBound F σ (i32 k)) (fun τ => kp [3, 4] [0, 1, 2, 3, 4] [5] [0, 1, 2, 3, 4, 5] σ τ ∧ lcI N (wS N 0) τ ∧ radT N (wS N 0) τ (2 ^ nN N) ∧ twoT N (wS N 0) τ (2 ^ nN N) ∧ ∃ b, bnd τ b ∧ isK (radF N (wS N 0)) k.toNat (allN N) b) := by
  have p8 := pow8 hN.2
  have rp := fun a => (radF_pos N (wS N 0) a).1
  have hal : allN N < 2 ^ nN N := by unfold allN; omega
  unfold M_laysBound
  refine Rt.bind (M_laysRadii_eq hN hf hc hn hF) ?_
  rintro τ ⟨k1, h1, h2⟩
  refine Rt.bind (M_laysTwo_eq h1.1 h2 hF) ?_
  rintro υ ⟨k2, h3⟩
  have h1' := h1.kp k2
  have h2' := h2.kp k2
  rw [M_many_eq h1'.1]
  simp only [Option.bind_eq_bind, Option.bind_some, i_c1, i_c31, i_all hN.2]
  simp (disch := omega) only [i_le, i_lt, i_eq]
  have r0 : ∀ a, a < 2 ^ nN N → ∃ r, isRad N (wS N 0) a r := fun a ha => by obtain ⟨r, -, h⟩ := h2 a ha; exact ⟨r, h⟩
  have z0 : ∀ x : Fq, 0 < x.2 → 0 ≤ x.1 → atM (radF N (wS N 0)) x 0 := by
    intro x hx hx1
    obtain ⟨r, hr⟩ := r0 0 (by omega)
    have e := isRad_F hr
    have z := rad_zero hr
    unfold feq at e
    rw [z, Int.zero_mul] at e
    have q : (radF N (wS N 0) 0).1 = 0 := by
      rcases Int.mul_eq_zero.mp e.symm with e | e
      · exact e
      · have := (isRad_pos hr).1; omega
    unfold atM fle
    rw [q, Int.zero_mul]
    exact Int.mul_nonneg hx1 (Int.le_of_lt (rp 0))
  -- the loop for three centers
  have loop : ∀ (φ : MS) (b : Fq), kp [] [3, 4] [] [] υ φ → bnd φ b → (k = 1 → isK (radF N (wS N 0)) 1 (allN N) b) → (k ≠ 1 → isK (radF N (wS N 0)) 2 (allN N) b) →
      Rt (M_laysBound_67 F (i32 k) (i32 (allN N)) F (i32 0) φ) (fun τ => kp [3, 4] [0, 1, 2, 3, 4] [5] [0, 1, 2, 3, 4, 5] σ τ ∧ lcI N (wS N 0) τ ∧ radT N (wS N 0) τ (2 ^ nN N) ∧ twoT N (wS N 0) τ (2 ^ nN N) ∧ ∃ b, bnd τ b ∧ isK (radF N (wS N 0)) k.toNat (allN N) b) := by
    intro φ b q1 q2 q3 q4
    have post : ∀ (ψ : MS) (b : Fq), kp [] [3, 4] [] [] υ ψ → bnd ψ b → isK (radF N (wS N 0)) k.toNat (allN N) b → Rt (some ψ) (fun τ => kp [3, 4] [0, 1, 2, 3, 4] [5] [0, 1, 2, 3, 4, 5] σ τ ∧ lcI N (wS N 0) τ ∧ radT N (wS N 0) τ (2 ^ nN N) ∧ twoT N (wS N 0) τ (2 ^ nN N) ∧ ∃ b, bnd τ b ∧ isK (radF N (wS N 0)) k.toNat (allN N) b) := by
      intro ψ b u1 u2 u3
      refine Rt.some ⟨kp.tr k1.le (kp.tr k2.le u1.le), h1'.kp u1, h2'.kp u1, fun s hs => ?_, b, u2, u3⟩
      obtain ⟨t, t1, t2⟩ := h3 s hs
      exact ⟨t, t1.kp u1 (by decide) (by decide), t2⟩
    by_cases hk' : k = 3
    · subst hk'
      have q5 := q4 (by omega)
      refine Rt.loop (ι := Nat) (fun a x ψ => x = i32 a ∧ a ≤ 2 ^ nN N ∧ kp [] [3, 4] [] [] υ ψ ∧ ∃ b, bnd ψ b ∧ dv (atM (radF N (wS N 0)) b) 3 (allN N) ∧ ∀ c t, c < a → isK (radF N (wS N 0)) 2 (allN N ^^^ c) t → fle b (radF N (wS N 0) c) ∨ fle b t) (fun a => 2 ^ nN N - a) ?_ F 0 _ _ ⟨rfl, by omega, q1, b, q2, dv_more (z0 b q2.2.2.1 q2.2.2.2.2.1) ((q5.2 b q5.1).mp (fle_refl _)), fun c t hc => by omega⟩ (by omega)
      rintro n a _ ψ ⟨rfl, ha, u1, b, u2, u3, u4⟩ ih
      unfold M_laysBound_67
      simp (disch := omega) only [i_c0, i_c1, i_c2, i_c3, i_c4, i_c5, i_c6, i_c8, i_c9, i_c10, i_c12, i_c16, i_c17, i_c18, i_c31, i_c32, i_c45, i_c48, i_c50, i_c54, i_c55, i_c57, i_c58, i_c59, i_c61, i_c64, i_c73, i_c118, i_c119, i_c120, i_c126, i_c365, i_c1000, i_cFAR, i_neg, i_le, i_lt, i_eq]
      refine Rt.ite (fun h => ?_) (fun h => ?_)
      · refine post ψ b u1 u2 ?_
        have hw : ∀ c, sub c (allN N) → ∃ t, isK (radF N (wS N 0)) 2 (allN N ^^^ c) t := fun c hc => by
          obtain ⟨t, -, t2⟩ := h3 (allN N ^^^ c) (by have := sub_le (xr_sub hc); omega)
          exact ⟨t, t2⟩
        refine isK_three (two := fun c => kRad (radF N (wS N 0)) 2 (allN N ^^^ c)) rp (fun c hc => ?_) u2.2.2.1 u3 (fun c hc => ?_)
        · obtain ⟨t, ht⟩ := hw c hc; exact (kRad_of ht).2
        · obtain ⟨t, ht⟩ := hw c hc
          exact u4 c _ (by have := sub_le hc; omega) (kRad_of ht).2
      rw [if_pos trivial]
      have ha' : a < 2 ^ nN N := by omega
      have hsub : sub a (allN N) := sub_all ha'
      have hxr := sub_le (xr_sub hsub)
      rw [i_andn, andn_sub hsub]
      obtain ⟨r, ⟨a1, a2, a3⟩, a4⟩ := radT_F (h2'.kp u1) ha'
      obtain ⟨t, ⟨b1, b2, b3⟩, b4⟩ := h3 (allN N ^^^ a) (by omega)
      rw [← u1.2.2.2 4 (by decide)] at b1
      rw [← u1.2.2.2 5 (by decide)] at b2
      obtain ⟨d1, d2, d3⟩ := u2
      have m1 := tbl_mul a3 b3
      have m2 := tbl_mul b3 a3
      have m3 := tbl_mul a3 d3
      have m4 := tbl_mul d3 a3
      have m5 := tbl_mul b3 d3
      have m6 := tbl_mul d3 b3
      simp (disch := omega) only [rdL_i, Int.toNat_natCast, a1, a2, b1, b2, Option.bind_eq_bind, Option.bind_some, j_add, j_sub, j_mul, j_neg, j_le, j_lt, j_eq]
      -- the worse one becomes the bound, if it is less
      have put : ∀ v : Fq, (0 < v.2 ∧ v.2 ≤ 198 ∧ 0 ≤ v.1 ∧ v.1 ≤ 1272150000) → fle (radF N (wS N 0) a) v → fle t v → (fle v (radF N (wS N 0) a) ∨ fle v t) →
          Rt (M_laysBound_172 F (M_laysBound_67 F (i32 3) (i32 (allN N)) n) (i32 3) (i32 (allN N)) (i32 a) (j64 v.1) (j64 v.2) ψ) (fun τ => kp [3, 4] [0, 1, 2, 3, 4] [5] [0, 1, 2, 3, 4, 5] σ τ ∧ lcI N (wS N 0) τ ∧ radT N (wS N 0) τ (2 ^ nN N) ∧ twoT N (wS N 0) τ (2 ^ nN N) ∧ ∃ b, bnd τ b ∧ isK (radF N (wS N 0)) (3 : Int).toNat (allN N) b) := by
        intro v v1 f1 f2 f3
        have m7 := tbl_mul v1 d3
        have m8 := tbl_mul d3 v1
        have cmp : ∀ (b' : Fq), 0 < b'.2 → fle b' v → ∀ t', isK (radF N (wS N 0)) 2 (allN N ^^^ a) t' → fle b' (radF N (wS N 0) a) ∨ fle b' t' := by
          intro b' hb' hf t' ht'
          rcases f3 with f3 | f3
          · exact Or.inl (fle_trans hb' v1.1 (rp a) hf f3)
          · exact Or.inr (fle_trans hb' b3.1 ht'.1 (fle_trans hb' v1.1 b3.1 hf f3) (fle_of_feq (isK_uniq b4 ht')))
        unfold M_laysBound_172 M_laysBound_204
        rw [d1, d2]
        simp (disch := omega) only [j_add, j_sub, j_mul, j_neg, j_le, j_lt, j_eq, i_c0, i_c1, i_c2, i_c3, i_c4, i_c5, i_c6, i_c8, i_c9, i_c10, i_c12, i_c16, i_c17, i_c18, i_c31, i_c32, i_c45, i_c48, i_c50, i_c54, i_c55, i_c57, i_c58, i_c59, i_c61, i_c64, i_c73, i_c118, i_c119, i_c120, i_c126, i_c365, i_c1000, i_cFAR, i_add, i_sub, i_mul, i_neg, Option.bind_eq_bind, Option.bind_some]
        refine Rt.ite (fun h5 => ?_) (fun h5 => ?_)
        · refine ih (a + 1) _ _ ⟨rfl, by omega, u1, b, ⟨d1, d2, d3⟩, u3, fun c t' hc ht' => ?_⟩ (by omega)
          by_cases eq : c = a
          · subst eq; exact cmp b d3.1 h5 t' ht'
          · exact u4 c t' (by omega) ht'
        · refine ih (a + 1) _ _ ⟨rfl, by omega, kp.tr u1 (kp.tr kp.sL kp.sL), v, ⟨rfl, rfl, v1⟩, ⟨a, hsub, f1, (b4.2 v v1.1).mp f2⟩, fun c t' hc ht' => ?_⟩ (by omega)
          by_cases eq : c = a
          · subst eq; exact cmp v v1.1 (fle_refl _) t' ht'
          · have hl : fle v b := Int.le_of_lt (Int.not_le.mp h5)
            rcases u4 c t' (by omega) ht' with h6 | h6
            · exact Or.inl (fle_trans v1.1 d3.1 (rp c) hl h6)
            · exact Or.inr (fle_trans v1.1 d3.1 ht'.1 hl h6)
      refine Rt.ite (fun h5 => ?_) (fun h5 => ?_)
      · unfold M_laysBound_120 M_laysBound_146
        rw [show (-1 : Int32) = i32 (-1) from rfl, i_andn, andn_sub hsub]
        rw [if_pos (show i32 0 = 0 from rfl)]
        simp (disch := omega) only [rdL_i, Int.toNat_natCast, b1, Option.bind_eq_bind, Option.bind_some]
        rw [if_pos (show i32 0 = 0 from rfl)]
        simp (disch := omega) only [rdL_i, Int.toNat_natCast, b2, Option.bind_eq_bind, Option.bind_some]
        exact put t b3 (fle_trans (rp a) a3.1 b3.1 (fle_of_feq (feq_symm a4)) (fle_of_flt h5)) (fle_refl _) (Or.inr (fle_refl _))
      · unfold M_laysBound_120 M_laysBound_146
        rw [if_neg (show ¬ i32 1 = 0 by decide)]
        simp (disch := omega) only [rdL_i, Int.toNat_natCast, a1, Option.bind_eq_bind, Option.bind_some]
        rw [if_neg (show ¬ i32 1 = 0 by decide)]
        simp (disch := omega) only [rdL_i, Int.toNat_natCast, a2, Option.bind_eq_bind, Option.bind_some]
        exact put r a3 (fle_of_feq (feq_symm a4)) (Int.not_lt.mp h5) (Or.inl (fle_of_feq a4))
    · obtain ⟨F', rfl⟩ : ∃ F', F = F' + 1 := ⟨F - 1, by omega⟩
      unfold M_laysBound_67
      simp (disch := omega) only [i_c0, i_c1, i_c2, i_c3, i_c4, i_c5, i_c6, i_c8, i_c9, i_c10, i_c12, i_c16, i_c17, i_c18, i_c31, i_c32, i_c45, i_c48, i_c50, i_c54, i_c55, i_c57, i_c58, i_c59, i_c61, i_c64, i_c73, i_c118, i_c119, i_c120, i_c126, i_c365, i_c1000, i_cFAR, i_le, i_lt, i_eq]
      rw [if_neg (by omega), if_neg hk']
      refine post φ b q1 q2 ?_
      by_cases hk1 : k = 1
      · subst hk1; exact q3 rfl
      · obtain rfl : k = 2 := by omega
        exact q4 hk1
  obtain ⟨r, ⟨a1, a2, a3⟩, a4⟩ := radT_F h2' hal
  obtain ⟨t, ⟨b1, b2, b3⟩, b4⟩ := h3 (allN N) hal
  refine Rt.ite (fun h => ?_) (fun h => ?_)
  · simp (disch := omega) only [rdL_i, Int.toNat_natCast, a1, Option.bind_eq_bind, Option.bind_some]
    unfold M_laysBound_38
    simp (disch := omega) only [Option.bind_eq_bind, Option.bind_some, i_c0, i_c1, i_c2, i_c3, i_c4, i_c5, i_c6, i_c8, i_c9, i_c10, i_c12, i_c16, i_c17, i_c18, i_c31, i_c32, i_c45, i_c48, i_c50, i_c54, i_c55, i_c57, i_c58, i_c59, i_c61, i_c64, i_c73, i_c118, i_c119, i_c120, i_c126, i_c365, i_c1000, i_cFAR, i_le, i_lt, i_eq, mB_sL, rdL_i, Int.toNat_natCast, a2]
    rw [if_pos h]
    unfold M_laysBound_62
    simp only [Option.bind_eq_bind, Option.bind_some, i_c0]
    exact loop _ r (kp.tr kp.sL kp.sL) ⟨rfl, rfl, a3⟩ (fun _ => isK_feq (isK_one (rp _)) a3.1 (feq_symm a4)) (fun z => absurd h z)
  · simp (disch := omega) only [rdL_i, Int.toNat_natCast, b1, Option.bind_eq_bind, Option.bind_some]
    unfold M_laysBound_38
    simp (disch := omega) only [Option.bind_eq_bind, Option.bind_some, i_c0, i_c1, i_c2, i_c3, i_c4, i_c5, i_c6, i_c8, i_c9, i_c10, i_c12, i_c16, i_c17, i_c18, i_c31, i_c32, i_c45, i_c48, i_c50, i_c54, i_c55, i_c57, i_c58, i_c59, i_c61, i_c64, i_c73, i_c118, i_c119, i_c120, i_c126, i_c365, i_c1000, i_cFAR, i_le, i_lt, i_eq, mB_sL, rdL_i, Int.toNat_natCast, b2]
    rw [if_neg h]
    unfold M_laysBound_62
    simp only [Option.bind_eq_bind, Option.bind_some, i_c0]
    exact loop _ t (kp.tr kp.sL kp.sL) ⟨rfl, rfl, b3⟩ (fun z => absurd z h) (fun _ => b4)
theorem M_isEnough_eq {s : Nat} {k : Int} {b : Fq} (hr : radT N w σ (2 ^ nN N)) (ht : twoT N w σ (2 ^ nN N)) (hb : bnd σ b) (hN : okN N) (hs : s < 2 ^ nN N) (hk : 1 ≤ k) (hk2 : k ≤ 2) :
    M_isEnough σ (i32 s) (i32 k) = some (i32 (tr01 (dv (atM (radF N w) b) k.toNat s))) := by
  have p8 := pow8 hN
  obtain ⟨r, ⟨a1, a2, a3⟩, a4⟩ := radT_F hr hs
  obtain ⟨t, ⟨b1, b2, b3⟩, b4⟩ := ht s hs
  obtain ⟨d1, d2, d3⟩ := hb
  have m3 := tbl_mul a3 d3
  have m4 := tbl_mul d3 a3
  have m5 := tbl_mul b3 d3
  have m6 := tbl_mul d3 b3
  unfold M_isEnough
  rw [d1, d2]
  simp (disch := omega) only [i_c0, i_c1, i_c2, i_c3, i_c4, i_c5, i_c6, i_c8, i_c9, i_c10, i_c12, i_c16, i_c17, i_c18, i_c31, i_c32, i_c45, i_c48, i_c50, i_c54, i_c55, i_c57, i_c58, i_c59, i_c61, i_c64, i_c73, i_c118, i_c119, i_c120, i_c126, i_c365, i_c1000, i_cFAR, i_le, i_lt, i_eq, rdL_i, Int.toNat_natCast, a1, a2, b1, b2, Option.bind_eq_bind, Option.bind_some, j_add, j_sub, j_mul, j_neg, j_le, j_lt, j_eq]
  by_cases h : k = 1
  · rw [if_pos h]
    subst h
    have e : dv (atM (radF N w) b) (1 : Int).toNat s ↔ fle r b := dv_one.trans (fle_congl a3.1 (radF_pos N w s).1 d3.1 a4).symm
    by_cases h2 : b.1 * r.2 < r.1 * b.2
    · rw [if_pos h2, tr01_neg (fun z => absurd (e.mp z) (Int.not_le.mpr h2))]
    · rw [if_neg h2, tr01_pos (e.mpr (Int.not_lt.mp h2))]
  · rw [if_neg h]
    obtain rfl : k = 2 := by omega
    have e : fle t b ↔ dv (atM (radF N w) b) (2 : Int).toNat s := b4.2 b d3.1
    by_cases h2 : b.1 * t.2 < t.1 * b.2
    · rw [if_pos h2, tr01_neg (fun z => absurd (e.mpr z) (Int.not_le.mpr h2))]
    · rw [if_neg h2, tr01_pos (e.mp (Int.not_lt.mp h2))]
/-- the best so far, among the first m numbers -/
def greK (A : Nat → Prop) (s k m b : Nat) : Prop := (gOk A s k b ∨ b = 0 ∧ ∀ c, c < m → ¬ gOk A s k c) ∧ ∀ c, c < m → gOk A s k c → c ≤ b
theorem M_groupTold_eq {k i : Int} {b : Fq} (hN : mN σ N) (hr : radT N w σ (2 ^ nN N)) (ht : twoT N w σ (2 ^ nN N)) (hb : bnd σ b) (hd : dv (atM (radF N w) b) k.toNat (allN N)) (hk : 1 ≤ k) (hk3 : k ≤ 3) (hi : 0 ≤ i) (hik : i < k) (hF : 4294967296 < F) :
    Rt (M_groupTold F σ (i32 k) (i32 i)) (fun v => ∃ g : Nat, v = i32 g ∧ grI (atM (radF N w) b) k.toNat i.toNat 0 (allN N) g) := by
  have p8 := pow8 hN.2
  have hal : allN N < 2 ^ nN N := by unfold allN; omega
  unfold M_groupTold
  rw [M_many_eq hN]
  simp only [Option.bind_eq_bind, Option.bind_some, i_c1, i_c31, i_all hN.2, i_c0]
  refine Rt.loop (ι := Nat) (fun j x y => y = i32 j ∧ (j : Int) ≤ i ∧ ∃ s : Nat, x = i32 s ∧ s < 2 ^ nN N ∧ dv (atM (radF N w) b) (k.toNat - j) s ∧ ∀ g, grI (atM (radF N w) b) k.toNat (i.toNat - j) j s g → grI (atM (radF N w) b) k.toNat i.toNat 0 (allN N) g) (fun j => 4 - j) ?_ F 0 _ _ ⟨rfl, by omega, allN N, rfl, hal, hd, fun g h => h⟩ (by omega)
  rintro n j _ _ ⟨rfl, hj, s, rfl, hs, hdv, hg⟩ ih
  unfold M_groupTold_12
  simp (disch := omega) only [i_c0, i_c1, i_c2, i_c3, i_c4, i_c5, i_c6, i_c8, i_c9, i_c10, i_c12, i_c16, i_c17, i_c18, i_c31, i_c32, i_c45, i_c48, i_c50, i_c54, i_c55, i_c57, i_c58, i_c59, i_c61, i_c64, i_c73, i_c118, i_c119, i_c120, i_c126, i_c365, i_c1000, i_cFAR, i_add, i_sub, i_mul, i_neg, i_le, i_lt, i_eq]
  refine Rt.ite (fun h => ?_) (fun h => ?_)
  · -- the last group: all that is left
    have ej : k.toNat - j = 1 := by omega
    have ei : i.toNat - j = 0 := by omega
    rw [ej] at hdv
    refine Rt.some ⟨s, rfl, hg s ?_⟩
    rw [ei]
    show gre _ s (k.toNat - 1 - j) s
    rw [show k.toNat - 1 - j = 0 by omega]
    exact ⟨⟨sub_refl s, dv_one.mp hdv, Nat.xor_self s⟩, fun c hc => sub_le hc.1⟩
  refine Rt.loop (ι := Nat) (fun a x y => y = i32 a ∧ a ≤ s + 1 ∧ ∃ c : Nat, x = i32 c ∧ c ≤ s ∧ greK (atM (radF N w) b) s (k.toNat - 1 - j) a c) (fun a => s + 1 - a) ?_ F 0 _ _ ⟨rfl, by omega, 0, rfl, by omega, Or.inr ⟨rfl, fun c hc => by omega⟩, fun c hc => by omega⟩ (by omega)
  rintro n2 a _ _ ⟨rfl, ha, c, rfl, hc, hc1, hc2⟩ ih2
  unfold M_groupTold_26
  simp (disch := omega) only [i_le, i_lt, i_eq]
  refine Rt.ite (fun h3 => ?_) (fun h3 => ?_)
  · obtain rfl : a = s + 1 := by omega
    have gr : gre (atM (radF N w) b) s (k.toNat - 1 - j) c := by
      rcases hc1 with h | ⟨rfl, h⟩
      · exact ⟨h, fun c' hc' => hc2 c' (by have := sub_le hc'.1; omega) hc'⟩
      · exfalso
        obtain ⟨q, hq⟩ : ∃ q, k.toNat - j = q + 1 := ⟨k.toNat - j - 1, by omega⟩
        rw [hq] at hdv
        obtain ⟨a, a1, a2, a3⟩ := hdv
        exact h a (by have := sub_le a1; omega) ⟨a1, a2, by rw [show k.toNat - 1 - j = q by omega]; exact a3⟩
    unfold M_groupTold_85
    simp (disch := omega) only [i_c0, i_c1, i_c2, i_c3, i_c4, i_c5, i_c6, i_c8, i_c9, i_c10, i_c12, i_c16, i_c17, i_c18, i_c31, i_c32, i_c45, i_c48, i_c50, i_c54, i_c55, i_c57, i_c58, i_c59, i_c61, i_c64, i_c73, i_c118, i_c119, i_c120, i_c126, i_c365, i_c1000, i_cFAR, i_add, i_sub, i_mul, i_neg, Option.bind_eq_bind, Option.bind_some, i_le, i_lt, i_eq]
    refine Rt.ite (fun h4 => ?_) (fun h4 => ?_)
    · refine Rt.some ⟨c, rfl, hg c ?_⟩
      rw [show i.toNat - j = 0 by omega]; exact gr
    · have hsub := gr.1.1
      rw [i_andn, andn_sub hsub]
      refine ih (j + 1) _ _ ⟨rfl, by omega, s ^^^ c, rfl, by have := sub_le (xr_sub hsub); omega, ?_, fun g hg' => hg g ?_⟩ (by omega)
      · have := gr.1.2.2; rw [show k.toNat - (j + 1) = k.toNat - 1 - j by omega]; exact this
      · rw [show i.toNat - j = (i.toNat - (j + 1)) + 1 by omega]
        exact ⟨c, gr, hg'⟩
  have ha' : a ≤ s := by omega
  have no : ¬ gOk (atM (radF N w) b) s (k.toNat - 1 - j) a → Rt (M_groupTold_75 F (M_groupTold_12 F σ (i32 k) (i32 i) n) (M_groupTold_26 F (M_groupTold_12 F σ (i32 k) (i32 i) n) σ (i32 k) (i32 i) (i32 s) (i32 j) n2) σ (i32 k) (i32 i) (i32 s) (i32 j) (i32 c) (i32 a)) (fun v => ∃ g : Nat, v = i32 g ∧ grI (atM (radF N w) b) k.toNat i.toNat 0 (allN N) g) := by
    intro hno
    unfold M_groupTold_75 M_groupTold_77
    simp only [i_c0, i_c1, i_c2, i_c3, i_c4, i_c5, i_c6, i_c8, i_c9, i_c10, i_c12, i_c16, i_c17, i_c18, i_c31, i_c32, i_c45, i_c48, i_c50, i_c54, i_c55, i_c57, i_c58, i_c59, i_c61, i_c64, i_c73, i_c118, i_c119, i_c120, i_c126, i_c365, i_c1000, i_cFAR, i_add, i_sub, i_mul, i_neg, Option.bind_eq_bind, Option.bind_some]
    refine ih2 (a + 1) _ _ ⟨rfl, by omega, c, rfl, hc, ?_, fun d hd hg => ?_⟩ (by omega)
    · rcases hc1 with h | ⟨h1, h2⟩
      · exact Or.inl h
      · refine Or.inr ⟨h1, fun d hd hg => ?_⟩
        by_cases eq : d = a
        · subst eq; exact hno hg
        · exact h2 d (by omega) hg
    · by_cases eq : d = a
      · subst eq; exact absurd hg hno
      · exact hc2 d (by omega) hg
  have an := andn_le a s
  simp (disch := omega) only [i_c0, i_c1, i_c2, i_c3, i_c4, i_c5, i_c6, i_c8, i_c9, i_c10, i_c12, i_c16, i_c17, i_c18, i_c31, i_c32, i_c45, i_c48, i_c50, i_c54, i_c55, i_c57, i_c58, i_c59, i_c61, i_c64, i_c73, i_c118, i_c119, i_c120, i_c126, i_c365, i_c1000, i_cFAR, i_neg, i_andn, i_le, i_lt, i_eq]
  refine Rt.ite (fun h4 => ?_) (fun h4 => no (fun z => h4 (by rw [andn_zero.mpr z.1]; rfl)))
  have hsub : sub a s := andn_zero.mp (by omega)
  rw [M_isEnough_eq hr ht hb hN.2 (by omega) (by omega) (by omega)]
  simp only [Option.bind_eq_bind, Option.bind_some]
  refine Rt.ite (fun h5 => no (fun z => tr01_n h5 (dv_one.mpr z.2.1))) (fun h5 => ?_)
  rw [andn_sub hsub]
  simp only [i_add, i_sub, i_mul, i_neg]
  rw [M_isEnough_eq hr ht hb hN.2 (by have := sub_le (xr_sub hsub); omega) (by omega) (by omega)]
  simp only [Option.bind_eq_bind, Option.bind_some]
  have ek : (k - 1 - (j : Int)).toNat = k.toNat - 1 - j := by omega
  rw [ek]
  refine Rt.ite (fun h6 => no (fun z => tr01_n h6 z.2.2)) (fun h6 => ?_)
  unfold M_groupTold_77
  simp only [i_c0, i_c1, i_c2, i_c3, i_c4, i_c5, i_c6, i_c8, i_c9, i_c10, i_c12, i_c16, i_c17, i_c18, i_c31, i_c32, i_c45, i_c48, i_c50, i_c54, i_c55, i_c57, i_c58, i_c59, i_c61, i_c64, i_c73, i_c118, i_c119, i_c120, i_c126, i_c365, i_c1000, i_cFAR, i_add, i_sub, i_mul, i_neg, Option.bind_eq_bind, Option.bind_some]
  have ok : gOk (atM (radF N w) b) s (k.toNat - 1 - j) a := ⟨hsub, dv_one.mp (tr01_y h5), tr01_y h6⟩
  exact ih2 (a + 1) _ _ ⟨rfl, by omega, a, rfl, by omega, Or.inl ok, fun d hd _ => by omega⟩ (by omega)
end MR
