/-! THE MODEL's CALLS: medians, several centers, texts -/
section MY
variable {σ : MS} {N : Net} {F : Nat} {A : Ab} {w : Nat → Int}
theorem M_medianTold_eq {e : Nat} {x : Fq} {v : Int} (hN : okN N) (hc : cnN N) (hw9 : okw9 (nN N) w) (hb : bstA σ e x (cos_ N w e x)) (h5 : x.2 ≤ 198) (h6 : ctrP N (cos_ N w) e x) (h0 : 0 ≤ v) (h4 : v ≤ 4) (hF : 4294967296 < F) : M_medianTold F σ (i32 v) = some (i32 (medA N w v)) := by
  have px := h6.2.1
  have ox : okx x := by
    obtain ⟨a1, a2, a3, a4, a5⟩ := hN.2.2.2.2.1 e h6.1
    have m := mul_rng (a := (ed N e).2.2) (b := x.2) (A := 50) (B := 198) (by omega) a5 (Int.le_of_lt px.1) h5
    exact ⟨px.1, by omega, px.2.1, by have := px.2.2; omega⟩
  have hr := cos_rng hN hc hw9 h6.1 ox px.2.2
  unfold M_medianTold medA
  simp (disch := omega) only [i_c0, i_c1, i_c2, i_c3, i_c4, i_c5, i_c6, i_c8, i_c9, i_c10, i_c12, i_c16, i_c17, i_c18, i_c31, i_c32, i_c45, i_c48, i_c50, i_c54, i_c55, i_c57, i_c58, i_c59, i_c61, i_c64, i_c73, i_c118, i_c119, i_c120, i_c126, i_c365, i_c1000, i_cFAR, i_le, i_lt, i_eq, i_add, i_sub, i_mul, i_neg]
  by_cases h : v < 3
  · rw [if_neg (by omega), if_pos h, M_centerTold_eq hb ox h6 h0 (by omega) hF]; rfl
  · rw [if_pos (by omega), if_neg h, hb.2.2.2, hb.2.2.1, M_reduced_eq hr.1 (by omega) ox.1 (by have := ox.2.1; omega) (by omega) (by omega) (by have := ox.2.1; have := ox.1; omega)]
    rw [valT_of h6 (fun e x hx hcp => ?_)]
    · rfl
    · have : 0 ≤ csF (fun i => w i * awy N i e x) (nN N) := by
        have go : ∀ m, m ≤ nN N → 0 ≤ csF (fun i => w i * awy N i e x) m := by
          intro m
          induction m with
          | zero => intro _; exact Int.le_refl _
          | succ m ih =>
            intro hm
            have := ih (by omega)
            have := Int.mul_nonneg (hw9 m (by omega)).1 (awy_nn (i := m) hN hcp.1 hcp.2.1)
            simp only [csF]; omega
        exact go _ (Nat.le_refl _)
      exact this
theorem M_median_ok {v : Int} (hR : mR σ A) (hv : rng v) (hF : 4294967296 < F) : Rt (M_median F σ (i32 v)) (mOK (sp_median A v)) := by
  unfold M_median M_median_26 sp_median
  refine Rt.tst (M_within_t (lo := 0) (hi := 4) hv (by decide) (by decide)) (fun h => ?_) (fun h => ?_)
  · rw [ifc_pos h]; exact ref_no1 hR
  rw [ifc_neg (fun z => z h)]
  obtain ⟨τ, e1, e2, e3⟩ := M_canHave_eq hR.1 hF
  have hRt := hR.kp e2
  refine Rt.tst2 e1 (fun h3 => ?_) (fun h3 => ?_)
  · rw [ifc_pos h3]; exact ref_no2 hRt
  · rw [ifc_neg (fun z => z h3)]
    have hR1 := hRt.kp (k1 (v := i32 0))
    obtain ⟨υ, u1, u2, u3, u4⟩ := lays_w (s := 0) (F := F) hR1 (by rw [mA_sI]; exact e3 h3) rfl hF
    have hw9 := wS_ok hR.1.2 (s := 0) (by omega) (by omega)
    refine ref_yes0 ?_
    show Rt ((M_weighs F (sI τ 1 (i32 0)) (i32 0)) >>= _) _
    rw [u1]
    refine Rt.let (Rt.bind (M_medians_eq u3 h3.2 hw9 h3.1 (by omega)) ?_)
    rintro φ ⟨q1, e, x, q2, q3, q4⟩
    rw [M_medianTold_eq hR.1.2 h3.2 hw9 q2 q3 q4 h.1 h.2 hF, wS_0]
    exact Rt.let (Rt.some (mOK_yes u2 q1.le (by rw [q1.1 1 (by decide)]; exact u4)))
theorem kpB {τ υ : MS} (h : kp [3, 4] [0, 1, 2, 3, 4] [5] [0, 1, 2, 3, 4, 5] τ υ) : kpT τ υ := h.le
theorem M_radiusOf_ok {k part : Int} (hR : mR σ A) (hk : rng k) (hp : rng part) (hF : 4294967296 < F) : Rt (M_radiusOf F σ (i32 k) (i32 part)) (mOK (sp_radiusOf A k part)) := by
  unfold M_radiusOf M_radiusOf_19 M_radiusOf_35 sp_radiusOf
  refine Rt.tst (M_within_t (lo := 1) (hi := 3) hk (by decide) (by decide)) (fun h => ?_) (fun h => ?_)
  · rw [ifc_pos (fun z => h z.1)]; exact ref_no1 hR
  refine Rt.tst (M_within_t (lo := 0) (hi := 1) hp (by decide) (by decide)) (fun h2 => ?_) (fun h2 => ?_)
  · rw [ifc_pos (fun z => h2 z.2)]; exact ref_no1 hR
  rw [ifc_neg (fun z => z ⟨h, h2⟩)]
  obtain ⟨τ, e1, e2, e3⟩ := M_canHave_eq hR.1 hF
  have hRt := hR.kp e2
  refine Rt.tst2 e1 (fun h3 => ?_) (fun h3 => ?_)
  · rw [ifc_pos h3]; exact ref_no2 hRt
  · rw [ifc_neg (fun z => z h3)]
    have hR1 := hRt.kp (k1 (v := i32 0))
    refine ref_yes0 (Rt.bind (M_laysBound_eq hR1.1 (by show far _ (mA (sI τ 1 (i32 0)) 4) _; rw [mA_sI]; exact e3 h3) h3.2 h3.1 h.1 h.2 hF) ?_)
    rintro φ ⟨q1, q2, q3, q4, b, q5, q6⟩
    obtain ⟨b1, b2, b3, b4, b5, b6⟩ := q5
    show Rt ((M_reduced F (mL φ 3) (mL φ 4) (i32 part)) >>= _) _
    rw [b1, b2, M_reduced_eq b5 (by omega) b3 (by omega) h2.1 h2.2 (by omega)]
    rw [wS_0] at q6
    rw [kR_rdc q6 b5]
    exact Rt.let (Rt.some (mOK_yes hR1 (kpB q1) (by rw [q1.1 1 (by decide)]; rfl)))
theorem M_group_ok {k i : Int} (hR : mR σ A) (hk : rng k) (hi : rng i) (hF : 4294967296 < F) : Rt (M_group F σ (i32 k) (i32 i)) (mOK (sp_group A k i)) := by
  unfold M_group M_group_21 M_group_37 sp_group
  refine Rt.tst (M_within_t (lo := 1) (hi := 3) hk (by decide) (by decide)) (fun h => ?_) (fun h => ?_)
  · rw [ifc_pos (fun z => h z.1)]; exact ref_no1 hR
  rw [i_c1, i_sub]
  refine Rt.tst (M_within_t (lo := 0) (hi := k - 1) hi (by decide) ⟨by have := h.1; omega, by have := h.2; omega⟩) (fun h2 => ?_) (fun h2 => ?_)
  · rw [ifc_pos (fun z => h2 z.2)]; exact ref_no1 hR
  rw [ifc_neg (fun z => z ⟨h, h2⟩)]
  obtain ⟨τ, e1, e2, e3⟩ := M_canHave_eq hR.1 hF
  have hRt := hR.kp e2
  refine Rt.tst2 e1 (fun h3 => ?_) (fun h3 => ?_)
  · rw [ifc_pos h3]; exact ref_no2 hRt
  · rw [ifc_neg (fun z => z h3)]
    have hR1 := hRt.kp (k1 (v := i32 0))
    refine ref_yes0 (Rt.bind (M_laysBound_eq hR1.1 (by show far _ (mA (sI τ 1 (i32 0)) 4) _; rw [mA_sI]; exact e3 h3) h3.2 h3.1 h.1 h.2 hF) ?_)
    rintro φ ⟨q1, q2, q3, q4, b, q5, q6⟩
    refine Rt.bind (M_groupTold_eq q2.1 q3 q4 q5 ((q6.2 b q5.2.2.1).mp (fle_refl _)) h.1 h.2 h2.1 (by have := h2.2; omega) hF) ?_
    rintro _ ⟨g, rfl, hg⟩
    rw [wS_0] at q6 hg
    rw [grA_of q6 hg]
    exact Rt.some (mOK_yes hR1 (kpB q1) (by rw [q1.1 1 (by decide)]; rfl))
/-- the table of how many are needed -/
def cvK (A : Nat → Prop) (c : Nat → Nat) (m : Nat) : Prop := c 0 = 0 ∧ ∀ s, s ≠ 0 → s < m → (∀ a, a ≠ 0 → sub a s → A a → c s ≤ c (s ^^^ a) + 1) ∧ (c s = 9 ∨ ∃ a, a ≠ 0 ∧ sub a s ∧ A a ∧ c s = c (s ^^^ a) + 1)
theorem radF_z {s : Nat} (h : ∃ r, isRad N w s r ∧ r.1 = 0) {x : Fq} (hx : 0 ≤ x.1) : atM (radF N w) x s := by
  obtain ⟨r, hr, z⟩ := h
  have e := isRad_F hr
  unfold feq at e
  rw [z, Int.zero_mul] at e
  have q : (radF N w s).1 = 0 := by
    rcases Int.mul_eq_zero.mp e.symm with e | e
    · exact e
    · have := (isRad_pos hr).1; omega
  unfold atM fle
  rw [q, Int.zero_mul]
  exact Int.mul_nonneg hx (Int.le_of_lt (radF_pos N w s).1)
theorem M_covering_ok {p q : Int} (hR : mR σ A) (hp : rng p) (hq : rng q) (hF : 4294967296 < F) : Rt (M_covering F σ (i32 p) (i32 q)) (mOK (sp_covering A p q)) := by
  have p8 := pow8 hR.1.2
  have z1 := hR.1.2.sz.1
  unfold M_covering M_covering_16 M_covering_32 sp_covering
  refine Rt.ite (fun h => ?_) (fun h => ?_)
  · rw [i_c0, i_lt hp.1 hp.2 (by omega) (by omega)] at h
    rw [ifc_pos (fun z => by have := z.1; omega)]; exact ref_no1 hR
  rw [i_c0, i_lt hp.1 hp.2 (by omega) (by omega)] at h
  refine Rt.tst (M_within_t (lo := 1) (hi := 1000) hq (by decide) (by decide)) (fun h2 => ?_) (fun h2 => ?_)
  · rw [ifc_pos (fun z => h2 z.2)]; exact ref_no1 hR
  rw [ifc_neg (fun z => z ⟨by omega, h2⟩)]
  obtain ⟨τ, e1, e2, e3⟩ := M_canHave_eq hR.1 hF
  have hRt := hR.kp e2
  refine Rt.tst2 e1 (fun h3 => ?_) (fun h3 => ?_)
  · rw [ifc_pos h3]; exact ref_no2 hRt
  rw [ifc_neg (fun z => z h3)]
  have hR1 := hRt.kp (k1 (v := i32 0))
  refine ref_yes0 (Rt.bind (M_laysRadii_eq hR1.1 (by show far _ (mA (sI τ 1 (i32 0)) 4) _; rw [mA_sI]; exact e3 h3) h3.2 h3.1 hF) ?_)
  rintro φ ⟨q1, q2, q3⟩
  rw [wS_0] at q2 q3
  have kT : kpT (sI τ 1 (i32 0)) φ := q1.le
  have m1 : mI φ 1 = i32 0 := by rw [q1.1 1 (by decide)]; rfl
  have q1' := h2.1
  have q2' := h2.2
  simp only [i_c0, i_c1, i_c2, i_c3, i_c4, i_c5, i_c6, i_c8, i_c9, i_c10, i_c12, i_c16, i_c17, i_c18, i_c31, i_c32, i_c45, i_c48, i_c50, i_c54, i_c55, i_c57, i_c58, i_c59, i_c61, i_c64, i_c73, i_c118, i_c119, i_c120, i_c126, i_c365, i_c1000, i_cFAR]
  rw [stA_i (by omega) (by omega) (by omega)]
  refine Rt.let ?_
  have sing : ∀ i, i < nN A.1 → atM (radF A.1 (wN A.1)) (p, q) (2 ^ i) := by
    intro i hi
    obtain ⟨r, -, hr⟩ := q3 (2 ^ i) (Nat.pow_lt_pow_right (by decide) hi)
    exact radF_z ⟨r, hr, rad_single hR.1.2 h3.2 h3.1 hi hr⟩ (show 0 ≤ p by omega)
  refine Rt.loop (ι := Nat) (fun s x υ => x = i32 s ∧ 1 ≤ s ∧ s ≤ 2 ^ nN A.1 ∧ kp [] [] [6] [] φ υ ∧ ∃ c : Nat → Nat, (∀ t, t < s → mA υ 6 t = i32 (c t) ∧ c t ≤ 9) ∧ cvK (atM (radF A.1 (wN A.1)) (p, q)) c s) (fun s => 2 ^ nN A.1 - s) ?_ F 1 _ _ ⟨rfl, by omega, by omega, kp.sA, fun _ => 0, fun t ht => ?_, rfl, fun s h0 hs => by omega⟩ (by omega)
  rotate_left
  · obtain rfl : t = 0 := by omega
    exact ⟨by simp only [mA_sA, if_true, upd_at]; rfl, Nat.zero_le 9⟩
  rintro n s _ υ ⟨rfl, hs1, hs, k1', c, hc1, hc2⟩ ih
  have hNu := (q2.1).kp k1'
  unfold M_covering_53
  rw [M_many_eq hNu]
  simp only [Option.bind_eq_bind, Option.bind_some, i_c1, i_c31, i_shl z1]
  simp (disch := omega) only [i_le, i_lt, i_eq]
  refine Rt.ite (fun h4 => ?_) (fun h4 => ?_)
  · obtain rfl : s = 2 ^ nN A.1 := by omega
    unfold M_covering_166
    rw [M_many_eq hNu]
    simp only [Option.bind_eq_bind, Option.bind_some, i_c1, i_c31, i_all hR.1.2]
    have hal : allN A.1 < 2 ^ nN A.1 := by unfold allN; omega
    rw [rdI_i (by omega) (by omega) (by omega)]
    simp only [Option.bind_eq_bind, Option.bind_some, Int.toNat_natCast, (hc1 _ hal).1]
    have l := covT_lst (A := atM (radF A.1 (wN A.1)) (p, q)) (n := nN A.1) (c := c) hc2 z1 sing hal
    rw [cvA_of l]
    exact Rt.some (mOK_yes hR1 (kp.tr kT k1'.le) (by rw [k1'.1 1 (by decide)]; exact m1))
  have hs' : s < 2 ^ nN A.1 := by omega
  simp only [i_c9, i_c1]
  rw [stA_i (by omega) (by omega) (by omega)]
  simp only [Option.bind_eq_bind, Option.bind_some, Int.toNat_natCast]
  refine Rt.loop (ι := Nat) (fun a x ψ => x = i32 a ∧ 1 ≤ a ∧ a ≤ s + 1 ∧ kp [] [] [6] [] φ ψ ∧ ∃ v : Nat, v ≤ 9 ∧ mA ψ 6 s = i32 v ∧ (∀ t, t < s → mA ψ 6 t = i32 (c t)) ∧ (∀ b, b ≠ 0 → b < a → sub b s → atM (radF A.1 (wN A.1)) (p, q) b → v ≤ c (s ^^^ b) + 1) ∧ (v = 9 ∨ ∃ b, b ≠ 0 ∧ sub b s ∧ atM (radF A.1 (wN A.1)) (p, q) b ∧ v = c (s ^^^ b) + 1)) (fun a => s + 1 - a) ?_ F 1 _ _ ⟨rfl, by omega, by omega, kp.tr k1' kp.sA, 9, by omega, ?_, fun t ht => ?_, fun b b0 b1 => by omega, Or.inl rfl⟩ (by omega)
  rotate_left
  · simp only [mA_sA, if_true, upd_at]; rfl
  · simp only [mA_sA, if_true, upd_at]; rw [if_neg (by omega)]; exact (hc1 t ht).1
  rintro n2 a _ ψ ⟨rfl, ha1, ha, k2', v, hv9, hv, ht, hb1, hb2⟩ ih2
  unfold M_covering_74
  simp (disch := omega) only [i_le, i_lt, i_eq]
  refine Rt.ite (fun h5 => ?_) (fun h5 => ?_)
  · obtain rfl : a = s + 1 := by omega
    unfold M_covering_160
    simp only [i_c0, i_c1, i_c2, i_c3, i_c4, i_c5, i_c6, i_c8, i_c9, i_c10, i_c12, i_c16, i_c17, i_c18, i_c31, i_c32, i_c45, i_c48, i_c50, i_c54, i_c55, i_c57, i_c58, i_c59, i_c61, i_c64, i_c73, i_c118, i_c119, i_c120, i_c126, i_c365, i_c1000, i_cFAR, i_add, i_sub, i_mul, i_neg, Option.bind_eq_bind, Option.bind_some]
    refine ih (s + 1) _ _ ⟨rfl, by omega, by omega, k2', fun t => if t = s then v else c t, fun t ht' => ?_, ?_, fun t t0 ht' => ?_⟩ (by omega)
    · by_cases e : t = s
      · simp only [if_pos e]; exact ⟨by rw [e]; exact hv, hv9⟩
      · simp only [if_neg e]; exact ⟨ht t (by omega), (hc1 t (by omega)).2⟩
    · simp only [if_neg (show (0 : Nat) ≠ s by omega)]; exact hc2.1
    · have xl : ∀ a, a ≠ 0 → sub a t → t ^^^ a ≠ s := fun a a0 hsub => by have := xr_lt hsub a0; omega
      by_cases e : t = s
      · subst e
        simp only [if_pos rfl]
        refine ⟨fun a a0 hsub hA => ?_, ?_⟩
        · rw [if_neg (xl a a0 hsub)]; exact hb1 a a0 (by have := sub_le hsub; omega) hsub hA
        · rcases hb2 with h | ⟨b, b0, b1, b2, b3⟩
          · exact Or.inl h
          · exact Or.inr ⟨b, b0, b1, b2, by rw [if_neg (xl b b0 b1)]; exact b3⟩
      · simp only [if_neg e]
        obtain ⟨r1, r2⟩ := hc2.2 t t0 (by omega)
        refine ⟨fun a a0 hsub hA => ?_, ?_⟩
        · rw [if_neg (xl a a0 hsub)]; exact r1 a a0 hsub hA
        · rcases r2 with h | ⟨b, b0, b1, b2, b3⟩
          · exact Or.inl h
          · exact Or.inr ⟨b, b0, b1, b2, by rw [if_neg (xl b b0 b1)]; exact b3⟩
  have nxt : ∀ (ξ : MS) (v' : Nat), kp [] [] [6] [] φ ξ → v' ≤ 9 → mA ξ 6 s = i32 v' → (∀ t, t < s → mA ξ 6 t = i32 (c t)) → (∀ b, b ≠ 0 → b < a + 1 → sub b s → atM (radF A.1 (wN A.1)) (p, q) b → v' ≤ c (s ^^^ b) + 1) → (v' = 9 ∨ ∃ b, b ≠ 0 ∧ sub b s ∧ atM (radF A.1 (wN A.1)) (p, q) b ∧ v' = c (s ^^^ b) + 1) →
      Rt (M_covering_154 F (M_covering_53 F (i32 p) (i32 q) n) (M_covering_74 F (M_covering_53 F (i32 p) (i32 q) n) (i32 p) (i32 q) (i32 s) n2) (i32 p) (i32 q) (i32 s) (i32 a) ξ) (mOK (yes A (cvA A.1 p q))) := by
    intro ξ v' r1 r2 r3 r4 r5 r6
    unfold M_covering_154
    simp only [i_c0, i_c1, i_c2, i_c3, i_c4, i_c5, i_c6, i_c8, i_c9, i_c10, i_c12, i_c16, i_c17, i_c18, i_c31, i_c32, i_c45, i_c48, i_c50, i_c54, i_c55, i_c57, i_c58, i_c59, i_c61, i_c64, i_c73, i_c118, i_c119, i_c120, i_c126, i_c365, i_c1000, i_cFAR, i_add, i_sub, i_mul, i_neg, Option.bind_eq_bind, Option.bind_some]
    exact ih2 (a + 1) _ _ ⟨rfl, by omega, by omega, r1, v', r2, r3, r4, r5, r6⟩ (by omega)
  have skip : (sub a s → atM (radF A.1 (wN A.1)) (p, q) a → v ≤ c (s ^^^ a) + 1) → Rt (M_covering_154 F (M_covering_53 F (i32 p) (i32 q) n) (M_covering_74 F (M_covering_53 F (i32 p) (i32 q) n) (i32 p) (i32 q) (i32 s) n2) (i32 p) (i32 q) (i32 s) (i32 a) ψ) (mOK (yes A (cvA A.1 p q))) := by
    intro hsk
    refine nxt ψ v k2' hv9 hv ht (fun b b0 b1 b2 b3 => ?_) hb2
    by_cases e : b = a
    · subst e; exact hsk b2 b3
    · exact hb1 b b0 (by omega) b2 b3
  have an := andn_le a s
  have an2 := andn_le s a
  simp (disch := omega) only [i_c0, i_c1, i_c2, i_c3, i_c4, i_c5, i_c6, i_c8, i_c9, i_c10, i_c12, i_c16, i_c17, i_c18, i_c31, i_c32, i_c45, i_c48, i_c50, i_c54, i_c55, i_c57, i_c58, i_c59, i_c61, i_c64, i_c73, i_c118, i_c119, i_c120, i_c126, i_c365, i_c1000, i_cFAR, i_neg, i_andn, i_le, i_lt, i_eq]
  refine Rt.ite (fun h6 => ?_) (fun h6 => skip (fun z => absurd (by rw [andn_zero.mpr z]; rfl) h6))
  have hsub : sub a s := andn_zero.mp (by omega)
  have hx := xr_lt hsub (show a ≠ 0 by omega)
  rw [andn_sub hsub]
  obtain ⟨r, ⟨r1, r2, r3⟩, r4⟩ := radT_F (q3.kp k2') (show a < 2 ^ nN A.1 by omega)
  have mm1 := mul_rng (a := r.1) (b := q) (A := 1272150000) (B := 1000) r3.2.2.1 r3.2.2.2 (by omega) q2'
  have mm2 := mul_rng (a := p) (b := r.2) (A := 2147483647) (B := 198) (by omega) (by have := hp.2; omega) (by omega) r3.2.1
  have ae : atM (radF A.1 (wN A.1)) (p, q) a ↔ r.1 * q ≤ p * r.2 := (fle_congl (x := (p, q)) r3.1 (radF_pos _ _ _).1 (show (0 : Int) < q by omega) r4).symm
  have cx := (hc1 (s ^^^ a) hx).2
  simp (disch := omega) only [rdL_i, rdI_i, Int.toNat_natCast, r1, r2, Option.bind_eq_bind, Option.bind_some, i_long hp.1 hp.2, i_long hq.1 hq.2, j_add, j_sub, j_mul, j_neg, j_le, j_lt, j_eq, ht (s ^^^ a) hx, hv, i_add, i_sub, i_mul, i_neg, i_le, i_lt, i_eq]
  refine Rt.ite (fun h7 => skip (fun _ z => absurd (ae.mp z) (by omega))) (fun h7 => ?_)
  refine Rt.ite (fun h8 => skip (fun _ _ => by omega)) (fun h8 => ?_)
  rw [stA_i (by omega) (by omega) (by omega)]
  simp only [Option.bind_eq_bind, Option.bind_some, Int.toNat_natCast]
  refine nxt _ (c (s ^^^ a) + 1) (kp.tr k2' kp.sA) (by omega) ?_ (fun t ht' => ?_) (fun b b0 b1 b2 b3 => ?_) (Or.inr ⟨a, by omega, hsub, ae.mpr (by omega), rfl⟩)
  · simp only [mA_sA, if_true, upd_at]; rfl
  · simp only [mA_sA, if_true, upd_at]; rw [if_neg (by omega)]; exact ht t ht'
  · by_cases e : b = a
    · subst e; exact Nat.le_refl _
    · have := hb1 b b0 (by omega) b2 b3; omega
theorem M_covered_ok {e t r : Int} (hR : mR σ A) (he : rng e) (ht : rng t) (hr : rng r) (hF : 4294967296 < F) : Rt (M_covered F σ (i32 e) (i32 t) (i32 r)) (mOK (sp_covered A e t r)) := by
  have z1 := hR.1.2.sz.1
  unfold M_covered sp_covered
  refine Rt.tst (M_isEdge_t hR.1 he) (fun h => ?_) (fun h => ?_)
  · rw [ifc_pos h]
    unfold M_covered_30 M_covered_31 M_covered_67
    refine Rt.tst (M_isEdge_t hR.1 he) (fun h => ?_) (fun h' => absurd h' h)
    exact ref_no1 hR
  rw [ifc_neg (fun z => z h)]
  have b1 : Rt (M_covered_30 F (i32 e) (i32 t) (i32 r) σ) (mOK (no A 2)) := by
    unfold M_covered_30 M_covered_31 M_covered_67
    refine Rt.tst (M_isEdge_t hR.1 he) (fun h' => absurd h h') (fun _ => ?_)
    rw [if_pos rfl]; exact ref_no2 hR
  have hl := hR.1.2.2.2.2.2.1 e.toNat (by have := h.1; have := h.2; omega)
  rw [M_of_2' hR.1 h]
  refine Rt.let (Rt.tst (M_within_t (lo := 0) (hi := (ed A.1 e.toNat).2.2) ht (by decide) ⟨by omega, by omega⟩) (fun h2 => ?_) (fun h2 => ?_))
  · rw [ifc_pos (fun z => h2 z.1)]; exact b1
  refine Rt.ite (fun h3 => ?_) (fun h3 => ?_)
  · rw [i_c0, i_lt hr.1 hr.2 (by omega) (by omega)] at h3
    rw [ifc_pos (fun z => by have := z.2; omega)]; exact b1
  rw [i_c0, i_lt hr.1 hr.2 (by omega) (by omega)] at h3
  rw [ifc_neg (fun z => z ⟨h2, by omega⟩)]
  obtain ⟨d, rfl⟩ : ∃ m : Nat, e = m := ⟨e.toNat, by have := h.1; omega⟩
  have hd : d < eN A.1 := by have := h.2; omega
  obtain ⟨τ, e1, e2, e3⟩ := M_isConnected_eq hR.1 (show 64 < F by omega)
  have hRt := hR.kp e2
  unfold M_covered_31 M_covered_67
  refine Rt.tst (M_isEdge_t hR.1 he) (fun h' => absurd h h') (fun _ => ?_)
  rw [if_neg (by decide)]
  refine Rt.tst2 e1 (fun h5 => ?_) (fun h5 => ?_)
  · rw [ifc_pos h5]; exact ref_no3 hRt
  rw [ifc_neg (fun z => z h5)]
  have hR1 := hRt.kp (k1 (v := i32 0))
  obtain ⟨υ, u1, u2, u3, u4⟩ := lays_w (s := 0) (F := F) hR1 (by rw [mA_sI]; exact e3) rfl hF
  rw [wS_0] at u3
  have hw9 := wN_9 hR.1.2
  simp only [Int.toNat_natCast] at *
  have h21 := h2.1
  have h22 := h2.2
  have ox : okx (t, 1) := ⟨by simp, by simp, h21, by simp only; omega⟩
  have oxl : (t, (1 : Int)).1 ≤ (ed A.1 d).2.2 * (t, (1 : Int)).2 := by simp only; omega
  refine ref_yes0 ?_
  show Rt ((M_weighs F (sI τ 1 (i32 0)) (i32 0)) >>= _) _
  rw [u1]
  refine Rt.let ?_
  simp only [i_c0]
  refine Rt.loop3 (ι := Nat) (fun k c x φ => x = i32 k ∧ φ = υ ∧ k ≤ nN A.1 ∧ c = i32 (cvdF (fun i => wN A.1 i * awy A.1 i d (t, 1)) r k)) (fun k => nN A.1 - k) ?_ F 0 _ _ _ ⟨rfl, rfl, by omega, rfl⟩ (by omega)
  rintro n k _ _ φ ⟨rfl, rfl, hk, rfl⟩ ih
  unfold M_covered_86
  rw [M_many_eq u3.1]
  simp (disch := omega) only [Option.bind_eq_bind, Option.bind_some, i_le, i_lt, i_eq]
  refine Rt.ite (fun h6 => ?_) (fun h6 => ?_)
  · obtain rfl : k = nN A.1 := by omega
    exact Rt.some (mOK_yes u2 kp.rf u4)
  have hk' : k < nN A.1 := by omega
  have w9 := hw9 k hk'
  have aw := wa_rng hR.1.2 h5 hk' hd ox oxl
  have vr := mul_rng (A := 99) (B := 12850000) w9.1 w9.2 aw.1 aw.2
  have nxt : ∀ g : Nat, g = (if wN A.1 k * awy A.1 k d (t, 1) ≤ r then 2 ^ k else 0) → Rt (M_covered_130 F (M_covered_86 F (i32 d) (i32 t) (i32 r) n) (i32 d) (i32 t) (i32 r) (i32 k) (i32 (cvdF (fun i => wN A.1 i * awy A.1 i d (t, 1)) r k)) (i32 g) φ) (mOK (yes A (cvdF (fun i => wN A.1 i * awy A.1 i d (t, 1)) r (nN A.1)))) := by
    intro g hg
    unfold M_covered_130
    simp only [i_c0, i_c1, i_c2, i_c3, i_c4, i_c5, i_c6, i_c8, i_c9, i_c10, i_c12, i_c16, i_c17, i_c18, i_c31, i_c32, i_c45, i_c48, i_c50, i_c54, i_c55, i_c57, i_c58, i_c59, i_c61, i_c64, i_c73, i_c118, i_c119, i_c120, i_c126, i_c365, i_c1000, i_cFAR, i_add, i_sub, i_mul, i_neg, Option.bind_eq_bind, Option.bind_some, i_or2]
    refine ih (k + 1) _ _ _ ⟨rfl, rfl, by omega, ?_⟩ (by omega)
    rw [hg]; rfl
  have ma := M_away_eq (x := (t, 1)) u3.1 u3.2.1 hk' hd ox
  simp only at ma
  rw [i_long ht.1 ht.2, j_c1, ma]
  simp (disch := omega) only [i_c0, i_c1, i_c2, i_c3, i_c4, i_c5, i_c6, i_c8, i_c9, i_c10, i_c12, i_c16, i_c17, i_c18, i_c31, i_c32, i_c45, i_c48, i_c50, i_c54, i_c55, i_c57, i_c58, i_c59, i_c61, i_c64, i_c73, i_c118, i_c119, i_c120, i_c126, i_c365, i_c1000, i_cFAR, rdI_i, Int.toNat_natCast, u3.2.2 k hk', Option.bind_eq_bind, Option.bind_some, i_long, j_add, j_sub, j_mul, j_neg, j_le, j_lt, j_eq, i_shl]
  exact Rt.ite (fun h7 => nxt 0 (by rw [if_neg (by omega)])) (fun h7 => nxt _ (by rw [if_pos (by omega)]))
theorem M_changedRadius_ok {s part : Int} (hR : mR σ A) (hs : rng s) (hp : rng part) (hF : 4294967296 < F) : Rt (M_changedRadius F σ (i32 s) (i32 part)) (mOK (sp_changedRadius A s part)) := by
  unfold M_changedRadius M_changedRadius_20 M_changedRadius_36 sp_changedRadius
  refine Rt.tst (M_within_t (lo := 0) (hi := 10) hs (by decide) (by decide)) (fun h => ?_) (fun h => ?_)
  · rw [ifc_pos (fun z => h z.1)]; exact ref_no1 hR
  refine Rt.tst (M_within_t (lo := 0) (hi := 1) hp (by decide) (by decide)) (fun h2 => ?_) (fun h2 => ?_)
  · rw [ifc_pos (fun z => h2 z.2)]; exact ref_no1 hR
  rw [ifc_neg (fun z => z ⟨h, h2⟩)]
  obtain ⟨τ, e1, e2, e3⟩ := M_canHave_eq hR.1 hF
  have hRt := hR.kp e2
  refine Rt.tst2 e1 (fun h3 => ?_) (fun h3 => ?_)
  · rw [ifc_pos h3]; exact ref_no2 hRt
  rw [ifc_neg (fun z => z h3)]
  have hR1 := hRt.kp (k1 (v := i32 0))
  obtain ⟨υ, u1, u2, u3, u4⟩ := lays_w (s := s) (F := F) hR1 (by rw [mA_sI]; exact e3 h3) rfl hF
  have hw9 := wS_ok hR.1.2 (s := s) h.1 h.2
  refine ref_yes0 ?_
  show Rt ((M_weighs F (sI τ 1 (i32 0)) (i32 s)) >>= _) _
  rw [u1]
  refine Rt.let ?_
  rw [M_many_eq u3.1]
  refine Rt.let ?_
  rw [i_c1, i_c31, i_all hR.1.2]
  refine Rt.bind (M_centers_eq u3 h3.2 hw9 h3.1 (allN_lt hR.1.2) (by omega)) ?_
  rintro φ ⟨q1, e, x, h4, h5, h6⟩
  obtain ⟨ox, hr⟩ := bstA_rng (τ := φ) hR.1.2 h3.2 hw9 h5 h6
  rw [h4.2.2.2, h4.2.2.1, M_reduced_eq hr.1 (by omega) ox.1 (by have := ox.2.1; omega) h2.1 h2.2 (by have := ox.2.1; have := ox.1; omega)]
  rw [valT_of h6 (fun _ _ _ _ => hgt_nn _ _ _ _ _)]
  exact Rt.let (Rt.some (mOK_yes u2 q1.le (by rw [q1.1 1 (by decide)]; exact u4)))
theorem M_radiusWithout_ok {e part : Int} (hR : mR σ A) (he : rng e) (hp : rng part) (hF : 4294967296 < F) : Rt (M_radiusWithout F σ (i32 e) (i32 part)) (mOK (sp_radiusWithout A e part)) := by
  unfold M_radiusWithout M_radiusWithout_27 sp_radiusWithout
  refine Rt.tst (M_isEdge_t hR.1 he) (fun h => ?_) (fun h => ?_)
  · rw [ifc_pos h]; exact ref_no1 hR
  rw [ifc_neg (fun z => z h)]
  refine Rt.tst (M_within_t (lo := 0) (hi := 1) hp (by decide) (by decide)) (fun h2 => ?_) (fun h2 => ?_)
  · rw [ifc_pos h2]; exact ref_no2 hR
  rw [ifc_neg (fun z => z h2)]
  have hR1 := hR.kp (k1 (v := i32 0))
  obtain ⟨d, rfl⟩ : ∃ m : Nat, e = m := ⟨e.toNat, by have := h.1; omega⟩
  have hd : d < eN A.1 := by have := h.2; omega
  refine ref_yes0 ?_
  show Rt (M_radiusWithout_37 F (i32 d) (i32 part) F (i32 0) (sI σ 1 (i32 0))) _
  -- the row is kept
  refine Rt.loop (ι := Nat) (fun k x τ => x = i32 k ∧ k ≤ 73 ∧ kp [] [] [2] [] (sI σ 1 (i32 0)) τ ∧ ∀ j, j < k → mA τ 2 j = mA σ 0 j) (fun k => 73 - k) ?_ F 0 _ _ ⟨rfl, by omega, kp.rf, fun j hj => by omega⟩ (by omega)
  rintro n k _ τ ⟨rfl, hk, h3, h4⟩ ih
  unfold M_radiusWithout_37
  simp (disch := omega) only [i_c0, i_c1, i_c2, i_c3, i_c4, i_c5, i_c6, i_c8, i_c9, i_c10, i_c12, i_c16, i_c17, i_c18, i_c31, i_c32, i_c45, i_c48, i_c50, i_c54, i_c55, i_c57, i_c58, i_c59, i_c61, i_c64, i_c73, i_c118, i_c119, i_c120, i_c126, i_c365, i_c1000, i_cFAR, i_le, i_lt, i_eq]
  refine Rt.ite (fun h5 => ?_) (fun h5 => ?_)
  rotate_left
  · rw [rdI_i (by omega) (by omega) (by omega)]
    simp only [Option.bind_eq_bind, Option.bind_some, Int.toNat_natCast]
    rw [stA_i (by omega) (by omega) (by omega)]
    simp only [i_add, i_sub, i_mul, i_neg, Option.bind_eq_bind, Option.bind_some, Int.toNat_natCast]
    refine ih (k + 1) _ _ ⟨rfl, by omega, kp.tr h3 kp.sA, fun j hj => ?_⟩ (by omega)
    simp only [mA_sA, if_true, upd_at]
    by_cases e : j = k
    · rw [if_pos e, e, h3.2.2.1 0 (by decide)]; rfl
    · rw [if_neg e]; exact h4 j (by omega)
  obtain rfl : k = 73 := by omega
  have hRt := hR1.kp h3
  have m1 : mI τ 1 = i32 0 := by rw [h3.1 1 (by decide)]; rfl
  -- the row comes back
  have back : ∀ (v : Int) (υ : MS), kp [3, 4] [0, 1, 2] [0, 4, 5] [0, 1] τ υ → Rt (M_radiusWithout_106 F (i32 v) υ) (mOK (yes A v)) := by
    intro v υ q1
    unfold M_radiusWithout_106
    simp only [i_c0]
    refine Rt.loop (ι := Nat) (fun k x φ => x = i32 k ∧ k ≤ 73 ∧ kp [3, 4] [0, 1, 2] [0, 4, 5] [0, 1] τ φ ∧ ∀ j, j < k → mA φ 0 j = mA σ 0 j) (fun k => 73 - k) ?_ F 0 _ _ ⟨rfl, by omega, q1, fun j hj => by omega⟩ (by omega)
    rintro n k _ φ ⟨rfl, hk, r1, r2⟩ ih
    unfold M_radiusWithout_109
    simp (disch := omega) only [i_c0, i_c1, i_c2, i_c3, i_c4, i_c5, i_c6, i_c8, i_c9, i_c10, i_c12, i_c16, i_c17, i_c18, i_c31, i_c32, i_c45, i_c48, i_c50, i_c54, i_c55, i_c57, i_c58, i_c59, i_c61, i_c64, i_c73, i_c118, i_c119, i_c120, i_c126, i_c365, i_c1000, i_cFAR, i_le, i_lt, i_eq]
    refine Rt.ite (fun h5 => ?_) (fun h5 => ?_)
    · obtain rfl : k = 73 := by omega
      refine Rt.some ⟨rfl, ⟨⟨row.congr hR.1.2.sz (fun j hj => r2 j hj) hR.1.1, hR.1.2⟩, hRt.2.1.kp r1, hRt.2.2.kp r1⟩, ?_⟩
      show mI φ 1 = i32 0
      rw [r1.1 1 (by decide)]; exact m1
    · rw [rdI_i (by omega) (by omega) (by omega)]
      simp only [Option.bind_eq_bind, Option.bind_some, Int.toNat_natCast]
      rw [stA_i (by omega) (by omega) (by omega)]
      simp only [i_add, i_sub, i_mul, i_neg, Option.bind_eq_bind, Option.bind_some, Int.toNat_natCast]
      refine ih (k + 1) _ _ ⟨rfl, by omega, kp.tr r1 kp.sA, fun j hj => ?_⟩ (by omega)
      simp only [mA_sA, if_true, upd_at]
      by_cases e : j = k
      · rw [if_pos e, e, r1.2.2.1 2 (by decide)]; exact h4 k (by omega)
      · rw [if_neg e]; exact r2 j (by omega)
  unfold M_radiusWithout_61
  refine Rt.bind (M_dropsEdge_eq hRt.1 hd (by omega)) ?_
  rintro ⟨c, υ⟩ ⟨rfl, q1, q2⟩
  obtain ⟨φ, e1, e2, e3⟩ := M_canHave_eq q2 hF
  have hNf := q2.kp e2
  simp only [Int.toNat_natCast]
  unfold woA
  refine Rt.tst2 e1 (fun h6 => ?_) (fun h6 => ?_)
  · rw [ifc_neg h6]; exact back (-1) φ (kp.tr q1.le e2.le)
  rw [ifc_pos h6]
  obtain ⟨ψ, w1, w2, w3⟩ := M_weighs_eq 0 hNf (show 8 < F by omega)
  have hw9 := wS_ok q2.2 (s := 0) (by omega) (by omega)
  have hI : lcI (nDis A.1 d) (wS (nDis A.1 d) 0) ψ := ⟨hNf.kp w2, by rw [w2.2.2.1 4 (by decide)]; exact e3 h6, w3⟩
  show Rt ((M_weighs F φ (i32 0)) >>= _) _
  rw [w1]
  refine Rt.let ?_
  rw [M_many_eq hI.1]
  refine Rt.let ?_
  rw [i_c1, i_c31, i_all q2.2]
  refine Rt.bind (M_centers_eq hI h6.2 hw9 h6.1 (allN_lt q2.2) (by omega)) ?_
  rintro ξ ⟨x1, e, x, x4, x5, x6⟩
  obtain ⟨ox, hr⟩ := bstA_rng (τ := ξ) q2.2 h6.2 hw9 x5 x6
  rw [x4.2.2.2, x4.2.2.1, M_reduced_eq hr.1 (by omega) ox.1 (by have := ox.2.1; omega) h2.1 h2.2 (by have := ox.2.1; have := ox.1; omega)]
  rw [valT_of x6 (fun _ _ _ _ => hgt_nn _ _ _ _ _), wS_0]
  exact Rt.let (back _ ξ (kp.tr q1.le (kp.tr e2.le (kp.tr w2.le x1.le))))
theorem M_type_ok {c : Int} (hR : mR σ A) (hc : rng c) : Rt (M_type σ (i32 c)) (mOK (sp_type A c)) := by
  obtain ⟨t1, t2, t3, t4⟩ := hR.2.2
  unfold M_type M_type_30 sp_type
  refine Rt.tst (M_within_t (lo := 32) (hi := 126) hc (by decide) (by decide)) (fun h => ?_) (fun h => ?_)
  · rw [ifc_pos h]; exact ref_no1 hR
  rw [ifc_neg (fun z => z h), t1]
  refine Rt.ite (fun h2 => ?_) (fun h2 => ?_)
  · rw [i_c120, i_eq (by omega) (by omega) (by omega) (by omega)] at h2
    rw [ifc_pos (by omega)]; exact ref_no2 hR
  rw [i_c120, i_eq (by omega) (by omega) (by omega) (by omega)] at h2
  rw [ifc_neg (by omega)]
  have hR1 := hR.kp (k1 (v := i32 0))
  refine ref_yes0 ?_
  show Rt ((stA (sI σ 1 (i32 0)) 3 120 (mI (sI σ 1 (i32 0)) 2) (i32 c)) >>= _) _
  rw [mI_sI, if_neg (by decide), t1, stA_i (by omega) (by omega) (by omega)]
  refine Rt.let (Rt.let ?_)
  simp only [mI_sA, mI_sI, if_neg (show (2 : Nat) ≠ 1 by decide), t1, i_c1, i_add, if_true, Int.toNat_natCast]
  refine Rt.some ⟨rfl, ⟨?_, ?_, ?_, ?_, ?_, fun k hk => ?_⟩, rfl⟩
  · exact hR1.1.kp (kp.tr kp.sA kp.sI : kp [2] [] [3] [] _ _)
  · exact hR1.2.1.kp (kp.tr kp.sA kp.sI : kp [2] [] [3] [] _ _)
  · show i32 _ = i32 ((A.2.2 ++ [c]).length : Nat)
    rw [List.length_append]; rfl
  · show (A.2.2 ++ [c]).length ≤ 120
    rw [List.length_append]; simp only [List.length_singleton]; omega
  · intro d hd
    rcases List.mem_append.mp hd with h | h
    · exact t3 d h
    · rw [List.mem_singleton.mp h]; assumption
  · show mA (sI (sA (sI σ 1 (i32 0)) 3 _) 2 _) 3 k = i32 ((A.2.2 ++ [c])[k]'hk)
    simp only [mA_sI, mA_sA, if_true, upd_at]
    by_cases e : k = A.2.2.length
    · subst e
      rw [if_pos rfl, List.getElem_append_right (Nat.le_refl _)]; simp
    · have hk' : k < A.2.2.length := by
        have : k < (A.2.2 ++ [c]).length := hk
        rw [List.length_append] at this; simp only [List.length_singleton] at this; omega
      rw [if_neg e, List.getElem_append_left hk']; exact t4 k hk'
theorem M_clearText_ok (hR : mR σ A) : Rt (M_clearText σ) (mOK (sp_clearText A)) := by
  obtain ⟨t1, t2, t3, t4⟩ := hR.2.2
  have hR1 := hR.kp (k1 (v := i32 0))
  unfold M_clearText sp_clearText
  refine Rt.let (Rt.let (Rt.let (Rt.some ⟨?_, ⟨hR1.1.kp (kp.sI (iS := [2]) (lS := []) (aS := []) (bS := [])), hR1.2.1.kp (kp.sI (iS := [2]) (lS := []) (aS := []) (bS := [])), rfl, Nat.zero_le 120, fun c hc => ?_, fun k hk => ?_⟩, rfl⟩)))
  · exact t1
  · cases hc
  · exact absurd hk (Nat.not_lt_zero k)
end MY
