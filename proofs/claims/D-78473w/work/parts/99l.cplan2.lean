/-! THE CLASS's CALLS THAT ASK THE PLAN, one by one -/
theorem dv_singles {A : Nat → Prop} (m : Nat) (h : ∀ i, i < m → A (2 ^ i)) : dv A m (2 ^ m - 1) := by
  induction m with
  | zero => exact rfl
  | succ m ih =>
    refine ⟨2 ^ m, ?_, h m (by omega), ?_⟩
    · intro i hi
      rw [Nat.testBit_two_pow] at hi
      rw [Nat.testBit_two_pow_sub_one]
      simp only [decide_eq_true_eq] at hi ⊢
      omega
    · have e : (2 ^ (m + 1) - 1) ^^^ 2 ^ m = 2 ^ m - 1 := by
        apply Nat.eq_of_testBit_eq
        intro i
        rw [Nat.testBit_xor, Nat.testBit_two_pow, Nat.testBit_two_pow_sub_one, Nat.testBit_two_pow_sub_one]
        by_cases h1 : i < m
        · rw [decide_eq_true (show i < m + 1 by omega), decide_eq_true h1, decide_eq_false (show ¬ m = i by omega)]; rfl
        · by_cases h2 : i = m
          · rw [decide_eq_true (show i < m + 1 by omega), decide_eq_false h1, decide_eq_true (show m = i by omega)]; rfl
          · rw [decide_eq_false (show ¬ i < m + 1 by omega), decide_eq_false h1, decide_eq_false (show ¬ m = i by omega)]; rfl
      rw [e]
      exact ih (fun i hi => h i (by omega))
section TQ
variable {S T : St} {x n p dq tx j b : Nat} {h : Int64} {A : Ab} {F : Nat} {N : Net}
/-- a set, as a number -/
theorem isSe_nat {s : Int} (hN : okN N) (h : isSe N s) : ∃ k : Nat, s = k ∧ k < 2 ^ nN N := by
  have pc : ((2 ^ nN N : Nat) : Int) = 2 ^ nN N := by push_cast; rfl
  refine ⟨s.toNat, by have := h.1; omega, ?_⟩
  have := h.2
  rw [← pc] at this
  have := h.1
  omega
/-- the answer of the plan -/
theorem Q_fr {j' : Nat} {U : St} {r : Res} {v : Int32} (hc : cRo S x A n p dq tx j b h) (hf : frJ b p j j' S U) (hU : cRo U x A n p dq tx j' b h) (hv : v = i32 r.2.1) (hr : r.2.2 = A) : Qs S x r (v, U) := ⟨hv, by rw [hr]; exact hU.cR, hf.cs_.le (by omega) (by omega)⟩
theorem P_radius {s t : Int} (hc : cRo S x A n p dq tx j b h) (hs : rng s) (ht : rng t) (hF : 4294967296 < F) : OpO (fun k => T_X1_radius F k S x (i32 s) (i32 t)) (C_X1_radius F S x (i32 s) (i32 t)) (ec 2 3 0 (sp_radius A s t).1) S (Qs S x (sp_radius A s t)) := by
  obtain ⟨⟨fs, g0⟩, g1, g2, -⟩ := hc.g
  have hN := hc.1.1
  obtain ⟨D, v3, v4, v5, v6, hpl⟩ := hc.2.2.1.pl
  unfold T_X1_radius C_X1_radius sp_radius
  rw [g0]
  refine OpO.let ?_
  have bad : ¬ (isSe A.1 s ∧ inR t 0 1) → ∀ R : Res, OpO (fun k => T_X1_radius_19 F k x (i32 s) (i32 t) S) (C_X1_radius_19 F x (i32 s) (i32 t) S) (ec 2 3 0 (ifc (¬ (isSe A.1 s ∧ inR t 0 1)) (no A 1) R).1) S (Qs S x (ifc (¬ (isSe A.1 s ∧ inR t 0 1)) (no A 1) R)) := by
    intro hb R
    unfold T_X1_radius_19 C_X1_radius_19 T_X1_radius_20 C_X1_radius_20
    exact OpO.checkThat0 (by decide) (by rw [ifc_pos hb]; rfl)
  refine OpO.tst (C_isSet hc hs) (fun hn => bad (fun z => hn z.1) _) (fun y1 => OpO.tst (C_isPart ht) (fun hn => bad (fun z => hn z.2) _) (fun y2 => ?_))
  rw [ifc_neg (fun z => z ⟨y1, y2⟩)]
  unfold T_X1_radius_20 C_X1_radius_20
  refine OpO.checkThat1 ?_
  rw [g2]
  refine OpO.let ?_
  rw [C_isUsable hN hpl hF]
  refine OpO.let (OpO.checkState (by decide) (fun hn => by rw [ifc_pos hn]; rfl) (fun y3 => ?_))
  rw [ifc_neg (fun z => z y3)]
  refine OpO.fin rfl ?_
  obtain ⟨k, rfl, hk⟩ := isSe_nat hN y1
  refine Rt.let (Rt.bind (C_radius hN (wN_9 hN) y3.2 y3.1 hk y2.1 y2.2 hc.2.2.1 hF) ?_)
  rintro ⟨v, U⟩ ⟨u1, u2, r, hr, u3⟩
  refine Rt.some (Q_fr hc u1 (hc.fr u1 u2) ?_ rfl)
  obtain ⟨e, y, hct, rfl⟩ := hr
  rw [u3]
  show i32 (rdc (hgt A.1 (wN A.1) k e y) y.2 t) = i32 (valT A.1 (hgt A.1 (wN A.1) (k : Int).toNat) t)
  rw [valT_of hct (fun _ _ _ _ => hgt_nn _ _ _ _ _), Int.toNat_natCast]
theorem P_center {s t : Int} (hc : cRo S x A n p dq tx j b h) (hs : rng s) (ht : rng t) (hF : 4294967296 < F) : OpO (fun k => T_X1_center F k S x (i32 s) (i32 t)) (C_X1_center F S x (i32 s) (i32 t)) (ec 2 3 0 (sp_center A s t).1) S (Qs S x (sp_center A s t)) := by
  obtain ⟨⟨fs, g0⟩, g1, g2, -⟩ := hc.g
  have hN := hc.1.1
  obtain ⟨D, v3, v4, v5, v6, hpl⟩ := hc.2.2.1.pl
  unfold T_X1_center C_X1_center sp_center
  rw [g0]
  refine OpO.let ?_
  have bad : ¬ (isSe A.1 s ∧ inR t 0 2) → ∀ R : Res, OpO (fun k => T_X1_center_21 F k x (i32 s) (i32 t) S) (C_X1_center_21 F x (i32 s) (i32 t) S) (ec 2 3 0 (ifc (¬ (isSe A.1 s ∧ inR t 0 2)) (no A 1) R).1) S (Qs S x (ifc (¬ (isSe A.1 s ∧ inR t 0 2)) (no A 1) R)) := by
    intro hb R
    unfold T_X1_center_21 C_X1_center_21 T_X1_center_22 C_X1_center_22
    exact OpO.checkThat0 (by decide) (by rw [ifc_pos hb]; rfl)
  refine OpO.tst (C_isSet hc hs) (fun hn => bad (fun z => hn z.1) _) (fun y1 => OpO.tst (show C_X1_isIn (i32 t) 0 2 = some (i32 (tr01 (inR t 0 2))) from C_isIn (lo := 0) (hi := 2) ht (by decide) (by decide)) (fun hn => bad (fun z => hn z.2) _) (fun y2 => ?_))
  rw [ifc_neg (fun z => z ⟨y1, y2⟩)]
  unfold T_X1_center_22 C_X1_center_22
  refine OpO.checkThat1 ?_
  rw [g2]
  refine OpO.let ?_
  rw [C_isUsable hN hpl hF]
  refine OpO.let (OpO.checkState (by decide) (fun hn => by rw [ifc_pos hn]; rfl) (fun y3 => ?_))
  rw [ifc_neg (fun z => z y3)]
  refine OpO.fin rfl ?_
  obtain ⟨k, rfl, hk⟩ := isSe_nat hN y1
  refine Rt.let (Rt.mono (C_centerOf hc y3 hk y2.1 y2.2 hF) ?_)
  rintro ⟨v, U⟩ ⟨u1, u2, u3⟩
  exact Q_fr hc u2 u3 u1 rfl
theorem P_critical {s : Int} (hc : cRo S x A n p dq tx j b h) (hs : rng s) (hF : 4294967296 < F) : OpO (fun k => T_X1_critical F k S x (i32 s)) (C_X1_critical F S x (i32 s)) (ec 2 3 0 (sp_critical A s).1) S (Qs S x (sp_critical A s)) := by
  obtain ⟨⟨fs, g0⟩, g1, g2, -⟩ := hc.g
  have hN := hc.1.1
  obtain ⟨D, v3, v4, v5, v6, hpl⟩ := hc.2.2.1.pl
  unfold T_X1_critical C_X1_critical sp_critical
  rw [g0, C_isSet hc hs]
  refine OpO.let (OpO.let (OpO.checkThat (by decide) (fun hn => by rw [ifc_pos hn]; rfl) (fun y1 => ?_)))
  rw [ifc_neg (fun z => z y1), g2]
  refine OpO.let ?_
  rw [C_isUsable hN hpl hF]
  refine OpO.let (OpO.checkState (by decide) (fun hn => by rw [ifc_pos hn]; rfl) (fun y3 => ?_))
  rw [ifc_neg (fun z => z y3)]
  refine OpO.fin rfl ?_
  obtain ⟨k, rfl, hk⟩ := isSe_nat hN y1
  refine Rt.let (Rt.bind (C_critical hN (wN_9 hN) y3.2 y3.1 hk hc.2.2.1 hF) ?_)
  rintro ⟨v, U⟩ ⟨u1, u2, e, y, hct, u3⟩
  refine Rt.some (Q_fr hc u1 (hc.fr u1 u2) ?_ rfl)
  rw [u3, crtA_of (wN_9 hN).ok0 hct]; rfl
theorem P_median {t : Int} (hc : cRo S x A n p dq tx j b h) (ht : rng t) (hF : 4294967296 < F) : OpO (fun k => T_X1_median F k S x (i32 t)) (C_X1_median F S x (i32 t)) (ec 2 3 0 (sp_median A t).1) S (Qs S x (sp_median A t)) := by
  obtain ⟨⟨fs, g0⟩, g1, g2, -⟩ := hc.g
  have hN := hc.1.1
  obtain ⟨D, v3, v4, v5, v6, hpl⟩ := hc.2.2.1.pl
  unfold T_X1_median C_X1_median sp_median
  rw [g0, show C_X1_isIn (i32 t) 0 4 = some (i32 (tr01 (inR t 0 4))) from C_isIn (lo := 0) (hi := 4) ht (by decide) (by decide)]
  refine OpO.let (OpO.let (OpO.checkThat (by decide) (fun hn => by rw [ifc_pos hn]; rfl) (fun y1 => ?_)))
  rw [ifc_neg (fun z => z y1), g2]
  refine OpO.let ?_
  rw [C_isUsable hN hpl hF]
  refine OpO.let (OpO.checkState (by decide) (fun hn => by rw [ifc_pos hn]; rfl) (fun y3 => ?_))
  rw [ifc_neg (fun z => z y3)]
  refine OpO.fin rfl (Rt.bind (C_medianOf hc y3 y1.1 y1.2 hF) ?_)
  rintro ⟨v, U⟩ ⟨j', u1, u2, u3⟩
  exact Rt.some (Q_fr hc u2 u3 (by rw [u1]; rfl) rfl)
/-- the radius of k centers -/
theorem C_radK {k : Nat} {t : Int} (hc : cRo S x A n p dq tx j b h) (hcan : canN A.1) (hk : 1 ≤ k) (hk8 : k ≤ 8) (ht : 0 ≤ t) (ht1 : t ≤ 1) (hF : 4294967296 < F) {c : Nat} (hcl : c < 2 ^ nN A.1) (d4 : dv (atM (radF A.1 (wN A.1)) (radF A.1 (wN A.1) c)) k (allN A.1)) (d5 : ∀ q, q < 2 ^ nN A.1 → dv (atM (radF A.1 (wN A.1)) (radF A.1 (wN A.1) q)) k (allN A.1) → fle (radF A.1 (wN A.1) c) (radF A.1 (wN A.1) q)) : Rt (C_X3_radius F S p (i32 c) (i32 t)) (fun v => v.1 = i32 (rdc (kR A.1 k).1 (kR A.1 k).2 t) ∧ frJ b p j 2 S v.2 ∧ cRo v.2 x A n p dq tx 2 b h) := by
  have hN := hc.1.1
  refine Rt.mono (C_radius hN (wN_9 hN) hcan.2 hcan.1 hcl ht ht1 hc.2.2.1 hF) ?_
  rintro ⟨v, U⟩ ⟨u1, u2, r, hr, u3⟩
  refine ⟨?_, u1, hc.fr u1 u2⟩
  rw [u3, isRad_rdc hr, kR_rdc (dec_isK hN hk d4 d5) (radF_pos A.1 (wN A.1) c).2]
theorem P_radiusOf {k t : Int} (hc : cRo S x A n p dq tx j b h) (hk : rng k) (ht : rng t) (hF : 4294967296 < F) : OpO (fun q => T_X1_radiusOf F q S x (i32 k) (i32 t)) (C_X1_radiusOf F S x (i32 k) (i32 t)) (ec 2 3 0 (sp_radiusOf A k t).1) S (Qs S x (sp_radiusOf A k t)) := by
  obtain ⟨⟨fs, g0⟩, g1, g2, -⟩ := hc.g
  have hN := hc.1.1
  obtain ⟨D, v3, v4, v5, v6, hpl⟩ := hc.2.2.1.pl
  unfold T_X1_radiusOf C_X1_radiusOf sp_radiusOf
  rw [g0]
  refine OpO.let ?_
  have bad : ¬ (inR k 1 3 ∧ inR t 0 1) → ∀ R : Res, OpO (fun q => T_X1_radiusOf_20 F q x (i32 k) (i32 t) S) (C_X1_radiusOf_20 F x (i32 k) (i32 t) S) (ec 2 3 0 (ifc (¬ (inR k 1 3 ∧ inR t 0 1)) (no A 1) R).1) S (Qs S x (ifc (¬ (inR k 1 3 ∧ inR t 0 1)) (no A 1) R)) := by
    intro hb R
    unfold T_X1_radiusOf_20 C_X1_radiusOf_20 T_X1_radiusOf_21 C_X1_radiusOf_21
    exact OpO.checkThat0 (by decide) (by rw [ifc_pos hb]; rfl)
  refine OpO.tst (show C_X1_isIn (i32 k) 1 3 = some (i32 (tr01 (inR k 1 3))) from C_isIn (lo := 1) (hi := 3) hk (by decide) (by decide)) (fun hn => bad (fun z => hn z.1) _) (fun y1 => OpO.tst (C_isPart ht) (fun hn => bad (fun z => hn z.2) _) (fun y2 => ?_))
  rw [ifc_neg (fun z => z ⟨y1, y2⟩)]
  unfold T_X1_radiusOf_21 C_X1_radiusOf_21
  refine OpO.checkThat1 ?_
  rw [g2]
  refine OpO.let ?_
  rw [C_isUsable hN hpl hF]
  refine OpO.let (OpO.checkState (by decide) (fun hn => by rw [ifc_pos hn]; rfl) (fun y3 => ?_))
  rw [ifc_neg (fun z => z y3)]
  refine OpO.fin rfl ?_
  have k1 := y1.1
  have k3 := y1.2
  obtain ⟨m, rfl⟩ : ∃ m : Nat, k = m := ⟨k.toNat, by omega⟩
  refine Rt.let (Rt.let (Rt.bind (C_deciding hN (wN_9 hN) y3.2 y3.1 (by omega) (by omega) hc.2.2.1 hF) ?_))
  rintro _ ⟨U, j', c, rfl, d1, d2, d3, d4, d5⟩
  dsimp only
  have hcU := hc.fr d1 d2
  refine Rt.bind (C_radK hcU y3 (by omega) (by omega) y2.1 y2.2 hF d3 d4 d5) ?_
  rintro ⟨v, V⟩ ⟨u1, u2, u3⟩
  exact Rt.some (Q_fr hc (d1.tr u2) u3 (by rw [u1]; rfl) rfl)
theorem P_group {k i : Int} (hc : cRo S x A n p dq tx j b h) (hk : rng k) (hi : rng i) (hF : 4294967296 < F) : OpO (fun q => T_X1_group F q S x (i32 k) (i32 i)) (C_X1_group F S x (i32 k) (i32 i)) (ec 2 3 0 (sp_group A k i).1) S (Qs S x (sp_group A k i)) := by
  obtain ⟨⟨fs, g0⟩, g1, g2, -⟩ := hc.g
  have hN := hc.1.1
  obtain ⟨D, v3, v4, v5, v6, hpl⟩ := hc.2.2.1.pl
  unfold T_X1_group C_X1_group sp_group
  rw [g0]
  refine OpO.let ?_
  have bad : ¬ (inR k 1 3 ∧ inR i 0 (k - 1)) → ∀ R : Res, OpO (fun q => T_X1_group_24 F q x (i32 k) (i32 i) S) (C_X1_group_24 F x (i32 k) (i32 i) S) (ec 2 3 0 (ifc (¬ (inR k 1 3 ∧ inR i 0 (k - 1))) (no A 1) R).1) S (Qs S x (ifc (¬ (inR k 1 3 ∧ inR i 0 (k - 1))) (no A 1) R)) := by
    intro hb R
    unfold T_X1_group_24 C_X1_group_24 T_X1_group_25 C_X1_group_25
    exact OpO.checkThat0 (by decide) (by rw [ifc_pos hb]; rfl)
  refine OpO.tst (show C_X1_isIn (i32 k) 1 3 = some (i32 (tr01 (inR k 1 3))) from C_isIn (lo := 1) (hi := 3) hk (by decide) (by decide)) (fun hn => bad (fun z => hn z.1) _) (fun y1 => OpO.tst (show C_X1_isIn (i32 i) 0 (i32 k - 1) = some (i32 (tr01 (inR i 0 (k - 1)))) from ?_) (fun hn => bad (fun z => hn z.2) _) (fun y2 => ?_))
  · rw [i_c1, i_sub, i_c0]
    exact C_isIn hi (by decide) ⟨by have := y1.1; omega, by have := y1.2; omega⟩
  rw [ifc_neg (fun z => z ⟨y1, y2⟩)]
  unfold T_X1_group_25 C_X1_group_25
  refine OpO.checkThat1 ?_
  rw [g2]
  refine OpO.let ?_
  rw [C_isUsable hN hpl hF]
  refine OpO.let (OpO.checkState (by decide) (fun hn => by rw [ifc_pos hn]; rfl) (fun y3 => ?_))
  rw [ifc_neg (fun z => z y3)]
  refine OpO.fin rfl ?_
  have k1 := y1.1
  have k3 := y1.2
  have i1 := y2.1
  have i2 := y2.2
  obtain ⟨m, rfl⟩ : ∃ m : Nat, k = m := ⟨k.toNat, by omega⟩
  obtain ⟨q, rfl⟩ : ∃ m : Nat, i = m := ⟨i.toNat, by omega⟩
  refine Rt.let (Rt.bind (C_planGroup hN (wN_9 hN) y3.2 y3.1 (by omega) (by omega) (by omega) hF hc.2.2.1) ?_)
  rintro _ ⟨U, j', g, t, rfl, d1, d2, d3, d4⟩
  refine Rt.some (Q_fr hc d1 (hc.fr d1 d2) ?_ rfl)
  rw [grA_of d3 d4]; rfl
theorem P_covering {u v : Int} (hc : cRo S x A n p dq tx j b h) (hu : rng u) (hv : rng v) (hF : 4294967296 < F) : OpO (fun q => T_X1_covering F q S x (i32 u) (i32 v)) (C_X1_covering F S x (i32 u) (i32 v)) (ec 2 3 0 (sp_covering A u v).1) S (Qs S x (sp_covering A u v)) := by
  obtain ⟨⟨fs, g0⟩, g1, g2, -⟩ := hc.g
  have hN := hc.1.1
  obtain ⟨D, v3, v4, v5, v6, hpl⟩ := hc.2.2.1.pl
  have hu1 := hu.1
  have hu2 := hu.2
  unfold T_X1_covering C_X1_covering sp_covering
  rw [g0]
  refine OpO.let ?_
  have bad : ¬ (0 ≤ u ∧ inR v 1 1000) → ∀ R : Res, OpO (fun q => T_X1_covering_19 F q x (i32 u) (i32 v) S) (C_X1_covering_19 F x (i32 u) (i32 v) S) (ec 2 3 0 (ifc (¬ (0 ≤ u ∧ inR v 1 1000)) (no A 1) R).1) S (Qs S x (ifc (¬ (0 ≤ u ∧ inR v 1 1000)) (no A 1) R)) := by
    intro hb R
    unfold T_X1_covering_19 C_X1_covering_19 T_X1_covering_20 C_X1_covering_20
    exact OpO.checkThat0 (by decide) (by rw [ifc_pos hb]; rfl)
  refine OpO.ite (fun z => bad (fun w => ?_) _) (fun z => ?_)
  · rw [i_c0, i_lt hu1 hu2 (by omega) (by omega)] at z
    have := w.1; omega
  rw [i_c0, i_lt hu1 hu2 (by omega) (by omega)] at z
  refine OpO.tst (show C_X1_isIn (i32 v) 1 1000 = some (i32 (tr01 (inR v 1 1000))) from C_isIn (lo := 1) (hi := 1000) hv (by decide) (by decide)) (fun hn => bad (fun z => hn z.2) _) (fun y2 => ?_)
  rw [ifc_neg (fun w => w ⟨by omega, y2⟩)]
  unfold T_X1_covering_20 C_X1_covering_20
  refine OpO.checkThat1 ?_
  rw [g2]
  refine OpO.let ?_
  rw [C_isUsable hN hpl hF]
  refine OpO.let (OpO.checkState (by decide) (fun hn => by rw [ifc_pos hn]; rfl) (fun y3 => ?_))
  rw [ifc_neg (fun z => z y3)]
  refine OpO.fin rfl ?_
  rw [i_long hu1 hu2, i_long hv.1 hv.2]
  have sing : ∀ i, i < nN A.1 → atM (radF A.1 (wN A.1)) (u, v) (2 ^ i) := by
    intro i hi
    obtain ⟨_, -, -, -, r, hr, -⟩ := C_radius (s := 2 ^ i) (t := 0) hN (wN_9 hN) y3.2 y3.1 (Nat.pow_lt_pow_right (by decide) hi) (by decide) (by decide) hc.2.2.1 hF
    exact radF_z ⟨r, hr, rad_single hN y3.2 y3.1 hi hr⟩ (show 0 ≤ u by omega)
  have y21 := y2.1
  have y22 := y2.2
  refine Rt.let (Rt.bind (C_covering (a := (u, v)) hN (wN_9 hN) y3.2 y3.1 ⟨by simp only; omega, by simp only; omega⟩ ⟨by simp only; omega, by simp only; omega⟩ hF ⟨nN A.1, hN.1, hN.2.1, dv_singles _ sing⟩ hc.2.2.1) ?_)
  rintro _ ⟨U, j', k, rfl, d1, d2, d3⟩
  refine Rt.some (Q_fr hc d1 (hc.fr d1 d2) ?_ rfl)
  rw [cvA_of d3]; rfl
end TQ
