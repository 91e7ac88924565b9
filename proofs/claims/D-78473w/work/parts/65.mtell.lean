/-! THE MODEL's CALLS THAT TELL: points, centers -/
section MX
variable {σ : MS} {N : Net} {F : Nat} {A : Ab} {w : Nat → Int}
/-- the greatest among the first places, row by row -/
def isMk (D : Mx) (n r c : Nat) (m : Int) : Prop := 0 ≤ m ∧ (∀ i j, i < n → j < n → (i < r ∨ i = r ∧ j < c) → D i j ≤ m) ∧ (m = 0 ∨ ∃ i j, i < n ∧ j < n ∧ D i j = m)
theorem M_diameter_ok (hR : mR σ A) (hF : 4294967296 < F) : Rt (M_diameter F σ) (mOK (sp_diameter A)) := by
  have z1 := hR.1.2.sz.1
  have hR1 := hR.kp (k1 (v := i32 0))
  obtain ⟨τ, e1, e2, e3⟩ := M_isConnected_eq hR1.1 (show 64 < F by omega)
  have hNt := hR1.1.kp e2
  have hI := okN_D hR.1.2
  have dr : ∀ i j, 0 ≤ dN A.1 i j ∧ dN A.1 i j ≤ 100000 := fun i j => ⟨hI.2.1 i j, by have := hI.2.2.2 i j; omega⟩
  unfold M_diameter sp_diameter
  have fin : ∀ v : Int, Rt (some (i32 v, τ)) (mOK (yes A v)) := fun v => Rt.some (mOK_yes hR1 e2.le (by rw [e2.1 1 (by decide)]; rfl))
  refine Rt.let (Rt.tst2 e1 (fun h => ?_) (fun h => ?_))
  · rw [ifc_neg h]; exact fin (-1)
  rw [ifc_pos h]
  show Rt (M_diameter_18 F F (i32 0) (i32 0) τ) _
  refine Rt.loop3 (ι := Nat) (fun r m x υ => x = i32 r ∧ υ = τ ∧ r ≤ nN A.1 ∧ ∃ v : Int, m = i32 v ∧ v ≤ 100000 ∧ isMk (dN A.1) (nN A.1) r 0 v) (fun r => nN A.1 - r) ?_ F 0 _ _ _ ⟨rfl, rfl, by omega, 0, rfl, by omega, by omega, fun i j _ _ h => by omega, Or.inl rfl⟩ (by omega)
  rintro n r _ _ υ ⟨rfl, rfl, hr, v, rfl, hv, hm⟩ ih
  have v0 := hm.1
  unfold M_diameter_18
  rw [M_many_eq hNt]
  simp (disch := omega) only [Option.bind_eq_bind, Option.bind_some, i_le, i_lt, i_eq]
  refine Rt.ite (fun h1 => ?_) (fun h1 => ?_)
  · obtain rfl : r = nN A.1 := by omega
    rw [← mxA_of ⟨hm.1, fun i j hi hj => hm.2.1 i j hi hj (Or.inl hi), hm.2.2⟩]
    exact fin v
  have hr' : r < nN A.1 := by omega
  rw [i_c0]
  refine Rt.loop3 (ι := Nat) (fun c m x φ => x = i32 c ∧ φ = υ ∧ c ≤ nN A.1 ∧ ∃ v : Int, m = i32 v ∧ v ≤ 100000 ∧ isMk (dN A.1) (nN A.1) r c v) (fun c => nN A.1 - c) ?_ F 0 _ _ _ ⟨rfl, rfl, by omega, v, rfl, hv, hm⟩ (by omega)
  rintro n2 c _ _ φ ⟨rfl, rfl, hc, v, rfl, hv, hm⟩ ih2
  have v0 := hm.1
  unfold M_diameter_28
  rw [M_many_eq hNt]
  simp (disch := omega) only [Option.bind_eq_bind, Option.bind_some, i_le, i_lt, i_eq]
  refine Rt.ite (fun h2 => ?_) (fun h2 => ?_)
  · obtain rfl : c = nN A.1 := by omega
    unfold M_diameter_73
    simp only [i_c0, i_c1, i_c2, i_c3, i_c4, i_c5, i_c6, i_c8, i_c9, i_c10, i_c12, i_c16, i_c17, i_c18, i_c31, i_c32, i_c45, i_c48, i_c50, i_c54, i_c55, i_c57, i_c58, i_c59, i_c61, i_c64, i_c73, i_c118, i_c119, i_c120, i_c126, i_c365, i_c1000, i_cFAR, i_add, i_sub, i_mul, i_neg, Option.bind_eq_bind, Option.bind_some]
    exact ih (r + 1) _ _ _ ⟨rfl, rfl, by omega, v, rfl, hv, hm.1, fun i j hi hj h => hm.2.1 i j hi hj (by omega), hm.2.2⟩ (by omega)
  have hc' : c < nN A.1 := by omega
  have g := far_mid e3 hr' hc'
  have b1 := dr r c
  simp (disch := omega) only [i_c0, i_c1, i_c2, i_c3, i_c4, i_c5, i_c6, i_c8, i_c9, i_c10, i_c12, i_c16, i_c17, i_c18, i_c31, i_c32, i_c45, i_c48, i_c50, i_c54, i_c55, i_c57, i_c58, i_c59, i_c61, i_c64, i_c73, i_c118, i_c119, i_c120, i_c126, i_c365, i_c1000, i_cFAR, Option.bind_eq_bind, Option.bind_some, i_le, i_lt, i_eq, i_add, i_sub, i_mul, i_neg, rdI_i, g]
  unfold M_diameter_66
  simp only [i_c0, i_c1, i_c2, i_c3, i_c4, i_c5, i_c6, i_c8, i_c9, i_c10, i_c12, i_c16, i_c17, i_c18, i_c31, i_c32, i_c45, i_c48, i_c50, i_c54, i_c55, i_c57, i_c58, i_c59, i_c61, i_c64, i_c73, i_c118, i_c119, i_c120, i_c126, i_c365, i_c1000, i_cFAR, i_add, i_sub, i_mul, i_neg, Option.bind_eq_bind, Option.bind_some]
  refine Rt.ite (fun h3 => ?_) (fun h3 => ?_)
  · refine ih2 (c + 1) _ _ _ ⟨rfl, rfl, by omega, v, rfl, hv, hm.1, fun i j hi hj h => ?_, hm.2.2⟩ (by omega)
    by_cases e : i = r ∧ j = c
    · rw [e.1, e.2]; exact h3
    · exact hm.2.1 i j hi hj (by omega)
  · refine ih2 (c + 1) _ _ _ ⟨rfl, rfl, by omega, dN A.1 r c, rfl, b1.2, b1.1, fun i j hi hj h => ?_, Or.inr ⟨r, c, hr', hc', rfl⟩⟩ (by omega)
    by_cases e : i = r ∧ j = c
    · rw [e.1, e.2]; exact Int.le_refl _
    · exact Int.le_trans (hm.2.1 i j hi hj (by omega)) (by omega)
theorem isPt_okx {e p q : Int} (hN : okN N) (he : isEg N e) (h : isPt N e p q) : okx (p, q) ∧ inE (ed N e.toNat).2.2 (p, q) := by
  have hl := hN.2.2.2.2.1 e.toNat (by have := he.2; have := he.1; omega)
  obtain ⟨⟨h1, h2⟩, h3, h4⟩ := h
  have m := mul_rng (a := (ed N e.toNat).2.2) (b := q) (A := 50) (B := 1000) (by omega) (by omega) (by omega) h2
  exact ⟨⟨by simp only; omega, h2, h3, by simp only; omega⟩, by simp only; omega, h3, h4⟩
theorem M_distanceTo_ok {i e p q part : Int} (hR : mR σ A) (hi : rng i) (he : rng e) (hp : rng p) (hq : rng q) (hpt : rng part) (hF : 4294967296 < F) : Rt (M_distanceTo F σ (i32 i) (i32 e) (i32 p) (i32 q) (i32 part)) (mOK (sp_distanceTo A i e p q part)) := by
  obtain ⟨τ, e1, e2, e3⟩ := M_lays_eq hR.1 (show 64 < F by omega)
  have hRt := hR.kp e2
  have z1 := hR.1.2.sz.1
  have b0 : ¬ (isNd A.1 i ∧ isEg A.1 e) → Rt (M_distanceTo_20 F (i32 i) (i32 e) (i32 p) (i32 q) (i32 part) σ) (mOK (no A 1)) := by
    intro h
    unfold M_distanceTo_20 M_distanceTo_21 M_distanceTo_53 M_distanceTo_54 M_distanceTo_105
    rw [if_pos rfl, e1]
    refine Rt.let ?_
    rw [if_pos rfl]; exact ref_no1 hRt
  unfold M_distanceTo sp_distanceTo
  refine Rt.tst (M_isNode_t hR.1 hi) (fun h => ?_) (fun h => ?_)
  · rw [ifc_pos (fun z => h z.1)]; exact b0 (fun z => h z.1)
  refine Rt.tst (M_isEdge_t hR.1 he) (fun h2 => ?_) (fun h2 => ?_)
  · rw [ifc_pos (fun z => h2 z.2)]; exact b0 (fun z => h2 z.2)
  rw [ifc_neg (fun z => z ⟨h, h2⟩)]
  have b1 : ¬ (isPt A.1 e p q ∧ inR part 0 1) → Rt (M_distanceTo_53 F (i32 i) (i32 e) (i32 p) (i32 q) (i32 part) 1 σ) (mOK (no A 2)) := by
    intro h
    unfold M_distanceTo_53 M_distanceTo_54 M_distanceTo_105
    rw [e1]
    refine Rt.let ?_
    rw [if_neg (by decide), if_pos rfl]; exact ref_no2 hRt
  unfold M_distanceTo_21
  rw [if_neg (by decide)]
  refine Rt.tst (M_isPoint_t hR.1 h2 hp hq) (fun h3 => ?_) (fun h3 => ?_)
  · rw [ifc_pos (fun z => h3 z.1)]; exact b1 (fun z => h3 z.1)
  refine Rt.tst (M_within_t (lo := 0) (hi := 1) hpt (by decide) (by decide)) (fun h4 => ?_) (fun h4 => ?_)
  · rw [ifc_pos (fun z => h4 z.2)]; exact b1 (fun z => h4 z.2)
  rw [ifc_neg (fun z => z ⟨h3, h4⟩)]
  obtain ⟨ox, hin⟩ := isPt_okx hR.1.2 h2 h3
  obtain ⟨x, rfl⟩ : ∃ m : Nat, i = m := ⟨i.toNat, by have := h.1; omega⟩
  obtain ⟨d, rfl⟩ : ∃ m : Nat, e = m := ⟨e.toNat, by have := h2.1; omega⟩
  have hx : x < nN A.1 := by have := h.2; omega
  have hd : d < eN A.1 := by have := h2.2; omega
  obtain ⟨a1, a2, a3, a4, a5⟩ := hR.1.2.2.2.2.2.1 d hd
  have hI := okN_D hR.1.2
  have c1 := hI.2.1 x (ed A.1 d).1
  have c2 := hI.2.2.2 x (ed A.1 d).1
  have g := far_mid e3 hx a1
  simp only [Int.toNat_natCast] at *
  unfold M_distanceTo_54
  rw [e1]
  refine Rt.let ?_
  rw [if_neg (by decide), if_neg (by decide)]
  simp only [i_c0]
  rw [M_of_0 hRt.1 hd]
  simp (disch := omega) only [i_c0, i_c1, i_c2, i_c3, i_c4, i_c5, i_c6, i_c8, i_c9, i_c10, i_c12, i_c16, i_c17, i_c18, i_c31, i_c32, i_c45, i_c48, i_c50, i_c54, i_c55, i_c57, i_c58, i_c59, i_c61, i_c64, i_c73, i_c118, i_c119, i_c120, i_c126, i_c365, i_c1000, i_cFAR, Option.bind_eq_bind, Option.bind_some, i_le, i_lt, i_eq, i_add, i_sub, i_mul, i_neg, rdI_i, g]
  have ar := awy_rng hR.1.2 hx hd ox
  have an := awy_nn (i := x) hR.1.2 hd hin
  have al : awy A.1 x d (p, q) ≤ 100050000 := Int.le_trans (Int.min_le_left _ _) ar.2.1
  unfold M_distanceTo_105
  refine Rt.ite (fun h5 => ?_) (fun h5 => ?_)
  · rw [ifc_neg (fun z => z h5)]
    have hR1 := hRt.kp (k1 (v := i32 0))
    refine ref_yes ?_
    show Rt ((M_away (sI τ 1 (i32 0)) (i32 x) (i32 d) (i32 p).toInt64 (i32 q).toInt64) >>= _) _
    rw [i_long hp.1 hp.2, i_long hq.1 hq.2]
    have := M_away_eq (x := (p, q)) hR1.1 (by rw [mA_sI]; exact e3) hx hd ox
    simp only at this
    rw [this]
    refine Rt.let ?_
    rw [M_reduced_eq an (by omega) ox.1 (by have := ox.2.1; omega) h4.1 h4.2 (by have := ox.2.1; have := ox.1; omega)]
    exact Rt.let (Rt.some (mOK_yes hR1 kp.rf rfl))
  · rw [ifc_pos h5]; exact ref_no (c := 3) (by decide) (by decide) hRt
theorem M_isAllowed_ok {e p q : Int} (hR : mR σ A) (he : rng e) (hp : rng p) (hq : rng q) (hF : 4294967296 < F) : Rt (M_isAllowed F σ (i32 e) (i32 p) (i32 q)) (mOK (sp_isAllowed A e p q)) := by
  unfold M_isAllowed sp_isAllowed M_isAllowed_28
  refine Rt.tst (M_isEdge_t hR.1 he) (fun h => ?_) (fun h => ?_)
  · rw [ifc_pos h]; exact ref_no1 hR
  rw [ifc_neg (fun z => z h)]
  refine Rt.tst (M_isPoint_t hR.1 h hp hq) (fun h3 => ?_) (fun h3 => ?_)
  · rw [ifc_pos h3]; exact ref_no2 hR
  rw [ifc_neg (fun z => z h3)]
  have hR1 := hR.kp (k1 (v := i32 0))
  obtain ⟨ox, -⟩ := isPt_okx hR.1.2 h h3
  obtain ⟨d, rfl⟩ : ∃ m : Nat, e = m := ⟨e.toNat, by have := h.1; omega⟩
  refine ref_yes0 ?_
  show Rt ((M_mayLie F (sI σ 1 (i32 0)) (i32 d) (i32 p).toInt64 (i32 q).toInt64) >>= _) _
  rw [i_long hp.1 hp.2, i_long hq.1 hq.2]
  refine Rt.tst (M_mayLie_eq (x := (p, q)) hR1.1 (by have := h.2; omega) ox (by omega)) (fun h4 => ?_) (fun h4 => ?_)
  · have := mOK_yes (v := 0) hR1 kp.rf rfl
    rw [show tr01 (alw (sts A.1 (d : Int).toNat) (p, q)) = 0 from tr01_neg h4]; exact Rt.some this
  · have := mOK_yes (v := 1) hR1 kp.rf rfl
    rw [show tr01 (alw (sts A.1 (d : Int).toNat) (p, q)) = 1 from tr01_pos h4]; exact Rt.some this
/-- weights and distances are laid -/
theorem lays_w {τ : MS} {s : Int} (hR : mR τ A) (hf : far (nN A.1) (mA τ 4) (dN A.1)) (h1 : mI τ 1 = i32 0) (hF : 4294967296 < F) : ∃ υ, M_weighs F τ (i32 s) = some υ ∧ mR υ A ∧ lcI A.1 (wS A.1 s) υ ∧ mI υ 1 = i32 0 := by
  obtain ⟨υ, e, k, h⟩ := M_weighs_eq s hR.1 (show 8 < F by omega)
  exact ⟨υ, e, hR.kp k, ⟨hR.1.kp k, by rw [k.2.2.1 4 (by decide)]; exact hf, h⟩, by rw [k.1 1 (by decide)]; exact h1⟩
theorem M_height_ok {s e p q part : Int} (hR : mR σ A) (hs : rng s) (he : rng e) (hp : rng p) (hq : rng q) (hpt : rng part) (hF : 4294967296 < F) : Rt (M_height F σ (i32 s) (i32 e) (i32 p) (i32 q) (i32 part)) (mOK (sp_height A s e p q part)) := by
  have p8 := pow8 hR.1.2
  unfold M_height sp_height
  refine Rt.tst (M_isEdge_t hR.1 he) (fun h => ?_) (fun h => ?_)
  · rw [ifc_pos h]
    unfold M_height_41 M_height_42 M_height_78
    refine Rt.tst (M_isEdge_t hR.1 he) (fun h => ?_) (fun h' => absurd h' h)
    exact ref_no1 hR
  rw [ifc_neg (fun z => z h)]
  have b1 : Rt (M_height_41 F (i32 s) (i32 e) (i32 p) (i32 q) (i32 part) σ) (mOK (no A 2)) := by
    unfold M_height_41 M_height_42 M_height_78
    refine Rt.tst (M_isEdge_t hR.1 he) (fun h' => absurd h h') (fun _ => ?_)
    rw [if_pos rfl]; exact ref_no2 hR
  refine Rt.tst (M_isSet_t hR.1 hs) (fun h2 => ?_) (fun h2 => ?_)
  · rw [ifc_pos (fun z => h2 z.1)]; exact b1
  refine Rt.tst (M_isPoint_t hR.1 h hp hq) (fun h3 => ?_) (fun h3 => ?_)
  · rw [ifc_pos (fun z => h3 z.2.1)]; exact b1
  refine Rt.tst (M_within_t (lo := 0) (hi := 1) hpt (by decide) (by decide)) (fun h4 => ?_) (fun h4 => ?_)
  · rw [ifc_pos (fun z => h4 z.2.2)]; exact b1
  rw [ifc_neg (fun z => z ⟨h2, h3, h4⟩)]
  obtain ⟨ox, hin⟩ := isPt_okx hR.1.2 h h3
  obtain ⟨m, rfl⟩ : ∃ m : Nat, s = m := ⟨s.toNat, by have := h2.1; omega⟩
  obtain ⟨d, rfl⟩ : ∃ m : Nat, e = m := ⟨e.toNat, by have := h.1; omega⟩
  have hd : d < eN A.1 := by have := h.2; omega
  have hm : m < 256 := by have : m < 2 ^ nN A.1 := by exact_mod_cast h2.2
                          omega
  obtain ⟨τ, e1, e2, e3⟩ := M_isConnected_eq hR.1 (show 64 < F by omega)
  have hRt := hR.kp e2
  unfold M_height_42 M_height_78
  refine Rt.tst (M_isEdge_t hR.1 he) (fun h' => absurd h h') (fun _ => ?_)
  rw [if_neg (by decide)]
  refine Rt.tst2 e1 (fun h5 => ?_) (fun h5 => ?_)
  · rw [ifc_pos h5]; exact ref_no3 hRt
  · rw [ifc_neg (fun z => z h5)]
    have hR1 := hRt.kp (k1 (v := i32 0))
    obtain ⟨υ, u1, u2, u3, u4⟩ := lays_w (s := 0) (F := F) hR1 (by rw [mA_sI]; exact e3) rfl hF
    have hw9 := wS_ok hR.1.2 (s := 0) (by omega) (by omega)
    have hr := hgt_rng (s := m) hR.1.2 h5 hw9 hd ox hin.2.2
    refine ref_yes0 ?_
    show Rt ((M_weighs F (sI τ 1 (i32 0)) (i32 0)) >>= _) _
    rw [u1]
    refine Rt.let ?_
    rw [i_long hp.1 hp.2, i_long hq.1 hq.2]
    have := M_heightAt_eq (x := (p, q)) (F := F) u3.1 u3.2.1 u3.2.2 hw9 h5 hm hd ox hin.2.2 (by omega)
    simp only at this
    rw [this]
    refine Rt.let ?_
    rw [M_reduced_eq hr.1 (by omega) ox.1 (by have := ox.2.1; omega) h4.1 h4.2 (by have := ox.2.1; have := ox.1; omega)]
    rw [wS_0]
    exact Rt.let (Rt.some (mOK_yes u2 kp.rf u4))
theorem M_cost_ok {e p q part : Int} (hR : mR σ A) (he : rng e) (hp : rng p) (hq : rng q) (hpt : rng part) (hF : 4294967296 < F) : Rt (M_cost F σ (i32 e) (i32 p) (i32 q) (i32 part)) (mOK (sp_cost A e p q part)) := by
  unfold M_cost sp_cost
  refine Rt.tst (M_isEdge_t hR.1 he) (fun h => ?_) (fun h => ?_)
  · rw [ifc_pos h]
    unfold M_cost_32 M_cost_33 M_cost_69
    refine Rt.tst (M_isEdge_t hR.1 he) (fun h => ?_) (fun h' => absurd h' h)
    exact ref_no1 hR
  rw [ifc_neg (fun z => z h)]
  have b1 : Rt (M_cost_32 F (i32 e) (i32 p) (i32 q) (i32 part) σ) (mOK (no A 2)) := by
    unfold M_cost_32 M_cost_33 M_cost_69
    refine Rt.tst (M_isEdge_t hR.1 he) (fun h' => absurd h h') (fun _ => ?_)
    rw [if_pos rfl]; exact ref_no2 hR
  refine Rt.tst (M_isPoint_t hR.1 h hp hq) (fun h3 => ?_) (fun h3 => ?_)
  · rw [ifc_pos (fun z => h3 z.1)]; exact b1
  refine Rt.tst (M_within_t (lo := 0) (hi := 1) hpt (by decide) (by decide)) (fun h4 => ?_) (fun h4 => ?_)
  · rw [ifc_pos (fun z => h4 z.2)]; exact b1
  rw [ifc_neg (fun z => z ⟨h3, h4⟩)]
  obtain ⟨ox, hin⟩ := isPt_okx hR.1.2 h h3
  obtain ⟨d, rfl⟩ : ∃ m : Nat, e = m := ⟨e.toNat, by have := h.1; omega⟩
  have hd : d < eN A.1 := by have := h.2; omega
  obtain ⟨τ, e1, e2, e3⟩ := M_isConnected_eq hR.1 (show 64 < F by omega)
  have hRt := hR.kp e2
  unfold M_cost_33 M_cost_69
  refine Rt.tst (M_isEdge_t hR.1 he) (fun h' => absurd h h') (fun _ => ?_)
  rw [if_neg (by decide)]
  refine Rt.tst2 e1 (fun h5 => ?_) (fun h5 => ?_)
  · rw [ifc_pos h5]; exact ref_no3 hRt
  · rw [ifc_neg (fun z => z h5)]
    have hR1 := hRt.kp (k1 (v := i32 0))
    obtain ⟨υ, u1, u2, u3, u4⟩ := lays_w (s := 0) (F := F) hR1 (by rw [mA_sI]; exact e3) rfl hF
    have hw9 := wS_ok hR.1.2 (s := 0) (by omega) (by omega)
    have hr := cos_rng hR.1.2 h5 hw9 hd ox hin.2.2
    refine ref_yes0 ?_
    show Rt ((M_weighs F (sI τ 1 (i32 0)) (i32 0)) >>= _) _
    rw [u1]
    refine Rt.let ?_
    rw [i_long hp.1 hp.2, i_long hq.1 hq.2]
    have := M_costAt_eq (x := (p, q)) (F := F) u3.1 u3.2.1 u3.2.2 hw9 hd ox (by omega)
    simp only at this
    rw [this]
    refine Rt.let ?_
    rw [M_reduced_eq hr.1 (by omega) ox.1 (by have := ox.2.1; omega) h4.1 h4.2 (by have := ox.2.1; have := ox.1; omega)]
    rw [wS_0]
    exact Rt.let (Rt.some (mOK_yes u2 kp.rf u4))
theorem M_corner_ok {e i v : Int} (hR : mR σ A) (he : rng e) (hi : rng i) (hv : rng v) (hF : 4294967296 < F) : Rt (M_corner F σ (i32 e) (i32 i) (i32 v)) (mOK (sp_corner A e i v)) := by
  unfold M_corner M_corner_38 sp_corner
  refine Rt.tst (M_isEdge_t hR.1 he) (fun h => ?_) (fun h => ?_)
  · rw [ifc_pos h]; exact ref_no1 hR
  rw [ifc_neg (fun z => z h)]
  refine Rt.tst (M_within_t (lo := 0) (hi := 3) hv (by decide) (by decide)) (fun h2 => ?_) (fun h2 => ?_)
  · rw [ifc_pos h2]; exact ref_no2 hR
  rw [ifc_neg (fun z => z h2)]
  obtain ⟨d, rfl⟩ : ∃ m : Nat, e = m := ⟨e.toNat, by have := h.1; omega⟩
  have hd : d < eN A.1 := by have := h.2; omega
  obtain ⟨τ, e1, e2, e3⟩ := M_isConnected_eq hR.1 (show 64 < F by omega)
  have hRt := hR.kp e2
  refine Rt.tst2 e1 (fun h5 => ?_) (fun h5 => ?_)
  · rw [ifc_pos h5]; exact ref_no3 hRt
  · rw [ifc_neg (fun z => z h5)]
    have hR1 := hRt.kp (k1 (v := i32 0))
    obtain ⟨υ, u1, u2, u3, u4⟩ := lays_w (s := 0) (F := F) hR1 (by rw [mA_sI]; exact e3) rfl hF
    have hw9 := wS_ok hR.1.2 (s := 0) (by omega) (by omega)
    refine ref_yes0 ?_
    show Rt ((M_weighs F (sI τ 1 (i32 0)) (i32 0)) >>= _) _
    rw [u1]
    refine Rt.let (Rt.bind (M_cornerTold_eq u3 hw9 h5 hd hi.1 hi.2 h2.1 h2.2 hF) ?_)
    rintro _ ⟨φ, r, rfl, q1, q2⟩
    rw [corA_of hw9.ok0 q2, wS_0]
    exact Rt.some (mOK_yes u2 q1.le (by rw [q1.1 1 (by decide)]; exact u4))
theorem bstA_rng {τ : MS} {s e : Nat} {x : Fq} (hN : okN N) (hc : cnN N) (hw9 : okw9 (nN N) w) (h2 : x.2 ≤ 198) (h3 : ctrP N (hgt N w s) e x) : okx x ∧ 0 ≤ hgt N w s e x ∧ hgt N w s e x ≤ 1272150000 := by
  have px := h3.2.1
  have ox : okx x := by
    obtain ⟨a1, a2, a3, a4, a5⟩ := hN.2.2.2.2.1 e h3.1
    have m := mul_rng (a := (ed N e).2.2) (b := x.2) (A := 50) (B := 198) (by omega) a5 (Int.le_of_lt px.1) h2
    exact ⟨px.1, by omega, px.2.1, by have := px.2.2; omega⟩
  exact ⟨ox, hgt_rng hN hc hw9 h3.1 ox px.2.2⟩
/-- whether the call is refused; if not, the center is laid -/
theorem M_refusedCenter_eq {s v m : Int} (hR : mR σ A) (hs : rng s) (hv : rng v) (hm : rng m) (hF : 4294967296 < F) :
    Rt (M_refusedCenter F σ (i32 s) (i32 v) (i32 m)) (fun r => (¬ (isSe A.1 s ∧ inR v 0 m) ∧ r.1 = i32 1 ∧ mR r.2 A ∧ mI r.2 1 = i32 1) ∨ ((isSe A.1 s ∧ inR v 0 m) ∧ ¬ canN A.1 ∧ r.1 = i32 1 ∧ mR r.2 A ∧ mI r.2 1 = i32 2) ∨
      ((isSe A.1 s ∧ inR v 0 m) ∧ canN A.1 ∧ r.1 = i32 0 ∧ mR r.2 A ∧ lcI A.1 (wN A.1) r.2 ∧ mI r.2 1 = i32 0 ∧ ∃ e x, bstA r.2 e x (hgt A.1 (wN A.1) s.toNat e x) ∧ x.2 ≤ 198 ∧ ctrP A.1 (hgt A.1 (wN A.1) s.toNat) e x)) := by
  have p8 := pow8 hR.1.2
  have r1 : ¬ (isSe A.1 s ∧ inR v 0 m) → Rt (M_refusedCenter_18 F (i32 s) σ) (fun r => (¬ (isSe A.1 s ∧ inR v 0 m) ∧ r.1 = i32 1 ∧ mR r.2 A ∧ mI r.2 1 = i32 1) ∨ ((isSe A.1 s ∧ inR v 0 m) ∧ ¬ canN A.1 ∧ r.1 = i32 1 ∧ mR r.2 A ∧ mI r.2 1 = i32 2) ∨
      ((isSe A.1 s ∧ inR v 0 m) ∧ canN A.1 ∧ r.1 = i32 0 ∧ mR r.2 A ∧ lcI A.1 (wN A.1) r.2 ∧ mI r.2 1 = i32 0 ∧ ∃ e x, bstA r.2 e x (hgt A.1 (wN A.1) s.toNat e x) ∧ x.2 ≤ 198 ∧ ctrP A.1 (hgt A.1 (wN A.1) s.toNat) e x)) := by
    intro h
    unfold M_refusedCenter_18 M_refusedCenter_34
    rw [i_c1, M_refused_eq 1 (by omega) (by omega)]
    refine Rt.let (Rt.ite (fun z => absurd (show (1 : Int32) = 0 from z) (by decide)) (fun _ => Rt.some (Or.inl ⟨h, rfl, hR.kp k1, rfl⟩)))
  unfold M_refusedCenter
  refine Rt.tst (M_isSet_t hR.1 hs) (fun h => r1 (fun z => h z.1)) (fun h => ?_)
  refine Rt.tst (M_within_t (lo := 0) hv (by decide) hm) (fun h2 => r1 (fun z => h2 z.2)) (fun h2 => ?_)
  obtain ⟨τ, e1, e2, e3⟩ := M_canHave_eq hR.1 hF
  have hRt := hR.kp e2
  unfold M_refusedCenter_34
  refine Rt.tst2 e1 (fun h3 => ?_) (fun h3 => ?_)
  · rw [i_c2, M_refused_eq 2 (by omega) (by omega)]
    exact Rt.let (Rt.ite (fun z => absurd (show (1 : Int32) = 0 from z) (by decide)) (fun _ => Rt.some (Or.inr (Or.inl ⟨⟨h, h2⟩, h3, rfl, hRt.kp k1, rfl⟩))))
  · rw [i_c0, M_refused_eq 0 (by omega) (by omega)]
    refine Rt.let (Rt.ite (fun _ => ?_) (fun z => absurd rfl z))
    have hR1 := hRt.kp (k1 (v := i32 0))
    obtain ⟨υ, u1, u2, u3, u4⟩ := lays_w (s := 0) (F := F) hR1 (by rw [mA_sI]; exact e3 h3) rfl hF
    have hw9 := wS_ok hR.1.2 (s := 0) (by omega) (by omega)
    obtain ⟨k, rfl⟩ : ∃ m : Nat, s = m := ⟨s.toNat, by have := h.1; omega⟩
    have hk : k < 256 := by have : k < 2 ^ nN A.1 := by exact_mod_cast h.2
                            omega
    show Rt ((M_weighs F (sI τ 1 (i32 0)) (i32 0)) >>= _) _
    rw [u1]
    refine Rt.let (Rt.bind (M_centers_eq u3 h3.2 hw9 h3.1 hk (by omega)) ?_)
    rintro φ ⟨q1, q2⟩
    rw [wS_0] at q2 u3
    exact Rt.some (Or.inr (Or.inr ⟨⟨h, h2⟩, h3, rfl, u2.kp q1, u3.kp q1, by rw [q1.1 1 (by decide)]; exact u4, q2⟩))
theorem wN_9 (h : okN N) : okw9 (nN N) (wN N) := by
  have := wS_ok h (s := 0) (by omega) (by omega)
  rw [wS_0] at this; exact this
theorem M_centerTold_eq {H : Nat → Fq → Int} {e : Nat} {x : Fq} {v h : Int} (hb : bstA σ e x h) (hx : okx x) (hc : ctrP N H e x) (h0 : 0 ≤ v) (h2 : v ≤ 2) (hF : 4294967296 < F) : M_centerTold F σ (i32 v) = some (i32 (cenT N H v)) := by
  obtain ⟨b1, b2, b3, b4⟩ := hb
  obtain ⟨x1, x2, x3, x4⟩ := hx
  unfold M_centerTold
  rw [← cenT_of hc, b1, b2, b3]
  simp (disch := omega) only [i_c0, i_c1, i_c2, i_c3, i_c4, i_c5, i_c6, i_c8, i_c9, i_c10, i_c12, i_c16, i_c17, i_c18, i_c31, i_c32, i_c45, i_c48, i_c50, i_c54, i_c55, i_c57, i_c58, i_c59, i_c61, i_c64, i_c73, i_c118, i_c119, i_c120, i_c126, i_c365, i_c1000, i_cFAR, i_le, i_lt, i_eq, i_add, i_sub, i_mul, i_neg]
  by_cases h : v = 0
  · rw [if_pos h, if_pos h]
  · rw [if_neg h, if_neg h, M_reduced_eq x3 (by omega) x1 (by omega) (by omega) (by omega) (by omega)]; rfl
theorem M_radius_ok {s part : Int} (hR : mR σ A) (hs : rng s) (hp : rng part) (hF : 4294967296 < F) : Rt (M_radius F σ (i32 s) (i32 part)) (mOK (sp_radius A s part)) := by
  unfold M_radius sp_radius
  refine Rt.bind (M_refusedCenter_eq (m := 1) hR hs hp (by decide) hF) ?_
  rintro ⟨r, τ⟩ (⟨h, rfl, h1, h2⟩ | ⟨h, hc, rfl, h1, h2⟩ | ⟨h, hc, rfl, h1, h2, h3, e, x, h4, h5, h6⟩)
  · rw [ifc_pos h]
    exact Rt.ite (fun z => absurd (show (1 : Int32) = 0 from z) (by decide)) (fun _ => Rt.some ⟨rfl, h1, h2⟩)
  · rw [ifc_neg (fun z => z h), ifc_pos hc]
    exact Rt.ite (fun z => absurd (show (1 : Int32) = 0 from z) (by decide)) (fun _ => Rt.some ⟨rfl, h1, h2⟩)
  · rw [ifc_neg (fun z => z h), ifc_neg (fun z => z hc)]
    obtain ⟨ox, hr⟩ := bstA_rng (τ := τ) hR.1.2 hc.2 (wN_9 hR.1.2) h5 h6
    refine Rt.ite (fun _ => ?_) (fun z => absurd rfl z)
    show Rt ((M_reduced F (mL τ 2) (mL τ 1) (i32 part)) >>= _) _
    rw [h4.2.2.2, h4.2.2.1, M_reduced_eq hr.1 (by omega) ox.1 (by have := ox.2.1; omega) h.2.1 h.2.2 (by have := ox.2.1; have := ox.1; omega)]
    rw [valT_of h6 (fun _ _ _ _ => hgt_nn _ _ _ _ _)]
    exact Rt.let (Rt.some (mOK_yes h1 kp.rf h3))
theorem M_center_ok {s v : Int} (hR : mR σ A) (hs : rng s) (hv : rng v) (hF : 4294967296 < F) : Rt (M_center F σ (i32 s) (i32 v)) (mOK (sp_center A s v)) := by
  unfold M_center sp_center
  refine Rt.bind (M_refusedCenter_eq (m := 2) hR hs hv (by decide) hF) ?_
  rintro ⟨r, τ⟩ (⟨h, rfl, h1, h2⟩ | ⟨h, hc, rfl, h1, h2⟩ | ⟨h, hc, rfl, h1, h2, h3, e, x, h4, h5, h6⟩)
  · rw [ifc_pos h]
    exact Rt.ite (fun z => absurd (show (1 : Int32) = 0 from z) (by decide)) (fun _ => Rt.some ⟨rfl, h1, h2⟩)
  · rw [ifc_neg (fun z => z h), ifc_pos hc]
    exact Rt.ite (fun z => absurd (show (1 : Int32) = 0 from z) (by decide)) (fun _ => Rt.some ⟨rfl, h1, h2⟩)
  · rw [ifc_neg (fun z => z h), ifc_neg (fun z => z hc)]
    obtain ⟨ox, hr⟩ := bstA_rng (τ := τ) hR.1.2 hc.2 (wN_9 hR.1.2) h5 h6
    refine Rt.ite (fun _ => ?_) (fun z => absurd rfl z)
    show Rt ((M_centerTold F τ (i32 v)) >>= _) _
    rw [M_centerTold_eq h4 ox h6 h.2.1 h.2.2 hF]
    exact Rt.let (Rt.some (mOK_yes h1 kp.rf h3))
theorem i_or_bit {a i : Nat} (hi : i ≤ 8) : i32 (a : Int) ||| (i32 1 <<< (i32 (i : Int) &&& i32 31)) = i32 ((a ||| 2 ^ i : Nat) : Int) := by
  rw [i_shl hi, i_or2]
theorem M_criticalNow_eq {s e : Nat} {x : Fq} (hI : lcI N w σ) (hc : cnN N) (hw9 : okw9 (nN N) w) (hs : s < 256) (he : e < eN N) (hb : bstA σ e x (hgt N w s e x)) (hx : okx x) (hxl : x.1 ≤ (ed N e).2.2 * x.2) (hF : 4294967296 < F) :
    Rt (M_criticalNow F σ (i32 s)) (fun v => v = i32 (crtN N w s e x)) := by
  obtain ⟨b1, b2, b3, b4⟩ := hb
  have z1 := hI.1.2.sz.1
  have hr := hgt_rng (s := s) hI.1.2 hc hw9 he hx hxl
  unfold M_criticalNow
  simp only [i_c0]
  refine Rt.loop (ι := Nat) (fun k c q => q = i32 k ∧ k ≤ nN N ∧ c = i32 (crtF (fun i => w i * awy N i e x) s (hgt N w s e x) k)) (fun k => nN N - k) ?_ F 0 _ _ ⟨rfl, by omega, rfl⟩ (by omega)
  rintro n k _ _ ⟨rfl, hk, rfl⟩ ih
  unfold M_criticalNow_4
  rw [M_many_eq hI.1]
  simp (disch := omega) only [Option.bind_eq_bind, Option.bind_some, i_le, i_lt, i_eq]
  refine Rt.ite (fun h => ?_) (fun h => ?_)
  · obtain rfl : k = nN N := by omega
    exact Rt.some rfl
  have hk' : k < nN N := by omega
  have w9 := hw9 k hk'
  have aw := wa_rng hI.1.2 hc hk' he hx hxl
  have vr := mul_rng (A := 99) (B := 12850000) w9.1 w9.2 aw.1 aw.2
  have nxt : ∀ d : Nat, d = (if s.testBit k = true ∧ w k * awy N k e x = hgt N w s e x then 2 ^ k else 0) → Rt (M_criticalNow_61 F (M_criticalNow_4 F σ (i32 s) n) σ (i32 s) (i32 k) (i32 (crtF (fun i => w i * awy N i e x) s (hgt N w s e x) k)) (i32 d)) (fun v => v = i32 (crtN N w s e x)) := by
    intro d hd
    unfold M_criticalNow_61
    simp only [i_c0, i_c1, i_c2, i_c3, i_c4, i_c5, i_c6, i_c8, i_c9, i_c10, i_c12, i_c16, i_c17, i_c18, i_c31, i_c32, i_c45, i_c48, i_c50, i_c54, i_c55, i_c57, i_c58, i_c59, i_c61, i_c64, i_c73, i_c118, i_c119, i_c120, i_c126, i_c365, i_c1000, i_cFAR, i_add, i_sub, i_mul, i_neg, Option.bind_eq_bind, Option.bind_some, i_or2]
    refine ih (k + 1) _ _ ⟨rfl, by omega, ?_⟩ (by omega)
    rw [hd]; rfl
  rw [M_has_eq hs (by omega)]
  simp only [Option.bind_eq_bind, Option.bind_some, i_c0, i_c1, i_c2, i_c3, i_c4, i_c5, i_c6, i_c8, i_c9, i_c10, i_c12, i_c16, i_c17, i_c18, i_c31, i_c32, i_c45, i_c48, i_c50, i_c54, i_c55, i_c57, i_c58, i_c59, i_c61, i_c64, i_c73, i_c118, i_c119, i_c120, i_c126, i_c365, i_c1000, i_cFAR]
  refine Rt.ite (fun h2 => ?_) (fun h2 => ?_)
  · rw [bt_zero] at h2
    unfold M_criticalNow_60
    exact nxt 0 (by rw [if_neg (fun z => h2 z.1)])
  · rw [bt_zero] at h2
    have h2' : s.testBit k = true := Classical.not_not.mp h2
    rw [b1, b2, b3, b4, M_away_eq hI.1 hI.2.1 hk' he hx]
    simp (disch := omega) only [rdI_i, Int.toNat_natCast, hI.2.2 k hk', Option.bind_eq_bind, Option.bind_some, i_long, j_add, j_sub, j_mul, j_neg, j_le, j_lt, j_eq, i_shl]
    refine Rt.ite (fun h3 => nxt _ (by rw [if_pos ⟨h2', h3⟩])) (fun h3 => ?_)
    unfold M_criticalNow_60
    exact nxt 0 (by rw [if_neg (fun z => h3 z.2)])
theorem M_critical_ok {s : Int} (hR : mR σ A) (hs : rng s) (hF : 4294967296 < F) : Rt (M_critical F σ (i32 s)) (mOK (sp_critical A s)) := by
  have p8 := pow8 hR.1.2
  unfold M_critical sp_critical
  refine Rt.bind (M_refusedCenter_eq (v := 0) (m := 0) hR hs (by decide) (by decide) hF) ?_
  rintro ⟨r, τ⟩ (⟨h, rfl, h1, h2⟩ | ⟨h, hc, rfl, h1, h2⟩ | ⟨h, hc, rfl, h1, h2, h3, e, x, h4, h5, h6⟩)
  · rw [ifc_pos (fun z => h ⟨z, by decide⟩)]
    exact Rt.ite (fun z => absurd (show (1 : Int32) = 0 from z) (by decide)) (fun _ => Rt.some ⟨rfl, h1, h2⟩)
  · rw [ifc_neg (fun z => z h.1), ifc_pos hc]
    exact Rt.ite (fun z => absurd (show (1 : Int32) = 0 from z) (by decide)) (fun _ => Rt.some ⟨rfl, h1, h2⟩)
  · rw [ifc_neg (fun z => z h.1), ifc_neg (fun z => z hc)]
    have hw9 := wN_9 hR.1.2
    obtain ⟨ox, hr⟩ := bstA_rng (τ := τ) hR.1.2 hc.2 hw9 h5 h6
    obtain ⟨k, rfl⟩ : ∃ m : Nat, s = m := ⟨s.toNat, by have := h.1.1; omega⟩
    have hk : k < 256 := by have : k < 2 ^ nN A.1 := by exact_mod_cast h.1.2
                            omega
    refine Rt.ite (fun _ => ?_) (fun z => absurd rfl z)
    show Rt ((M_criticalNow F τ (i32 k)) >>= _) _
    refine Rt.bind (M_criticalNow_eq h2 hc.2 hw9 hk h6.1 h4 ox h6.2.1.2.2 hF) ?_
    rintro _ rfl
    have := crtA_of hw9.ok0 h6
    simp only [Int.toNat_natCast] at this ⊢
    rw [this]
    exact Rt.some (mOK_yes h1 kp.rf h3)
end MX
