/-! THE MODEL's CALLS THAT TELL: nodes, distances, points -/
theorem i_shr {s k : Nat} (hs : s < 2147483648) (hk : k ≤ 8) : i32 (s : Int) >>> (i32 (k : Int) &&& i32 31) = i32 ((s / 2 ^ k : Nat) : Int) := by
  apply Int32.toBitVec.inj
  have e0 : ∀ a : Nat, (i32 (a : Int)).toBitVec = BitVec.ofNat 32 a := by intro a; unfold i32; rw [Int32.toBitVec_ofInt, BitVec.ofInt_natCast]
  have ek : ∀ k : Nat, k < 9 → ((i32 (k : Int) &&& i32 31).toBitVec.smod 32).toNat = k := by decide
  show BitVec.sshiftRight (i32 (s : Int)).toBitVec ((i32 (k : Int) &&& i32 31).toBitVec.smod 32).toNat = _
  rw [e0, e0, ek k (by omega)]
  apply BitVec.eq_of_toNat_eq
  have hm : (BitVec.ofNat 32 s).toNat = s := by rw [BitVec.toNat_ofNat]; exact Nat.mod_eq_of_lt (by omega)
  have hd : s / 2 ^ k ≤ s := Nat.div_le_self _ _
  rw [BitVec.toNat_sshiftRight_of_msb_false (by rw [BitVec.msb_eq_false_iff_two_mul_lt, hm]; omega), hm, BitVec.toNat_ofNat, Nat.shiftRight_eq_div_pow]
  exact (Nat.mod_eq_of_lt (by omega)).symm
section MW
variable {σ : MS} {N : Net} {F : Nat} {A : Ab} {w : Nat → Int}
theorem M_isSet_t {s : Int} (hN : mN σ N) (hs : rng s) : M_isSet σ (i32 s) = some (i32 (tr01 (isSe N s))) := by
  have z1 := hN.2.sz.1
  have : Rt (M_isSet σ (i32 s)) (fun r => r = i32 (tr01 (isSe N s))) := by
    unfold M_isSet
    refine Rt.ite (fun h => ?_) (fun h => ?_)
    · rw [i_c0, i_lt hs.1 hs.2 (by omega) (by omega)] at h
      exact Rt.some (by rw [tr01_neg (fun z => by have := z.1; omega)]; rfl)
    · rw [i_c0, i_lt hs.1 hs.2 (by omega) (by omega)] at h
      obtain ⟨m, rfl⟩ : ∃ m : Nat, s = m := ⟨s.toNat, by omega⟩
      rw [M_many_eq hN]
      have hd : m / 2 ^ nN N ≤ m := Nat.div_le_self _ _
      have hp : 0 < 2 ^ nN N := Nat.two_pow_pos _
      obtain ⟨q, hq⟩ : ∃ q, m / 2 ^ nN N = q := ⟨_, rfl⟩
      rw [hq] at hd
      refine Rt.let (Rt.ite (fun h2 => ?_) (fun h2 => ?_))
      · rw [i_c31, i_shr (by omega) z1, hq, i_c0, i_eq (by omega) (by omega) (by omega) (by omega)] at h2
        have : m < 2 ^ nN N := by
          rcases Nat.div_eq_zero_iff.mp (show m / 2 ^ nN N = 0 by omega) with r | r
          · omega
          · exact r
        exact Rt.some (by rw [tr01_pos ⟨by omega, by exact_mod_cast this⟩]; rfl)
      · rw [i_c31, i_shr (by omega) z1, hq, i_c0, i_eq (by omega) (by omega) (by omega) (by omega)] at h2
        refine Rt.some (by
          rw [tr01_neg (fun z => h2 (by
            have : m < 2 ^ nN N := by exact_mod_cast z.2
            rw [← hq, Nat.div_eq_of_lt this]; rfl))]
          rfl)
  obtain ⟨r, e, rfl⟩ := this
  exact e
theorem M_isPoint_t {e p q : Int} (hN : mN σ N) (he : isEg N e) (hp : rng p) (hq : rng q) : M_isPoint σ (i32 e) (i32 p) (i32 q) = some (i32 (tr01 (isPt N e p q))) := by
  have hl := hN.2.2.2.2.2.1 e.toNat (by have := he.2; have := he.1; omega)
  have : Rt (M_isPoint σ (i32 e) (i32 p) (i32 q)) (fun r => r = i32 (tr01 (isPt N e p q))) := by
    unfold M_isPoint
    refine Rt.tst (M_within_t (lo := 1) (hi := 1000) hq (by decide) (by decide)) (fun h => ?_) (fun h => ?_)
    · exact Rt.some (by rw [tr01_neg (fun z => h z.1)]; rfl)
    refine Rt.ite (fun h2 => ?_) (fun h2 => ?_)
    · rw [i_c0, i_lt hp.1 hp.2 (by omega) (by omega)] at h2
      exact Rt.some (by rw [tr01_neg (fun z => by have := z.2.1; omega)]; rfl)
    rw [i_c0, i_lt hp.1 hp.2 (by omega) (by omega)] at h2
    rw [M_of_2' hN he]
    have m := mul_rng (a := (ed N e.toNat).2.2) (b := q) (A := 50) (B := 1000) (by omega) (by omega) (by omega) h.2
    rw [Int.mul_comm] at m
    refine Rt.let (Rt.ite (fun h3 => ?_) (fun h3 => ?_))
    · rw [i_long hq.1 hq.2, i_long (by omega) (by omega), i_long hp.1 hp.2, j_mul, j_lt (by omega) (by omega) (by omega) (by omega)] at h3
      exact Rt.some (by rw [tr01_neg (fun z => by have := z.2.2; rw [Int.mul_comm] at this; omega)]; rfl)
    · rw [i_long hq.1 hq.2, i_long (by omega) (by omega), i_long hp.1 hp.2, j_mul, j_lt (by omega) (by omega) (by omega) (by omega)] at h3
      exact Rt.some (by rw [tr01_pos ⟨h, by omega, by rw [Int.mul_comm]; omega⟩]; rfl)
  obtain ⟨r, e, rfl⟩ := this
  exact e
theorem kpA {τ υ : MS} (h : kp [] [] [4] [] τ υ) : kp [1, 3, 4] [0, 1, 2, 3, 4] [4, 5] [0, 1, 2, 3, 4, 5] τ υ := h.le
/-- what a call that tells may change -/
abbrev kpT : MS → MS → Prop := kp [1, 3, 4, 5, 6, 7] [0, 1, 2, 3, 4, 5] [4, 5, 6] [0, 1, 2, 3, 4, 5]
theorem mOK_yes {τ υ : MS} {v : Int} (hR : mR τ A) (hk : kpT τ υ) (h1 : mI υ 1 = i32 0) : mOK (yes A v) (i32 v, υ) := ⟨rfl, hR.kp hk, h1⟩
theorem M_canHave_eq (hN : mN σ N) (hF : 4294967296 < F) : ∃ τ, M_canHave F σ = some (i32 (tr01 (canN N)), τ) ∧ kp [] [] [4] [] σ τ ∧ (canN N → far (nN N) (mA τ 4) (dN N)) := by
  have z2 := hN.2.sz.2.1
  obtain ⟨τ, e1, e2, e3⟩ := M_isConnected_eq hN (show 64 < F by omega)
  have : Rt (M_canHave F σ) (fun v => v.1 = i32 (tr01 (canN N)) ∧ kp [] [] [4] [] σ v.2 ∧ (canN N → far (nN N) (mA v.2 4) (dN N))) := by
    unfold M_canHave
    rw [M_edgeMany_eq hN]
    refine Rt.let (Rt.ite (fun h => ?_) (fun h => ?_))
    · rw [i_c0, i_le (by omega) (by omega) (by omega) (by omega)] at h
      have hc : ¬ canN N := fun z => by have := z.1; omega
      exact Rt.some ⟨by rw [tr01_neg hc]; rfl, kp.rf, fun z => absurd z hc⟩
    · rw [i_c0, i_le (by omega) (by omega) (by omega) (by omega)] at h
      refine Rt.tst2 e1 (fun h2 => ?_) (fun h2 => ?_)
      · have hc : ¬ canN N := fun z => h2 z.2
        exact Rt.some ⟨by rw [tr01_neg hc]; rfl, e2, fun z => absurd z hc⟩
      · have hc : canN N := ⟨by omega, h2⟩
        exact Rt.some ⟨by rw [tr01_pos hc]; rfl, e2, fun _ => e3⟩
  obtain ⟨⟨v, τ⟩, e, h1, h2, h3⟩ := this
  refine ⟨τ, ?_, h2, h3⟩
  rw [e]; simp only at h1; rw [h1]
theorem M_counted_eq {v : Int} (hN : mN σ N) (h0 : 0 ≤ v) (h3 : v ≤ 3) (hF : 4294967296 < F) : Rt (M_counted F σ (i32 v)) (fun r => r.1 = i32 (cntN N v) ∧ kp [] [] [4] [] σ r.2) := by
  obtain ⟨τ, e1, e2, e3⟩ := M_isConnected_eq hN (show 64 < F by omega)
  unfold M_counted cntN
  rw [M_many_eq hN, M_edgeMany_eq hN, M_stretchMany_eq hN]
  simp (disch := omega) only [i_c0, i_c1, i_c2, i_c3, i_c4, i_c5, i_c6, i_c8, i_c9, i_c10, i_c12, i_c16, i_c17, i_c18, i_c31, i_c32, i_c45, i_c48, i_c50, i_c54, i_c55, i_c57, i_c58, i_c59, i_c61, i_c64, i_c73, i_c118, i_c119, i_c120, i_c126, i_c365, i_c1000, i_cFAR, i_le, i_lt, i_eq]
  refine Rt.ite (fun h => ?_) (fun h => ?_)
  · rw [if_pos h]; exact Rt.of rfl ⟨rfl, kp.rf⟩
  rw [if_neg h]
  refine Rt.ite (fun h => ?_) (fun h => ?_)
  · rw [if_pos h]; exact Rt.of rfl ⟨rfl, kp.rf⟩
  rw [if_neg h]
  refine Rt.ite (fun h => ?_) (fun h => ?_)
  · rw [if_pos h]; exact Rt.of rfl ⟨rfl, kp.rf⟩
  rw [if_neg h]
  refine Rt.tst2 e1 (fun h2 => ?_) (fun h2 => ?_)
  · rw [tr01_neg h2]; exact Rt.some ⟨rfl, e2⟩
  · rw [tr01_pos h2]; exact Rt.some ⟨rfl, e2⟩
theorem M_count_ok {v : Int} (hR : mR σ A) (hv : rng v) (hF : 4294967296 < F) : Rt (M_count F σ (i32 v)) (mOK (sp_count A v)) := by
  unfold M_count M_count_15 sp_count
  refine Rt.tst (M_within_t (lo := 0) (hi := 3) hv (by decide) (by decide)) (fun h => ?_) (fun h => ?_)
  · rw [ifc_neg h]; exact ref_no1 hR
  · rw [ifc_pos h]
    have hR1 := hR.kp (k1 (v := i32 0))
    refine ref_yes0 (Rt.bind (M_counted_eq hR1.1 h.1 h.2 hF) ?_)
    rintro ⟨r, τ⟩ ⟨rfl, h2⟩
    exact Rt.some (mOK_yes hR1 h2.le (by rw [h2.1 1 (by decide)]; rfl))
theorem M_of_w {e v : Int} (hN : mN σ N) (he : isEg N e) (h0 : 0 ≤ v) (h2 : v ≤ 2) : M_of σ (i32 e) (i32 v) = some (i32 (edW N e.toNat v)) := by
  obtain ⟨m, rfl⟩ : ∃ m : Nat, e = m := ⟨e.toNat, by have := he.1; omega⟩
  have hm : m < eN N := by have := he.2; omega
  unfold edW
  by_cases h : v = 0
  · rw [h, if_pos rfl]; exact M_of_0 hN hm
  · rw [if_neg h]
    by_cases h' : v = 1
    · rw [h', if_pos rfl]; exact M_of_1 hN hm
    · rw [if_neg h']
      obtain rfl : v = 2 := by omega
      exact M_of_2 hN hm
theorem M_edge_ok {e v : Int} (hR : mR σ A) (he : rng e) (hv : rng v) : Rt (M_edge σ (i32 e) (i32 v)) (mOK (sp_edge A e v)) := by
  unfold M_edge M_edge_27 sp_edge
  refine Rt.tst (M_isEdge_t hR.1 he) (fun h => ?_) (fun h => ?_)
  · rw [ifc_pos h]; exact ref_no1 hR
  rw [ifc_neg (fun z => z h)]
  refine Rt.tst (M_within_t (lo := 0) (hi := 2) hv (by decide) (by decide)) (fun h2 => ?_) (fun h2 => ?_)
  · rw [ifc_pos h2]; exact ref_no2 hR
  · rw [ifc_neg (fun z => z h2)]
    have hR1 := hR.kp (k1 (v := i32 0))
    refine ref_yes0 ?_
    show Rt ((M_of (sI σ 1 (i32 0)) (i32 e) (i32 v)) >>= _) _
    rw [M_of_w hR1.1 h h2.1 h2.2]
    exact Rt.let (Rt.some (mOK_yes hR1 kp.rf rfl))
theorem M_at_w {k v : Int} (hN : mN σ N) (hk : isSt N k) (h0 : 0 ≤ v) (h2 : v ≤ 2) : M_at σ (i32 k) (i32 v) = some (i32 (sdW N k.toNat v)) := by
  obtain ⟨m, rfl⟩ : ∃ m : Nat, k = m := ⟨k.toNat, by have := hk.1; omega⟩
  have hm : m < sN N := by have := hk.2; omega
  unfold sdW
  by_cases h : v = 0
  · rw [h, if_pos rfl]; exact M_at_0 hN hm
  · rw [if_neg h]
    by_cases h' : v = 1
    · rw [h', if_pos rfl]; exact M_at_1 hN hm
    · rw [if_neg h']
      obtain rfl : v = 2 := by omega
      exact M_at_2 hN hm
theorem M_stretch_ok {k v : Int} (hR : mR σ A) (hk : rng k) (hv : rng v) : Rt (M_stretch σ (i32 k) (i32 v)) (mOK (sp_stretch A k v)) := by
  unfold M_stretch M_stretch_33 sp_stretch
  rw [M_stretchMany_eq hR.1]
  refine Rt.let (Rt.tst (M_isStretch_t hR.1 hk) (fun h => ?_) (fun h => ?_))
  · rw [ifc_pos h]; exact ref_no1 hR
  rw [ifc_neg (fun z => z h)]
  refine Rt.tst (M_within_t (lo := 0) (hi := 2) hv (by decide) (by decide)) (fun h2 => ?_) (fun h2 => ?_)
  · rw [ifc_pos h2]; exact ref_no2 hR
  · rw [ifc_neg (fun z => z h2)]
    have hR1 := hR.kp (k1 (v := i32 0))
    refine ref_yes0 ?_
    show Rt ((M_at (sI σ 1 (i32 0)) (i32 k) (i32 v)) >>= _) _
    rw [M_at_w hR1.1 h h2.1 h2.2]
    exact Rt.let (Rt.some (mOK_yes hR1 kp.rf rfl))
theorem degF_succ {es : List Ed} {i k : Nat} (hk : k < es.length) : degF (es.take (k + 1)) i = degF (es.take k) i + (if es[k].1 = i ∨ es[k].2.1 = i then 1 else 0) := by
  unfold degF
  rw [List.take_succ_eq_append_getElem hk, List.countP_append]
  congr 1
  rw [List.countP_singleton]
  by_cases h : es[k].1 = i ∨ es[k].2.1 = i
  · rw [if_pos h, if_pos (by simpa using h)]
  · rw [if_neg h, if_neg (by simpa using h)]
theorem degF_le {es : List Ed} {i : Nat} : degF es i ≤ es.length := List.countP_le_length
theorem M_nodeTold_eq {i v : Int} (hN : mN σ N) (hi : isNd N i) (h0 : 0 ≤ v) (h2 : v ≤ 2) (hF : 4294967296 < F) : Rt (M_nodeTold F σ (i32 i) (i32 v)) (fun r => r = i32 (ndW N i.toNat v)) := by
  obtain ⟨m, rfl⟩ : ∃ m : Nat, i = m := ⟨i.toNat, by have := hi.1; omega⟩
  have hm : m < nN N := by have := hi.2; omega
  have z1 := hN.2.sz.1
  have z2 := hN.2.sz.2.1
  have e1 : (1 + (m : Int)).toNat = 1 + m := by omega
  have e9 : (9 + (m : Int)).toNat = 9 + m := by omega
  unfold M_nodeTold
  simp only [i_c0]
  refine Rt.loop (ι := Nat) (fun k c x => x = i32 k ∧ k ≤ eN N ∧ c = i32 (degF (N.2.1.take k) m)) (fun k => eN N - k) ?_ F 0 _ _ ⟨rfl, by omega, rfl⟩ (by omega)
  rintro n k _ _ ⟨rfl, hk, rfl⟩ ih
  have dl : degF (N.2.1.take k) m ≤ 12 := Nat.le_trans degF_le (Nat.le_trans (List.length_take_le _ _) (by omega))
  unfold M_nodeTold_5
  rw [M_edgeMany_eq hN]
  simp (disch := omega) only [i_c0, i_c1, i_c2, i_c3, i_c4, i_c5, i_c6, i_c8, i_c9, i_c10, i_c12, i_c16, i_c17, i_c18, i_c31, i_c32, i_c45, i_c48, i_c50, i_c54, i_c55, i_c57, i_c58, i_c59, i_c61, i_c64, i_c73, i_c118, i_c119, i_c120, i_c126, i_c365, i_c1000, i_cFAR, Option.bind_eq_bind, Option.bind_some, i_le, i_lt, i_eq]
  refine Rt.ite (fun h => ?_) (fun h => ?_)
  · obtain rfl : k = eN N := by omega
    unfold M_nodeTold_50 ndW
    rw [List.take_of_length_le (show N.2.1.length ≤ eN N from Nat.le_refl _)]
    simp (disch := omega) only [i_c0, i_c1, i_c2, i_c3, i_c4, i_c5, i_c6, i_c8, i_c9, i_c10, i_c12, i_c16, i_c17, i_c18, i_c31, i_c32, i_c45, i_c48, i_c50, i_c54, i_c55, i_c57, i_c58, i_c59, i_c61, i_c64, i_c73, i_c118, i_c119, i_c120, i_c126, i_c365, i_c1000, i_cFAR, Option.bind_eq_bind, Option.bind_some, i_le, i_lt, i_eq, i_add, i_sub, i_mul, i_neg]
    refine Rt.ite (fun h => ?_) (fun h => ?_)
    · rw [if_pos h, rdI_i (by omega) (by omega) (by omega), e1, (hN.1.2.1 m hm).1]; exact Rt.of rfl rfl
    rw [if_neg h]
    refine Rt.ite (fun h => ?_) (fun h => ?_)
    · rw [if_pos h, rdI_i (by omega) (by omega) (by omega), e9, (hN.1.2.1 m hm).2]; exact Rt.of rfl rfl
    · rw [if_neg h]; exact Rt.some rfl
  have hk' : k < eN N := by omega
  have ek : ed N k = N.2.1[k]'hk' := getD_at hk'
  obtain ⟨a1, a2, a3, a4, a5⟩ := hN.2.2.2.2.2.1 k hk'
  have nxt : ∀ d : Nat, d = (if (ed N k).1 = m ∨ (ed N k).2.1 = m then 1 else 0) → Rt (M_nodeTold_42 F (M_nodeTold_5 F σ (i32 m) (i32 v) n) σ (i32 m) (i32 v) (i32 k) (i32 (degF (N.2.1.take k) m)) (i32 d)) (fun r => r = i32 (ndW N (m : Int).toNat v)) := by
    intro d hd
    unfold M_nodeTold_42
    simp only [i_c0, i_c1, i_c2, i_c3, i_c4, i_c5, i_c6, i_c8, i_c9, i_c10, i_c12, i_c16, i_c17, i_c18, i_c31, i_c32, i_c45, i_c48, i_c50, i_c54, i_c55, i_c57, i_c58, i_c59, i_c61, i_c64, i_c73, i_c118, i_c119, i_c120, i_c126, i_c365, i_c1000, i_cFAR, i_add, i_sub, i_mul, i_neg, Option.bind_eq_bind, Option.bind_some]
    refine ih (k + 1) _ _ ⟨rfl, by omega, ?_⟩ (by omega)
    rw [degF_succ hk', ← ek, ← hd]; congr 1
  unfold M_nodeTold_37
  rw [M_of_0 hN hk', M_of_1 hN hk']
  simp (disch := omega) only [i_c0, i_c1, i_c2, i_c3, i_c4, i_c5, i_c6, i_c8, i_c9, i_c10, i_c12, i_c16, i_c17, i_c18, i_c31, i_c32, i_c45, i_c48, i_c50, i_c54, i_c55, i_c57, i_c58, i_c59, i_c61, i_c64, i_c73, i_c118, i_c119, i_c120, i_c126, i_c365, i_c1000, i_cFAR, Option.bind_eq_bind, Option.bind_some, i_le, i_lt, i_eq]
  refine Rt.ite (fun h => nxt 1 (by rw [if_pos (Or.inl (by omega))])) (fun h => Rt.ite (fun h2 => nxt 1 (by rw [if_pos (Or.inr (by omega))])) (fun h2 => nxt 0 (by rw [if_neg (by omega)])))
theorem M_node_ok {i v : Int} (hR : mR σ A) (hi : rng i) (hv : rng v) (hF : 4294967296 < F) : Rt (M_node F σ (i32 i) (i32 v)) (mOK (sp_node A i v)) := by
  unfold M_node M_node_27 sp_node
  refine Rt.tst (M_isNode_t hR.1 hi) (fun h => ?_) (fun h => ?_)
  · rw [ifc_pos h]; exact ref_no1 hR
  rw [ifc_neg (fun z => z h)]
  refine Rt.tst (M_within_t (lo := 0) (hi := 2) hv (by decide) (by decide)) (fun h2 => ?_) (fun h2 => ?_)
  · rw [ifc_pos h2]; exact ref_no2 hR
  · rw [ifc_neg (fun z => z h2)]
    have hR1 := hR.kp (k1 (v := i32 0))
    refine ref_yes0 (Rt.bind (M_nodeTold_eq hR1.1 h h2.1 h2.2 hF) ?_)
    rintro _ rfl
    exact Rt.some (mOK_yes hR1 kp.rf rfl)
theorem M_areNodes_t {a b : Int} (hN : mN σ N) (ha : rng a) (hb : rng b) : M_areNodes σ (i32 a) (i32 b) = some (i32 (tr01 (isNd N a ∧ isNd N b))) := by
  have : Rt (M_areNodes σ (i32 a) (i32 b)) (fun r => r = i32 (tr01 (isNd N a ∧ isNd N b))) := by
    unfold M_areNodes
    refine Rt.tst (M_isNode_t hN ha) (fun h => Rt.some (by rw [tr01_neg (fun z => h z.1)]; rfl)) (fun h => ?_)
    exact Rt.tst (M_isNode_t hN hb) (fun h2 => Rt.some (by rw [tr01_neg (fun z => h2 z.2)]; rfl)) (fun h2 => Rt.some (by rw [tr01_pos ⟨h, h2⟩]; rfl))
  obtain ⟨r, e, rfl⟩ := this
  exact e
theorem M_distance_ok {a b : Int} (hR : mR σ A) (ha : rng a) (hb : rng b) (hF : 4294967296 < F) : Rt (M_distance F σ (i32 a) (i32 b)) (mOK (sp_distance A a b)) := by
  unfold M_distance M_distance_15 sp_distance
  refine Rt.tst (M_areNodes_t hR.1 ha hb) (fun h => ?_) (fun h => ?_)
  · rw [ifc_neg h]; exact ref_no1 hR
  · rw [ifc_pos h]
    have z1 := hR.1.2.sz.1
    have hR1 := hR.kp (k1 (v := i32 0))
    obtain ⟨x, rfl⟩ : ∃ m : Nat, a = m := ⟨a.toNat, by have := h.1.1; omega⟩
    obtain ⟨y, rfl⟩ : ∃ m : Nat, b = m := ⟨b.toNat, by have := h.2.1; omega⟩
    have hx : x < nN A.1 := by have := h.1.2; omega
    have hy : y < nN A.1 := by have := h.2.2; omega
    obtain ⟨τ, e1, e2, e3⟩ := M_lays_eq hR1.1 (show 64 < F by omega)
    have hI := okN_D hR.1.2
    have b1 := hI.2.1 x y
    have b2 := hI.2.2.2 x y
    have g := far_mid e3 hx hy
    refine ref_yes0 ?_
    show Rt ((M_lays F (sI σ 1 (i32 0))) >>= _) _
    rw [e1]
    refine Rt.let ?_
    simp (disch := omega) only [i_c0, i_c1, i_c2, i_c3, i_c4, i_c5, i_c6, i_c8, i_c9, i_c10, i_c12, i_c16, i_c17, i_c18, i_c31, i_c32, i_c45, i_c48, i_c50, i_c54, i_c55, i_c57, i_c58, i_c59, i_c61, i_c64, i_c73, i_c118, i_c119, i_c120, i_c126, i_c365, i_c1000, i_cFAR, i_neg, i_add, i_sub, i_mul, i_neg, rdI_i, g, Option.bind_eq_bind, Option.bind_some, i_le, i_lt, i_eq]
    have fin : ∀ v : Int, mOK (yes A v) (i32 v, τ) := fun v => mOK_yes hR1 e2.le (by rw [e2.1 1 (by decide)]; rfl)
    refine Rt.ite (fun h2 => ?_) (fun h2 => ?_)
    · rw [if_neg (show ¬ dN A.1 (x : Int).toNat (y : Int).toNat < 100000 by simp only [Int.toNat_natCast]; omega)]
      exact Rt.some (fin _)
    · rw [if_pos (show dN A.1 (x : Int).toNat (y : Int).toNat < 100000 by simp only [Int.toNat_natCast]; omega)]
      exact Rt.some (fin _)
theorem nxS_rng {D : Mx} {x y : Nat} {best : Int} {e : Ed} (hb : -1 ≤ best ∧ best < 8) (he : e.1 < 8 ∧ e.2.1 < 8) : -1 ≤ nxS D x y best e ∧ nxS D x y best e < 8 := by
  unfold nxS
  simp only
  generalize hv : (if e.1 = x then (e.2.1 : Int) else if e.2.1 = x then (e.1 : Int) else -1) = v
  have h2 : -1 ≤ v ∧ v < 8 := by
    rw [← hv]
    split
    · omega
    · split <;> omega
  split
  · exact h2
  · exact hb
theorem M_next_ok {a b : Int} (hR : mR σ A) (ha : rng a) (hb : rng b) (hF : 4294967296 < F) : Rt (M_next F σ (i32 a) (i32 b)) (mOK (sp_next A a b)) := by
  unfold M_next M_next_15 sp_next
  refine Rt.tst (M_areNodes_t hR.1 ha hb) (fun h => ?_) (fun h => ?_)
  · rw [ifc_neg h]; exact ref_no1 hR
  rw [ifc_pos h]
  have z1 := hR.1.2.sz.1
  have z2 := hR.1.2.sz.2.1
  have hR1 := hR.kp (k1 (v := i32 0))
  obtain ⟨x, rfl⟩ : ∃ m : Nat, a = m := ⟨a.toNat, by have := h.1.1; omega⟩
  obtain ⟨y, rfl⟩ : ∃ m : Nat, b = m := ⟨b.toNat, by have := h.2.1; omega⟩
  have hx : x < nN A.1 := by have := h.1.2; omega
  have hy : y < nN A.1 := by have := h.2.2; omega
  obtain ⟨τ, e1, e2, e3⟩ := M_lays_eq hR1.1 (show 64 < F by omega)
  have hNt := hR1.1.kp e2
  have hI := okN_D hR.1.2
  have dr : ∀ i j, 0 ≤ dN A.1 i j ∧ dN A.1 i j ≤ 100000 := fun i j => ⟨hI.2.1 i j, by have := hI.2.2.2 i j; omega⟩
  have b1 := dr x y
  have g := far_mid e3 hx hy
  refine ref_yes0 ?_
  show Rt ((M_lays F (sI σ 1 (i32 0))) >>= _) _
  rw [e1]
  refine Rt.let ?_
  simp only [show (-1 : Int32) = i32 (-1) from rfl, i_c0]
  have fin : ∀ v : Int, v = nxA A.1 x y → Rt (some (i32 v, τ)) (mOK (yes A (nxA A.1 (x : Int).toNat (y : Int).toNat))) := fun v hv => Rt.some (by rw [hv]; exact mOK_yes hR1 e2.le (by rw [e2.1 1 (by decide)]; rfl))
  refine Rt.loop3 (ι := Nat) (fun k c q υ => q = i32 k ∧ υ = τ ∧ k ≤ eN A.1 ∧ (k ≠ 0 → x ≠ y ∧ dN A.1 x y < 100000) ∧ ∃ best : Int, c = i32 best ∧ -1 ≤ best ∧ best < 8 ∧ best = (A.1.2.1.take k).foldl (nxS (dN A.1) x y) (-1)) (fun k => eN A.1 - k) ?_ F 0 _ _ _ ⟨rfl, rfl, by omega, fun z => absurd rfl z, -1, rfl, by omega, by omega, rfl⟩ (by omega)
  rintro n k _ _ υ ⟨rfl, rfl, hk, hok, best, rfl, hb1, hb2, hbest⟩ ih
  unfold M_next_32
  rw [M_edgeMany_eq hNt]
  simp (disch := omega) only [i_c0, i_c1, i_c2, i_c3, i_c4, i_c5, i_c6, i_c8, i_c9, i_c10, i_c12, i_c16, i_c17, i_c18, i_c31, i_c32, i_c45, i_c48, i_c50, i_c54, i_c55, i_c57, i_c58, i_c59, i_c61, i_c64, i_c73, i_c118, i_c119, i_c120, i_c126, i_c365, i_c1000, i_cFAR, i_neg, Option.bind_eq_bind, Option.bind_some, i_le, i_lt, i_eq, i_add, i_sub, i_mul, i_neg, rdI_i, g]
  refine Rt.ite (fun h1 => ?_) (fun h1 => ?_)
  · obtain rfl : k = eN A.1 := by omega
    refine fin _ ?_
    unfold nxA
    rw [hbest, List.take_of_length_le (show A.1.2.1.length ≤ eN A.1 from Nat.le_refl _)]
    by_cases hc : x ≠ y ∧ dN A.1 x y < 100000
    · rw [if_pos hc]
    · rw [if_neg hc]
      have : eN A.1 = 0 := Classical.byContradiction (fun z => hc (hok z))
      rw [List.length_eq_zero_iff.mp this]; rfl
  have hk' : k < eN A.1 := by omega
  refine Rt.ite (fun h2 => ?_) (fun h2 => ?_)
  · have k0 : k = 0 := Classical.byContradiction (fun z => (hok z).1 (by omega))
    subst k0
    refine fin _ ?_
    unfold nxA
    rw [hbest, if_neg (fun z => z.1 (by omega))]; rfl
  refine Rt.ite (fun h3 => ?_) (fun h3 => ?_)
  · have k0 : k = 0 := Classical.byContradiction (fun z => by have := (hok z).2; omega)
    subst k0
    refine fin _ ?_
    unfold nxA
    rw [hbest, if_neg (fun z => by have := z.2; omega)]; rfl
  have ek : ed A.1 k = A.1.2.1[k]'hk' := getD_at hk'
  obtain ⟨a1, a2, a3, a4, a5⟩ := hR.1.2.2.2.2.2.1 k hk'
  have nxt : ∀ best' : Int, best' = nxS (dN A.1) x y best (ed A.1 k) → Rt (M_next_161 F (M_next_32 F (i32 x) (i32 y) n) (i32 x) (i32 y) (i32 best') (i32 k) υ) (mOK (yes A (nxA A.1 (x : Int).toNat (y : Int).toNat))) := by
    intro best' hb'
    have nr := nxS_rng (D := dN A.1) (x := x) (y := y) ⟨hb1, hb2⟩ (show (ed A.1 k).1 < 8 ∧ (ed A.1 k).2.1 < 8 by omega)
    unfold M_next_161
    simp only [i_c0, i_c1, i_c2, i_c3, i_c4, i_c5, i_c6, i_c8, i_c9, i_c10, i_c12, i_c16, i_c17, i_c18, i_c31, i_c32, i_c45, i_c48, i_c50, i_c54, i_c55, i_c57, i_c58, i_c59, i_c61, i_c64, i_c73, i_c118, i_c119, i_c120, i_c126, i_c365, i_c1000, i_cFAR, i_add, i_sub, i_mul, i_neg, Option.bind_eq_bind, Option.bind_some]
    refine ih (k + 1) _ _ _ ⟨rfl, rfl, by omega, fun _ => ⟨by omega, by omega⟩, best', rfl, by omega, by omega, ?_⟩ (by omega)
    rw [List.take_succ_eq_append_getElem hk', List.foldl_append, ← hbest, ← ek]
    exact hb'
  have try1 : ∀ u : Nat, u < nN A.1 → (if (ed A.1 k).1 = x then ((ed A.1 k).2.1 : Int) else if (ed A.1 k).2.1 = x then ((ed A.1 k).1 : Int) else -1) = u → Rt (M_next_105 F (M_next_32 F (i32 x) (i32 y) n) (i32 x) (i32 y) (i32 best) (i32 k) (i32 u) υ) (mOK (yes A (nxA A.1 (x : Int).toNat (y : Int).toNat))) := by
    intro u hu hv
    have g2 := far_mid e3 hu hy
    have b2 := dr u y
    unfold M_next_105 M_next_158
    simp only [show (2 : Int32) = i32 2 from rfl]
    rw [M_of_2 hNt hk']
    simp (disch := omega) only [i_c0, i_c1, i_c2, i_c3, i_c4, i_c5, i_c6, i_c8, i_c9, i_c10, i_c12, i_c16, i_c17, i_c18, i_c31, i_c32, i_c45, i_c48, i_c50, i_c54, i_c55, i_c57, i_c58, i_c59, i_c61, i_c64, i_c73, i_c118, i_c119, i_c120, i_c126, i_c365, i_c1000, i_cFAR, i_neg, Option.bind_eq_bind, Option.bind_some, i_le, i_lt, i_eq, i_add, i_sub, i_mul, i_neg, rdI_i, g, g2]
    rw [if_neg (by omega)]
    have ev : ∀ r : Int, (if (u : Int) ≠ -1 ∧ (ed A.1 k).2.2 + dN A.1 u y = dN A.1 x y ∧ (best = -1 ∨ (u : Int) < best) then (u : Int) else best) = r → r = nxS (dN A.1) x y best (ed A.1 k) := by
      intro r hr
      unfold nxS
      simp only [hv, Int.toNat_natCast]
      exact hr.symm
    refine Rt.ite (fun h4 => ?_) (fun h4 => nxt _ (ev _ (by rw [if_neg (fun z => h4 z.2.1)])))
    refine Rt.ite (fun h5 => nxt _ (ev _ (by rw [if_pos ⟨by omega, h4, Or.inl h5⟩]))) (fun h5 => ?_)
    exact Rt.ite (fun h6 => nxt _ (ev _ (by rw [if_neg (fun z => by rcases z.2.2 with q | q <;> omega)]))) (fun h6 => nxt _ (ev _ (by rw [if_pos ⟨by omega, h4, Or.inr (by omega)⟩])))
  rw [M_of_0 hNt hk', M_of_1 hNt hk']
  simp (disch := omega) only [Option.bind_eq_bind, Option.bind_some, i_le, i_lt, i_eq]
  refine Rt.ite (fun h4 => try1 _ a2 (by rw [if_pos (by omega)])) (fun h4 => ?_)
  refine Rt.ite (fun h5 => try1 _ a1 (by rw [if_neg (by omega), if_pos (by omega)])) (fun h5 => ?_)
  unfold M_next_105
  rw [if_pos (show i32 (-1) = -1 from rfl)]
  refine nxt _ ?_
  unfold nxS
  simp only
  rw [if_neg (show ¬ (ed A.1 k).1 = x by omega), if_neg (show ¬ (ed A.1 k).2.1 = x by omega), if_neg (fun z => z.1 rfl)]
end MW
