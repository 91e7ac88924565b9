/-! THE MODEL's DISTANCES -/
/-- the table of distances -/
def far (m : Nat) (f : Nat → Int32) (D : Mx) : Prop := ∀ i j, i < m → j < m → f (8 * i + j) = i32 (D i j)
section MD
variable {σ : MS} {N : Net} {F : Nat}
theorem M_lays_2_eq (d : Nat) : ∀ (k : Nat) (n : Nat) (σ : MS), k + d = 64 → d < n → (∀ q, q < k → mA σ 4 q = i32 (if q % 9 = 0 then 0 else 100000)) →
    ∃ τ, M_lays_2 F n (i32 k) σ = M_lays_33 F τ ∧ kp [] [] [4] [] σ τ ∧ ∀ q, q < 64 → mA τ 4 q = i32 (if q % 9 = 0 then 0 else 100000) := by
  induction d with
  | zero =>
    intro k n σ hk hn h
    obtain ⟨n, rfl⟩ : ∃ n', n = n' + 1 := ⟨n - 1, by omega⟩
    refine ⟨σ, ?_, kp.rf, fun q hq => h q (by omega)⟩
    unfold M_lays_2
    simp (disch := omega) only [i_c0, i_c1, i_c2, i_c3, i_c4, i_c5, i_c6, i_c8, i_c9, i_c10, i_c12, i_c16, i_c17, i_c18, i_c31, i_c32, i_c45, i_c48, i_c50, i_c54, i_c55, i_c57, i_c58, i_c59, i_c61, i_c64, i_c73, i_c118, i_c119, i_c120, i_c126, i_c365, i_c1000, i_cFAR, i_le, i_lt, i_eq]
    rw [if_pos (by omega)]
  | succ d ih =>
    intro k n σ hk hn h
    obtain ⟨n, rfl⟩ : ∃ n', n = n' + 1 := ⟨n - 1, by omega⟩
    have key : ∀ x : Int, x = (if k % 9 = 0 then 0 else 100000) → ∃ τ, M_lays_26 F (M_lays_2 F n) (i32 k) (i32 k) (i32 x) σ = M_lays_33 F τ ∧ kp [] [] [4] [] σ τ ∧ ∀ q, q < 64 → mA τ 4 q = i32 (if q % 9 = 0 then 0 else 100000) := by
      intro x hx
      obtain ⟨τ, h1, h2, h3⟩ := ih (k + 1) n (sA σ 4 (upd (mA σ 4) k (i32 x))) (by omega) (by omega) (fun q hq => by
        simp only [mA_sA, if_true, upd_at]
        by_cases e : q = k
        · rw [if_pos e, e, hx]
        · rw [if_neg e]; exact h q (by omega))
      refine ⟨τ, ?_, kp.tr (kp.sA) h2, h3⟩
      unfold M_lays_26
      simp (disch := omega) only [i_c0, i_c1, i_c2, i_c3, i_c4, i_c5, i_c6, i_c8, i_c9, i_c10, i_c12, i_c16, i_c17, i_c18, i_c31, i_c32, i_c45, i_c48, i_c50, i_c54, i_c55, i_c57, i_c58, i_c59, i_c61, i_c64, i_c73, i_c118, i_c119, i_c120, i_c126, i_c365, i_c1000, i_cFAR, i_add, i_sub, i_mul, i_neg, Option.bind_eq_bind, Option.bind_some, stA_i, Int.toNat_natCast]
      exact h1
    unfold M_lays_2
    simp (disch := omega) only [i_c0, i_c1, i_c2, i_c3, i_c4, i_c5, i_c6, i_c8, i_c9, i_c10, i_c12, i_c16, i_c17, i_c18, i_c31, i_c32, i_c45, i_c48, i_c50, i_c54, i_c55, i_c57, i_c58, i_c59, i_c61, i_c64, i_c73, i_c118, i_c119, i_c120, i_c126, i_c365, i_c1000, i_cFAR, i_le, i_lt, i_eq, i_add, i_sub, i_mul, i_neg, i_div]
    rw [if_neg (by omega), if_neg (by omega)]
    by_cases h9 : k % 9 = 0
    · rw [if_pos (by omega)]; exact key 0 (by rw [if_pos h9])
    · rw [if_neg (by omega)]; exact key 100000 (by rw [if_neg h9])
theorem M_lays_35_eq (d : Nat) : ∀ (k : Nat) (n : Nat) (σ : MS) (D : Mx), mN σ N → k + d = eN N → d < n → far (nN N) (mA σ 4) D →
    ∃ τ, M_lays_35 F n (i32 k) σ = M_lays_103 F τ ∧ kp [] [] [4] [] σ τ ∧ far (nN N) (mA τ 4) ((N.2.1.drop k).foldl dE D) := by
  induction d with
  | zero =>
    intro k n σ D hN hk hn h
    obtain ⟨n, rfl⟩ : ∃ n', n = n' + 1 := ⟨n - 1, by omega⟩
    have := hN.2.2.2.2.1
    refine ⟨σ, ?_, kp.rf, ?_⟩
    · unfold M_lays_35
      rw [M_edgeMany_eq hN]
      simp (disch := omega) only [i_c0, i_c1, i_c2, i_c3, i_c4, i_c5, i_c6, i_c8, i_c9, i_c10, i_c12, i_c16, i_c17, i_c18, i_c31, i_c32, i_c45, i_c48, i_c50, i_c54, i_c55, i_c57, i_c58, i_c59, i_c61, i_c64, i_c73, i_c118, i_c119, i_c120, i_c126, i_c365, i_c1000, i_cFAR, i_le, i_lt, i_eq, Option.bind_eq_bind, Option.bind_some]
      rw [if_pos (by omega)]
    · rw [List.drop_of_length_le (by unfold eN at hk; omega)]; exact h
  | succ d ih =>
    intro k n σ D hN hk hn h
    obtain ⟨n, rfl⟩ : ∃ n', n = n' + 1 := ⟨n - 1, by omega⟩
    have hke : k < eN N := by omega
    obtain ⟨a1, a2, a3, a4, a5⟩ := hN.2.2.2.2.2.1 k hke
    have h8 := hN.2.2.1
    have h12 := hN.2.2.2.2.1
    have hf1 : ∀ (σ : MS) (D : Mx) (a b : Nat) (x : Int), a < 8 → b < 8 → far (nN N) (mA σ 4) D → far (nN N) (mA (sA σ 4 (upd (mA σ 4) (8 * a + b) (i32 x))) 4) (fun i j => if i = a ∧ j = b then x else D i j) := by
      intro σ D a b x ha hb h i j hi hj
      have h8 := h8
      simp only [mA_sA, if_true, upd_at]
      by_cases e : i = a ∧ j = b
      · rw [if_pos e, if_pos (by omega)]
      · rw [if_neg e, if_neg (by omega)]; exact h i j hi hj
    have e1 : (8 * ((ed N k).1 : Int) + ((ed N k).2.1 : Int)).toNat = 8 * (ed N k).1 + (ed N k).2.1 := by omega
    have e2 : (8 * ((ed N k).2.1 : Int) + ((ed N k).1 : Int)).toNat = 8 * (ed N k).2.1 + (ed N k).1 := by omega
    have hN1 : mN (sA σ 4 (upd (mA σ 4) (8 * (ed N k).1 + (ed N k).2.1) (i32 (ed N k).2.2))) N := hN.kp (kp.sA (aS := [4]) (iS := []) (lS := []) (bS := []))
    have hN2 : mN (sA (sA σ 4 (upd (mA σ 4) (8 * (ed N k).1 + (ed N k).2.1) (i32 (ed N k).2.2))) 4 (upd (mA (sA σ 4 (upd (mA σ 4) (8 * (ed N k).1 + (ed N k).2.1) (i32 (ed N k).2.2))) 4) (8 * (ed N k).2.1 + (ed N k).1) (i32 (ed N k).2.2))) N := hN1.kp (kp.sA (aS := [4]) (iS := []) (lS := []) (bS := []))
    obtain ⟨τ, h1, h2, h3⟩ := ih (k + 1) n _ (dE D (ed N k)) hN2 (by omega) (by omega) (by
      have q := hf1 _ _ (ed N k).2.1 (ed N k).1 (ed N k).2.2 (by omega) (by omega) (hf1 σ D (ed N k).1 (ed N k).2.1 (ed N k).2.2 (by omega) (by omega) h)
      intro i j hi hj
      rw [q i j hi hj]; unfold dE
      congr 1
      dsimp only
      by_cases e : i = (ed N k).2.1 ∧ j = (ed N k).1
      · rw [if_pos e, if_pos (by omega)]
      · rw [if_neg e]
        by_cases e' : i = (ed N k).1 ∧ j = (ed N k).2.1
        · rw [if_pos e', if_pos (by omega)]
        · rw [if_neg e', if_neg (by omega)])
    refine ⟨τ, ?_, kp.tr (kp.tr kp.sA kp.sA) h2, ?_⟩
    · unfold M_lays_35
      rw [M_edgeMany_eq hN]
      simp (disch := omega) only [i_c0, i_c1, i_c2, i_c3, i_c4, i_c5, i_c6, i_c8, i_c9, i_c10, i_c12, i_c16, i_c17, i_c18, i_c31, i_c32, i_c45, i_c48, i_c50, i_c54, i_c55, i_c57, i_c58, i_c59, i_c61, i_c64, i_c73, i_c118, i_c119, i_c120, i_c126, i_c365, i_c1000, i_cFAR, i_le, i_lt, i_eq, Option.bind_eq_bind, Option.bind_some]
      rw [if_neg (by omega)]
      rw [M_of_0 hN hke, M_of_1 hN hke, M_of_2 hN hke]
      simp (disch := omega) only [i_c0, i_c1, i_c2, i_c3, i_c4, i_c5, i_c6, i_c8, i_c9, i_c10, i_c12, i_c16, i_c17, i_c18, i_c31, i_c32, i_c45, i_c48, i_c50, i_c54, i_c55, i_c57, i_c58, i_c59, i_c61, i_c64, i_c73, i_c118, i_c119, i_c120, i_c126, i_c365, i_c1000, i_cFAR, i_add, i_sub, i_mul, i_neg, Option.bind_eq_bind, Option.bind_some, stA_i, e1]
      rw [M_of_0 hN1 hke, M_of_1 hN1 hke, M_of_2 hN1 hke]
      simp (disch := omega) only [i_c0, i_c1, i_c2, i_c3, i_c4, i_c5, i_c6, i_c8, i_c9, i_c10, i_c12, i_c16, i_c17, i_c18, i_c31, i_c32, i_c45, i_c48, i_c50, i_c54, i_c55, i_c57, i_c58, i_c59, i_c61, i_c64, i_c73, i_c118, i_c119, i_c120, i_c126, i_c365, i_c1000, i_cFAR, i_add, i_sub, i_mul, i_neg, Option.bind_eq_bind, Option.bind_some, stA_i, e2]
      exact h1
    · have : N.2.1.drop k = ed N k :: N.2.1.drop (k + 1) := by
        rw [List.drop_eq_getElem_cons (by unfold eN at hke; exact hke)]
        congr 1
        unfold ed; rw [List.getD_eq_getElem?_getD, List.getElem?_eq_getElem (by unfold eN at hke; exact hke)]; rfl
      rw [this]; exact h3
theorem far_mid {m : Nat} {f : Nat → Int32} {D : Mx} (h : far m f D) {i j : Nat} (hi : i < m) (hj : j < m) : f (8 * (i : Int) + (j : Int)).toNat = i32 (D i j) := by
  rw [← h i j hi hj]; congr 1 <;> omega
theorem M_lays_125_eq {k105 k115 : Int32 → MS → Option MS} {v a : Nat} {D : Mx} (hv : v < nN N) (ha : a < nN N) (hI : fwI 12800 D) (d : Nat) : ∀ (b : Nat) (n : Nat) (σ : MS), mN σ N → b + d = nN N → d < n → far (nN N) (mA σ 4) (fwMid D v 8 (8 * a + b)) →
    ∃ τ, M_lays_125 F k105 k115 (i32 v) (i32 a) n (i32 b) σ = M_lays_207 F k105 k115 (i32 v) (i32 a) τ ∧ kp [] [] [4] [] σ τ ∧ far (nN N) (mA τ 4) (fwMid D v 8 (8 * a + nN N)) := by
  induction d with
  | zero =>
    intro b n σ hN hb hn h
    obtain ⟨n, rfl⟩ : ∃ n', n = n' + 1 := ⟨n - 1, by omega⟩
    have h8 := hN.2.2.1
    refine ⟨σ, ?_, kp.rf, by obtain rfl : b = nN N := (by omega); exact h⟩
    unfold M_lays_125
    rw [M_many_eq hN]
    simp (disch := omega) only [i_c0, i_c1, i_c2, i_c3, i_c4, i_c5, i_c6, i_c8, i_c9, i_c10, i_c12, i_c16, i_c17, i_c18, i_c31, i_c32, i_c45, i_c48, i_c50, i_c54, i_c55, i_c57, i_c58, i_c59, i_c61, i_c64, i_c73, i_c118, i_c119, i_c120, i_c126, i_c365, i_c1000, i_cFAR, i_le, i_lt, i_eq, Option.bind_eq_bind, Option.bind_some]
    rw [if_pos (by omega)]
  | succ d ih =>
    intro b n σ hN hb hn h
    obtain ⟨n, rfl⟩ : ∃ n', n = n' + 1 := ⟨n - 1, by omega⟩
    have h8 := hN.2.2.1
    have r1 := fwMid_row hI v 8 (8 * a + b) a
    have r2 := fwMid_row hI v 8 (8 * a + b) b
    have b1 := hI.2.1 a v
    have b2 := hI.2.1 v b
    have b3 := hI.2.1 a b
    have c1 := hI.2.2.2 a v
    have c2 := hI.2.2.2 v b
    have c3 := hI.2.2.2 a b
    have r3 : fwMid D v 8 (8 * a + b) a b = D a b := by unfold fwMid; rw [if_neg (by omega)]
    have g1 : mA σ 4 (8 * (a : Int) + (v : Int)).toNat = i32 (D a v) := by rw [far_mid h (by omega) (by omega), r1.1]
    have g2 : mA σ 4 (8 * (v : Int) + (b : Int)).toNat = i32 (D v b) := by rw [far_mid h (by omega) (by omega), r2.2]
    have g3 : mA σ 4 (8 * (a : Int) + (b : Int)).toNat = i32 (D a b) := by rw [far_mid h (by omega) (by omega), r3]
    have e3 : (8 * (a : Int) + (b : Int)).toNat = 8 * a + b := by omega
    have key : ∀ x : Int, x = fw1 D v a b → ∃ τ, M_lays_200 F k105 k115 (M_lays_125 F k105 k115 (i32 v) (i32 a) n) (i32 v) (i32 a) (i32 b) (i32 (8 * (a : Int) + (b : Int))) (i32 x) σ = M_lays_207 F k105 k115 (i32 v) (i32 a) τ ∧ kp [] [] [4] [] σ τ ∧ far (nN N) (mA τ 4) (fwMid D v 8 (8 * a + nN N)) := by
      intro x hx
      obtain ⟨τ, h1, h2, h3⟩ := ih (b + 1) n (sA σ 4 (upd (mA σ 4) (8 * a + b) (i32 x))) (hN.kp (kp.sA (aS := [4]) (iS := []) (lS := []) (bS := []))) (by omega) (by omega) (fun i j hi hj => by
        simp only [mA_sA, if_true, upd_at]
        by_cases e : 8 * i + j = 8 * a + b
        · have e1 : i = a := by omega
          have e2 : j = b := by omega
          subst e1; subst e2
          rw [if_pos rfl, hx]; unfold fwMid; rw [if_pos (by omega)]
        · rw [if_neg e, h i j hi hj]; unfold fwMid
          by_cases e' : i * 8 + j < 8 * a + b
          · rw [if_pos e', if_pos (by omega)]
          · rw [if_neg e', if_neg (by omega)])
      refine ⟨τ, ?_, kp.tr (kp.sA) h2, h3⟩
      unfold M_lays_200
      simp (disch := omega) only [i_c0, i_c1, i_c2, i_c3, i_c4, i_c5, i_c6, i_c8, i_c9, i_c10, i_c12, i_c16, i_c17, i_c18, i_c31, i_c32, i_c45, i_c48, i_c50, i_c54, i_c55, i_c57, i_c58, i_c59, i_c61, i_c64, i_c73, i_c118, i_c119, i_c120, i_c126, i_c365, i_c1000, i_cFAR, i_add, i_sub, i_mul, i_neg, Option.bind_eq_bind, Option.bind_some, stA_i, e3]
      exact h1
    unfold M_lays_125
    rw [M_many_eq hN]
    simp (disch := omega) only [i_c0, i_c1, i_c2, i_c3, i_c4, i_c5, i_c6, i_c8, i_c9, i_c10, i_c12, i_c16, i_c17, i_c18, i_c31, i_c32, i_c45, i_c48, i_c50, i_c54, i_c55, i_c57, i_c58, i_c59, i_c61, i_c64, i_c73, i_c118, i_c119, i_c120, i_c126, i_c365, i_c1000, i_cFAR, i_le, i_lt, i_eq, Option.bind_eq_bind, Option.bind_some, i_add, i_sub, i_mul, i_neg, rdI_i, g1, g2, g3]
    rw [if_neg (by omega)]
    by_cases hle : D a b ≤ D a v + D v b
    · rw [if_pos hle]; exact key _ (by unfold fw1; omega)
    · rw [if_neg hle]; exact key _ (by unfold fw1; omega)
theorem M_lays_115_eq {k105 : Int32 → MS → Option MS} {v : Nat} {D : Mx} (hv : v < nN N) (hI : fwI 12800 D) (hF : 8 < F) (d : Nat) : ∀ (a : Nat) (n : Nat) (σ : MS), mN σ N → a + d = nN N → d < n → far (nN N) (mA σ 4) (fwMid D v 8 (8 * a)) →
    ∃ τ, M_lays_115 F k105 (i32 v) n (i32 a) σ = M_lays_213 F k105 (i32 v) τ ∧ kp [] [] [4] [] σ τ ∧ far (nN N) (mA τ 4) (fwMid D v 8 (8 * nN N)) := by
  induction d with
  | zero =>
    intro a n σ hN hb hn h
    obtain ⟨n, rfl⟩ : ∃ n', n = n' + 1 := ⟨n - 1, by omega⟩
    have h8 := hN.2.2.1
    refine ⟨σ, ?_, kp.rf, by obtain rfl : a = nN N := (by omega); exact h⟩
    unfold M_lays_115
    rw [M_many_eq hN]
    simp (disch := omega) only [i_c0, i_c1, i_c2, i_c3, i_c4, i_c5, i_c6, i_c8, i_c9, i_c10, i_c12, i_c16, i_c17, i_c18, i_c31, i_c32, i_c45, i_c48, i_c50, i_c54, i_c55, i_c57, i_c58, i_c59, i_c61, i_c64, i_c73, i_c118, i_c119, i_c120, i_c126, i_c365, i_c1000, i_cFAR, i_le, i_lt, i_eq, Option.bind_eq_bind, Option.bind_some]
    rw [if_pos (by omega)]
  | succ d ih =>
    intro a n σ hN hb hn h
    obtain ⟨n, rfl⟩ : ∃ n', n = n' + 1 := ⟨n - 1, by omega⟩
    have h8 := hN.2.2.1
    obtain ⟨τ, h1, h2, h3⟩ := M_lays_125_eq (F := F) (k105 := k105) (k115 := M_lays_115 F k105 (i32 v) n) hv (show a < nN N by omega) hI (nN N) 0 F σ hN (by omega) (by omega) h
    obtain ⟨υ, k1, k2, k3⟩ := ih (a + 1) n τ (hN.kp h2) (by omega) (by omega) (fun i j hi hj => by
      rw [h3 i j hi hj]; unfold fwMid
      by_cases e : i * 8 + j < 8 * a + nN N
      · rw [if_pos e, if_pos (by omega)]
      · rw [if_neg e, if_neg (by omega)])
    refine ⟨υ, ?_, kp.tr h2 k2, k3⟩
    unfold M_lays_115
    rw [M_many_eq hN]
    simp (disch := omega) only [i_c0, i_c1, i_c2, i_c3, i_c4, i_c5, i_c6, i_c8, i_c9, i_c10, i_c12, i_c16, i_c17, i_c18, i_c31, i_c32, i_c45, i_c48, i_c50, i_c54, i_c55, i_c57, i_c58, i_c59, i_c61, i_c64, i_c73, i_c118, i_c119, i_c120, i_c126, i_c365, i_c1000, i_cFAR, i_le, i_lt, i_eq, Option.bind_eq_bind, Option.bind_some]
    rw [if_neg (by omega)]
    refine h1.trans ?_
    unfold M_lays_207
    simp only [i_c0, i_c1, i_c2, i_c3, i_c4, i_c5, i_c6, i_c8, i_c9, i_c10, i_c12, i_c16, i_c17, i_c18, i_c31, i_c32, i_c45, i_c48, i_c50, i_c54, i_c55, i_c57, i_c58, i_c59, i_c61, i_c64, i_c73, i_c118, i_c119, i_c120, i_c126, i_c365, i_c1000, i_cFAR, i_add, i_sub, i_mul, i_neg, Option.bind_eq_bind, Option.bind_some]
    exact k1
theorem M_lays_105_eq (hes : fwI 50 (d0 N.2.1)) (hF : 8 < F) (d : Nat) : ∀ (v : Nat) (n : Nat) (σ : MS), mN σ N → v + d = nN N → d < n → far (nN N) (mA σ 4) (fwN (d0 N.2.1) v) →
    ∃ τ, M_lays_105 F n (i32 v) σ = some τ ∧ kp [] [] [4] [] σ τ ∧ far (nN N) (mA τ 4) (dst (nN N) N.2.1) := by
  induction d with
  | zero =>
    intro v n σ hN hb hn h
    obtain ⟨n, rfl⟩ : ∃ n', n = n' + 1 := ⟨n - 1, by omega⟩
    have h8 := hN.2.2.1
    refine ⟨σ, ?_, kp.rf, by obtain rfl : v = nN N := (by omega); exact h⟩
    unfold M_lays_105
    rw [M_many_eq hN]
    simp (disch := omega) only [i_c0, i_c1, i_c2, i_c3, i_c4, i_c5, i_c6, i_c8, i_c9, i_c10, i_c12, i_c16, i_c17, i_c18, i_c31, i_c32, i_c45, i_c48, i_c50, i_c54, i_c55, i_c57, i_c58, i_c59, i_c61, i_c64, i_c73, i_c118, i_c119, i_c120, i_c126, i_c365, i_c1000, i_cFAR, i_le, i_lt, i_eq, Option.bind_eq_bind, Option.bind_some]
    rw [if_pos (by omega)]
  | succ d ih =>
    intro v n σ hN hb hn h
    obtain ⟨n, rfl⟩ : ∃ n', n = n' + 1 := ⟨n - 1, by omega⟩
    have h8 := hN.2.2.1
    obtain ⟨τ, h1, h2, h3⟩ := M_lays_115_eq (F := F) (k105 := M_lays_105 F n) (v := v) (by omega) (fwN_I8 hes (k := v) (by omega)) hF (nN N) 0 F σ hN (by omega) (by omega) (fun i j hi hj => by
      rw [h i j hi hj]; unfold fwMid; rw [if_neg (by omega)])
    obtain ⟨υ, k1, k2, k3⟩ := ih (v + 1) n τ (hN.kp h2) (by omega) (by omega) (fun i j hi hj => by
      rw [h3 i j hi hj]; unfold fwMid; rw [if_pos (by omega)]; rfl)
    refine ⟨υ, ?_, kp.tr h2 k2, k3⟩
    unfold M_lays_105
    rw [M_many_eq hN]
    simp (disch := omega) only [i_c0, i_c1, i_c2, i_c3, i_c4, i_c5, i_c6, i_c8, i_c9, i_c10, i_c12, i_c16, i_c17, i_c18, i_c31, i_c32, i_c45, i_c48, i_c50, i_c54, i_c55, i_c57, i_c58, i_c59, i_c61, i_c64, i_c73, i_c118, i_c119, i_c120, i_c126, i_c365, i_c1000, i_cFAR, i_le, i_lt, i_eq, Option.bind_eq_bind, Option.bind_some]
    rw [if_neg (by omega)]
    refine h1.trans ?_
    unfold M_lays_213
    simp only [i_c0, i_c1, i_c2, i_c3, i_c4, i_c5, i_c6, i_c8, i_c9, i_c10, i_c12, i_c16, i_c17, i_c18, i_c31, i_c32, i_c45, i_c48, i_c50, i_c54, i_c55, i_c57, i_c58, i_c59, i_c61, i_c64, i_c73, i_c118, i_c119, i_c120, i_c126, i_c365, i_c1000, i_cFAR, i_add, i_sub, i_mul, i_neg, Option.bind_eq_bind, Option.bind_some]
    exact k1
theorem okN_es (h : okN N) : ∀ e ∈ N.2.1, e.1 ≠ e.2.1 ∧ 1 ≤ e.2.2 ∧ e.2.2 ≤ 50 := by
  intro e he
  obtain ⟨k, hk, rfl⟩ := List.mem_iff_getElem.mp he
  have := h.2.2.2.2.1 k hk
  have e1 : ed N k = N.2.1[k] := by unfold ed; rw [List.getD_eq_getElem?_getD, List.getElem?_eq_getElem hk]; rfl
  rw [e1] at this
  exact this.2.2
theorem okN_d0 (h : okN N) : fwI 50 (d0 N.2.1) := d0_I (okN_es h)
/-- the network's distances -/
def dN (N : Net) : Mx := dst (nN N) N.2.1
theorem okN_D (h : okN N) : fwI 12800 (dN N) := fwN_I8 (okN_d0 h) h.2.1
theorem M_lays_eq (hN : mN σ N) (hF : 64 < F) : ∃ τ, M_lays F σ = some τ ∧ kp [] [] [4] [] σ τ ∧ far (nN N) (mA τ 4) (dN N) := by
  have h8 := hN.2.2.1
  have h12 := hN.2.2.2.2.1
  obtain ⟨τ, h1, h2, h3⟩ := M_lays_2_eq (F := F) 64 0 F σ rfl hF (fun q hq => by omega)
  obtain ⟨υ, k1, k2, k3⟩ := M_lays_35_eq (F := F) (eN N) 0 F τ dB (hN.kp h2) (by omega) (by omega) (fun i j hi hj => by
    rw [h3 _ (by omega)]; unfold dB
    by_cases e : i = j
    · rw [if_pos e, if_pos (by omega)]
    · rw [if_neg e, if_neg (by omega)])
  rw [List.drop_zero] at k3
  obtain ⟨ω, l1, l2, l3⟩ := M_lays_105_eq (F := F) (okN_d0 hN.2) (by omega) (nN N) 0 F υ ((hN.kp h2).kp k2) (by omega) (by omega) k3
  refine ⟨ω, ?_, kp.tr h2 (kp.tr k2 l2), l3⟩
  unfold M_lays
  rw [i_c0]
  refine h1.trans ?_
  unfold M_lays_33
  rw [i_c0]
  refine k1.trans ?_
  unfold M_lays_103
  rw [i_c0]
  exact l1
/-- whether all nodes are connected -/
def cnN (N : Net) : Prop := ∀ k, k < nN N → dN N 0 k < 100000
theorem M_isConnected_8_eq (d : Nat) : ∀ (k : Nat) (n : Nat) (c : Bool), mN σ N → far (nN N) (mA σ 4) (dN N) → k + d = nN N → d < n → (c = true ↔ ∀ q, q < k → dN N 0 q < 100000) →
    ∃ c' : Bool, M_isConnected_8 F n (i32 (if c then 1 else 0)) (i32 k) σ = some (i32 (if c' then 1 else 0), σ) ∧ (c' = true ↔ cnN N) := by
  induction d with
  | zero =>
    intro k n c hN hf hk hn hc
    obtain ⟨n, rfl⟩ : ∃ n', n = n' + 1 := ⟨n - 1, by omega⟩
    have h8 := hN.2.2.1
    refine ⟨c, ?_, by rw [hc]; unfold cnN; rw [← hk]; exact Iff.rfl⟩
    unfold M_isConnected_8
    rw [M_many_eq hN]
    simp (disch := omega) only [i_c0, i_c1, i_c2, i_c3, i_c4, i_c5, i_c6, i_c8, i_c9, i_c10, i_c12, i_c16, i_c17, i_c18, i_c31, i_c32, i_c45, i_c48, i_c50, i_c54, i_c55, i_c57, i_c58, i_c59, i_c61, i_c64, i_c73, i_c118, i_c119, i_c120, i_c126, i_c365, i_c1000, i_cFAR, i_le, i_lt, i_eq, Option.bind_eq_bind, Option.bind_some]
    rw [if_pos (by omega)]
    cases c <;> rfl
  | succ d ih =>
    intro k n c hN hf hk hn hc
    obtain ⟨n, rfl⟩ : ∃ n', n = n' + 1 := ⟨n - 1, by omega⟩
    have h8 := hN.2.2.1
    have hI := okN_D hN.2
    have b1 := hI.2.1 0 k
    have b2 := hI.2.2.2 0 k
    have g : mA σ 4 k = i32 (dN N 0 k) := by have := hf 0 k (by omega) (by omega); rw [← this]; congr 1; omega
    obtain ⟨c', h1, h2⟩ := ih (k + 1) n (c && decide (dN N 0 k < 100000)) hN hf (by omega) (by omega) (by
      rw [Bool.and_eq_true, hc, decide_eq_true_eq]
      constructor
      · rintro ⟨h1, h2⟩ q hq
        by_cases e : q = k
        · rw [e]; exact h2
        · exact h1 q (by omega)
      · intro h; exact ⟨fun q hq => h q (by omega), h k (by omega)⟩)
    refine ⟨c', ?_, h2⟩
    rw [← h1]
    conv => lhs; unfold M_isConnected_8
    rw [M_many_eq hN]
    simp (disch := omega) only [i_c0, i_c1, i_c2, i_c3, i_c4, i_c5, i_c6, i_c8, i_c9, i_c10, i_c12, i_c16, i_c17, i_c18, i_c31, i_c32, i_c45, i_c48, i_c50, i_c54, i_c55, i_c57, i_c58, i_c59, i_c61, i_c64, i_c73, i_c118, i_c119, i_c120, i_c126, i_c365, i_c1000, i_cFAR, i_le, i_lt, i_eq, Option.bind_eq_bind, Option.bind_some, rdI_i, Int.toNat_natCast, g]
    rw [if_neg (by omega)]
    unfold M_isConnected_35 M_isConnected_36
    simp only [i_c0, i_c1, i_c2, i_c3, i_c4, i_c5, i_c6, i_c8, i_c9, i_c10, i_c12, i_c16, i_c17, i_c18, i_c31, i_c32, i_c45, i_c48, i_c50, i_c54, i_c55, i_c57, i_c58, i_c59, i_c61, i_c64, i_c73, i_c118, i_c119, i_c120, i_c126, i_c365, i_c1000, i_cFAR, i_add, i_sub, i_mul, i_neg, Option.bind_eq_bind, Option.bind_some]
    cases c with
    | false => rfl
    | true =>
      by_cases hd : dN N 0 k < 100000
      · have : decide (dN N 0 k < 100000) = true := decide_eq_true hd
        rw [this, if_neg (by simp [i32]), if_neg (by omega)]; rfl
      · have : decide (dN N 0 k < 100000) = false := decide_eq_false hd
        rw [this, if_neg (by simp [i32]), if_pos (by omega)]; rfl
theorem i01 {c' : Bool} {c : Prop} [Decidable c] (h : c' = true ↔ c) : i32 (if c' then 1 else 0) = i32 (b01 c) := by
  unfold b01
  cases c' with
  | false => rw [if_neg (show ¬ c from fun z => by cases h.mpr z)]; rfl
  | true => rw [if_pos (h.mp rfl)]; rfl
noncomputable def dec (c : Prop) : Decidable c := Classical.propDecidable c
/-- truth as an int, of any sentence -/
noncomputable def tr01 (c : Prop) : Int := @b01 c (Classical.propDecidable c)
theorem tr01_pos {c : Prop} (h : c) : tr01 c = 1 := by unfold tr01 b01; exact if_pos h
theorem tr01_neg {c : Prop} (h : ¬ c) : tr01 c = 0 := by unfold tr01 b01; exact if_neg h
theorem tr01_zero {c : Prop} : (i32 (tr01 c) = i32 0) = ¬ c := by
  by_cases h : c
  · rw [tr01_pos h]; simp [h, i32]
  · rw [tr01_neg h]; simp [h]
theorem M_isConnected_eq (hN : mN σ N) (hF : 64 < F) : ∃ τ, M_isConnected F σ = some (i32 (tr01 (cnN N)), τ) ∧ kp [] [] [4] [] σ τ ∧ far (nN N) (mA τ 4) (dN N) := by
  have h8 := hN.2.2.1
  obtain ⟨τ, h1, h2, h3⟩ := M_lays_eq hN hF
  obtain ⟨c', k1, k2⟩ := M_isConnected_8_eq (F := F) (nN N) 0 F true (hN.kp h2) h3 (by omega) (by omega) (by simp)
  refine ⟨τ, ?_, h2, h3⟩
  unfold M_isConnected
  rw [h1, i_c0, i_c1]
  refine k1.trans ?_
  congr 2
  cases c' with
  | false => rw [tr01_neg (fun z => by cases k2.mpr z)]; rfl
  | true => rw [tr01_pos (k2.mp rfl)]; rfl
end MD
