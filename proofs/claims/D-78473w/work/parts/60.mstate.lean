/-! THE MODEL's STATE: rows that change, saving -/
def szN (N : Net) : Prop := nN N ≤ 8 ∧ eN N ≤ 12 ∧ sN N ≤ 6
theorem okN.sz {N : Net} (h : okN N) : szN N := ⟨h.2.1, h.2.2.2.1, h.2.2.2.2.2.1⟩
theorem row.congr {f g : Nat → Int32} {N : Net} (hN : szN N) (h : ∀ j, j < 73 → g j = f j) (hr : row f N) : row g N := by
  obtain ⟨h1, h2, h3⟩ := hN
  obtain ⟨r1, r2, r3, r4, r5, r6⟩ := hr
  refine ⟨by rw [h 0 (by omega)]; exact r1, fun i hi => ?_, by rw [h 17 (by omega)]; exact r3, fun e he => ?_, by rw [h 54 (by omega)]; exact r5, fun k hk => ?_⟩
  · rw [h (1 + i) (by omega), h (9 + i) (by omega)]; exact r2 i hi
  · rw [h (18 + 3 * e) (by omega), h (18 + 3 * e + 1) (by omega), h (18 + 3 * e + 2) (by omega)]; exact r4 e he
  · rw [h (55 + 3 * k) (by omega), h (55 + 3 * k + 1) (by omega), h (55 + 3 * k + 2) (by omega)]; exact r6 k hk
/-- the saved rows -/
def mP (σ : MS) (P : List Net) : Prop := mI σ 0 = i32 P.length ∧ P.length ≤ 6 ∧ (∀ M ∈ P, okN M) ∧ ∀ (k : Nat) (hk : k < P.length), row (fun j => mA σ 1 (73 * k + j)) P[k]
/-- the text -/
def mT (σ : MS) (t : List Int) : Prop := mI σ 2 = i32 t.length ∧ t.length ≤ 120 ∧ (∀ c ∈ t, 32 ≤ c ∧ c ≤ 126) ∧ ∀ (k : Nat) (hk : k < t.length), mA σ 3 k = i32 t[k]
def mR (σ : MS) (A : Ab) : Prop := mN σ A.1 ∧ mP σ A.2.1 ∧ mT σ A.2.2
theorem mP.kp {iS lS aS bS : List Nat} {σ τ : MS} {P : List Net} (h : mP σ P) (hk : kp iS lS aS bS σ τ) (h0 : 0 ∉ iS := by decide) (h1 : 1 ∉ aS := by decide) : mP τ P := by
  unfold mP; rw [hk.1 0 h0, hk.2.2.1 1 h1]; exact h
theorem mT.kp {iS lS aS bS : List Nat} {σ τ : MS} {t : List Int} (h : mT σ t) (hk : kp iS lS aS bS σ τ) (h2 : 2 ∉ iS := by decide) (h3 : 3 ∉ aS := by decide) : mT τ t := by
  unfold mT; rw [hk.1 2 h2, hk.2.2.1 3 h3]; exact h
theorem mR.kp {iS lS aS bS : List Nat} {σ τ : MS} {A : Ab} (h : mR σ A) (hk : kp iS lS aS bS σ τ) (i0 : 0 ∉ iS := by decide) (i2 : 2 ∉ iS := by decide) (a0 : 0 ∉ aS := by decide) (a1 : 1 ∉ aS := by decide) (a3 : 3 ∉ aS := by decide) : mR τ A :=
  ⟨h.1.kp hk a0, h.2.1.kp hk i0 a1, h.2.2.kp hk i2 a3⟩
theorem mR.ok {σ : MS} {A : Ab} (h : mR σ A) : okA A := ⟨h.1.2, h.2.1.2.1, h.2.1.2.2.1, h.2.2.2.1, h.2.2.2.2.1⟩
section MQ
variable {σ : MS} {N : Net} {F : Nat} {P : List Net}
theorem M_saves_49_eq {m : Nat} (hm : m ≤ 5) (h0 : mI σ 0 = i32 m) (hF : 1000 < F) :
    Rt (M_saves_49 F σ) (fun τ => kp [0] [] [1] [] σ τ ∧ mI τ 0 = i32 (m + 1) ∧ (∀ j, j < 73 → mA τ 1 (73 * m + j) = mA σ 0 j) ∧ ∀ q, q < 73 * m → mA τ 1 q = mA σ 1 q) := by
  unfold M_saves_49
  simp only [i_c0]
  refine Rt.loop (ι := Nat) (fun k x τ => x = i32 k ∧ k ≤ 73 ∧ kp [] [] [1] [] σ τ ∧ (∀ j, j < k → mA τ 1 (73 * m + j) = mA σ 0 j) ∧ ∀ q, q < 73 * m → mA τ 1 q = mA σ 1 q) (fun k => 73 - k) ?_ F 0 _ _ ⟨rfl, by omega, kp.rf, fun j hj => by omega, fun _ _ => rfl⟩ (by omega)
  rintro n k _ τ ⟨rfl, hk, h1, h2, h3⟩ ih
  have e0 : mI τ 0 = i32 m := by rw [h1.1 0 (by decide)]; exact h0
  have e1 : mA τ 0 = mA σ 0 := h1.2.2.1 0 (by decide)
  unfold M_saves_51
  simp (disch := omega) only [i_c0, i_c1, i_c2, i_c3, i_c4, i_c5, i_c6, i_c8, i_c9, i_c10, i_c12, i_c16, i_c17, i_c18, i_c31, i_c32, i_c45, i_c48, i_c50, i_c54, i_c55, i_c57, i_c58, i_c59, i_c61, i_c64, i_c73, i_c118, i_c119, i_c120, i_c126, i_c365, i_c1000, i_cFAR, i_le, i_lt, i_eq]
  refine Rt.ite (fun h => ?_) (fun h => ?_)
  · obtain rfl : k = 73 := by omega
    unfold M_saves_83
    rw [e0]
    simp only [i_c0, i_c1, i_c2, i_c3, i_c4, i_c5, i_c6, i_c8, i_c9, i_c10, i_c12, i_c16, i_c17, i_c18, i_c31, i_c32, i_c45, i_c48, i_c50, i_c54, i_c55, i_c57, i_c58, i_c59, i_c61, i_c64, i_c73, i_c118, i_c119, i_c120, i_c126, i_c365, i_c1000, i_cFAR, i_add, i_sub, i_mul, i_neg, Option.bind_eq_bind, Option.bind_some]
    exact Rt.some ⟨kp.tr h1.le kp.sI, rfl, h2, h3⟩
  · have ei : (73 * (m : Int) + k).toNat = 73 * m + k := by omega
    rw [e0]
    simp (disch := omega) only [i_add, i_sub, i_mul, i_neg, rdI_i, stA_i, Option.bind_eq_bind, Option.bind_some, Int.toNat_natCast, ei]
    refine ih (k + 1) _ _ ⟨rfl, by omega, kp.tr h1 kp.sA, fun j hj => ?_, fun q hq => ?_⟩ (by omega)
    · simp only [mA_sA, if_true, upd_at]
      by_cases e : j = k
      · rw [if_pos (by omega), e, e1]
      · rw [if_neg (by omega)]; exact h2 j (by omega)
    · simp only [mA_sA, if_true, upd_at]
      rw [if_neg (by omega)]; exact h3 q hq
theorem M_saves_eq (hN : mN σ N) (hP : mP σ P) (hF : 1000 < F) : Rt (M_saves F σ) (fun τ => kp [0] [] [1] [] σ τ ∧ mP τ (sv P N)) := by
  obtain ⟨p1, p2, p3, p4⟩ := hP
  have sl := sv_len (N := N) p2
  unfold M_saves
  rw [p1]
  simp (disch := omega) only [i_c0, i_c1, i_c2, i_c3, i_c4, i_c5, i_c6, i_c8, i_c9, i_c10, i_c12, i_c16, i_c17, i_c18, i_c31, i_c32, i_c45, i_c48, i_c50, i_c54, i_c55, i_c57, i_c58, i_c59, i_c61, i_c64, i_c73, i_c118, i_c119, i_c120, i_c126, i_c365, i_c1000, i_cFAR, i_le, i_lt, i_eq]
  refine Rt.ite (fun h => ?_) (fun h => ?_)
  · have h6 : P.length = 6 := by omega
    refine Rt.loop (ι := Nat) (fun k x τ => x = i32 k ∧ k ≤ 365 ∧ kp [] [] [1] [] σ τ ∧ (∀ j, j < k → mA τ 1 j = mA σ 1 (j + 73)) ∧ ∀ q, k ≤ q → mA τ 1 q = mA σ 1 q) (fun k => 365 - k) ?_ F 0 _ _ ⟨rfl, by omega, kp.rf, fun j hj => by omega, fun _ _ => rfl⟩ (by omega)
    rintro n k _ τ ⟨rfl, hk, h1, h2, h3⟩ ih
    unfold M_saves_11
    simp (disch := omega) only [i_c0, i_c1, i_c2, i_c3, i_c4, i_c5, i_c6, i_c8, i_c9, i_c10, i_c12, i_c16, i_c17, i_c18, i_c31, i_c32, i_c45, i_c48, i_c50, i_c54, i_c55, i_c57, i_c58, i_c59, i_c61, i_c64, i_c73, i_c118, i_c119, i_c120, i_c126, i_c365, i_c1000, i_cFAR, i_le, i_lt, i_eq]
    refine Rt.ite (fun h => ?_) (fun h => ?_)
    · obtain rfl : k = 365 := by omega
      unfold M_saves_39
      rw [h1.1 0 (by decide), p1, h6]
      simp only [i_c0, i_c1, i_c2, i_c3, i_c4, i_c5, i_c6, i_c8, i_c9, i_c10, i_c12, i_c16, i_c17, i_c18, i_c31, i_c32, i_c45, i_c48, i_c50, i_c54, i_c55, i_c57, i_c58, i_c59, i_c61, i_c64, i_c73, i_c118, i_c119, i_c120, i_c126, i_c365, i_c1000, i_cFAR, i_add, i_sub, i_mul, i_neg, Option.bind_eq_bind, Option.bind_some]
      refine (M_saves_49_eq (m := 5) (by omega) rfl hF).mono ?_
      rintro υ ⟨k1, k2, k3, k4⟩
      refine ⟨kp.tr h1.le (kp.tr (kp.sI) k1), ?_⟩
      have sl6 : (sv P N).length = 6 := by rw [sl.2, if_pos h6]
      refine ⟨by rw [k2, sl6]; rfl, sl.1, sv_ok p3 hN.2, fun i hi => ?_⟩
      rw [sl6] at hi
      by_cases e5 : i = 5
      · subst e5
        have eN' : (sv P N)[5]'(by omega) = N := by
          unfold sv; simp only [if_pos h6]
          rw [List.getElem_append_right (by simp; omega)]; simp
        rw [eN']
        refine row.congr hN.2.sz (fun j hj => ?_) hN.1
        rw [k3 j hj]; show mA (sI τ 0 _) 0 j = mA σ 0 j
        rw [mA_sI, h1.2.2.1 0 (by decide)]
      · have eN' : (sv P N)[i]'(by omega) = P[i + 1]'(by omega) := by
          unfold sv; simp only [if_pos h6]
          rw [List.getElem_append_left (by simp; omega), List.getElem_drop]; congr 1; omega
        rw [eN']
        refine row.congr (p3 _ (List.getElem_mem _)).sz (fun j hj => ?_) (p4 (i + 1) (by omega))
        rw [k4 (73 * i + j) (by omega), mA_sI, h2 _ (by omega)]; congr 1; omega
    · have ei : ((k : Int) + 73).toNat = k + 73 := by omega
      simp (disch := omega) only [i_add, i_sub, i_mul, i_neg, rdI_i, stA_i, Option.bind_eq_bind, Option.bind_some, Int.toNat_natCast, ei]
      refine ih (k + 1) _ _ ⟨rfl, by omega, kp.tr h1 kp.sA, fun j hj => ?_, fun q hq => ?_⟩ (by omega)
      · simp only [mA_sA, if_true, upd_at]
        by_cases e : j = k
        · rw [if_pos e, e]; exact h3 _ (by omega)
        · rw [if_neg e]; exact h2 j (by omega)
      · simp only [mA_sA, if_true, upd_at]
        rw [if_neg (by omega)]; exact h3 q (by omega)
  · have h6 : P.length ≠ 6 := by omega
    refine (M_saves_49_eq (m := P.length) (by omega) p1 hF).mono ?_
    rintro υ ⟨k1, k2, k3, k4⟩
    have sl6 : (sv P N).length = P.length + 1 := by rw [sl.2, if_neg h6]
    refine ⟨k1, by rw [k2, sl6]; rfl, sl.1, sv_ok p3 hN.2, fun i hi => ?_⟩
    rw [sl6] at hi
    by_cases e5 : i = P.length
    · subst e5
      have eN' : (sv P N)[P.length]'(by omega) = N := by
        unfold sv; simp only [if_neg h6]
        rw [List.getElem_append_right (by omega)]; simp
      rw [eN']
      exact row.congr hN.2.sz (fun j hj => k3 j hj) hN.1
    · have eN' : (sv P N)[i]'(by omega) = P[i]'(by omega) := by
        unfold sv; simp only [if_neg h6]
        rw [List.getElem_append_left (by omega)]
      rw [eN']
      exact row.congr (p3 _ (List.getElem_mem _)).sz (fun j hj => k4 _ (by omega)) (p4 i (by omega))
theorem M_refused_eq (c : Int) (h0 : 0 ≤ c) (h3 : c ≤ 3) : M_refused σ (i32 c) = some (i32 (if c = 0 then 0 else 1), sI σ 1 (i32 c)) := by
  unfold M_refused
  simp (disch := omega) only [i_c0, i_c1, i_c2, i_c3, i_c4, i_c5, i_c6, i_c8, i_c9, i_c10, i_c12, i_c16, i_c17, i_c18, i_c31, i_c32, i_c45, i_c48, i_c50, i_c54, i_c55, i_c57, i_c58, i_c59, i_c61, i_c64, i_c73, i_c118, i_c119, i_c120, i_c126, i_c365, i_c1000, i_cFAR, i_le, i_lt, i_eq, Option.bind_eq_bind, Option.bind_some]
  by_cases h : c = 0
  · rw [if_pos h, if_pos (by omega)]
  · rw [if_neg h, if_neg (by omega)]
/-- what the model's call owes -/
def mOK (R : Res) (v : Int32 × MS) : Prop := v.1 = i32 R.2.1 ∧ mR v.2 R.2.2 ∧ mI v.2 1 = i32 R.1
theorem M_begins_eq {n : Nat} (hn : 1 ≤ n) (h8 : n ≤ 8) (hF : 1000 < F) : Rt (M_begins F σ (i32 n)) (fun τ => kp [] [] [0] [] σ τ ∧ mN τ (nReset n)) := by
  unfold M_begins
  simp only [i_c0]
  refine Rt.loop (ι := Nat) (fun k x τ => x = i32 k ∧ k ≤ 73 ∧ kp [] [] [0] [] σ τ ∧ ∀ j, j < k → mA τ 0 j = i32 (if 1 ≤ j ∧ j < 1 + n then 1 else 0)) (fun k => 73 - k) ?_ F 0 _ _ ⟨rfl, by omega, kp.rf, fun j hj => by omega⟩ (by omega)
  rintro f k _ τ ⟨rfl, hk, h1, h2⟩ ih
  have put : ∀ x : Int, k < 73 → x = (if 1 ≤ k ∧ k < 1 + n then 1 else 0) → Rt (M_begins_30 F (M_begins_2 F (i32 n) f) (i32 n) (i32 k) (i32 k) (i32 x) τ) (fun τ => kp [] [] [0] [] σ τ ∧ mN τ (nReset n)) := by
    intro x hk hx
    unfold M_begins_30
    simp (disch := omega) only [i_c0, i_c1, i_c2, i_c3, i_c4, i_c5, i_c6, i_c8, i_c9, i_c10, i_c12, i_c16, i_c17, i_c18, i_c31, i_c32, i_c45, i_c48, i_c50, i_c54, i_c55, i_c57, i_c58, i_c59, i_c61, i_c64, i_c73, i_c118, i_c119, i_c120, i_c126, i_c365, i_c1000, i_cFAR, i_add, i_sub, i_mul, i_neg, stA_i, Option.bind_eq_bind, Option.bind_some, Int.toNat_natCast]
    refine ih (k + 1) _ _ ⟨rfl, by omega, kp.tr h1 kp.sA, fun j hj => ?_⟩ (by omega)
    simp only [mA_sA, if_true, upd_at]
    by_cases e : j = k
    · rw [if_pos e, e, hx]
    · rw [if_neg e]; exact h2 j (by omega)
  unfold M_begins_2 M_begins_29
  simp (disch := omega) only [i_c0, i_c1, i_c2, i_c3, i_c4, i_c5, i_c6, i_c8, i_c9, i_c10, i_c12, i_c16, i_c17, i_c18, i_c31, i_c32, i_c45, i_c48, i_c50, i_c54, i_c55, i_c57, i_c58, i_c59, i_c61, i_c64, i_c73, i_c118, i_c119, i_c120, i_c126, i_c365, i_c1000, i_cFAR, i_add, i_sub, i_mul, i_neg, i_le, i_lt, i_eq]
  refine Rt.ite (fun h => ?_) (fun h => ?_)
  · obtain rfl : k = 73 := by omega
    unfold M_begins_37
    simp (disch := omega) only [i_c0, i_c1, i_c2, i_c3, i_c4, i_c5, i_c6, i_c8, i_c9, i_c10, i_c12, i_c16, i_c17, i_c18, i_c31, i_c32, i_c45, i_c48, i_c50, i_c54, i_c55, i_c57, i_c58, i_c59, i_c61, i_c64, i_c73, i_c118, i_c119, i_c120, i_c126, i_c365, i_c1000, i_cFAR, stA_i, Option.bind_eq_bind, Option.bind_some]
    refine Rt.some ⟨kp.tr h1 kp.sA, ⟨?_, fun i hi => ?_, ?_, fun e he => absurd he (Nat.not_lt_zero e), ?_, fun e he => absurd he (Nat.not_lt_zero e)⟩, nReset_ok hn h8⟩
    · simp only [mA_sA, if_true, upd_at, nReset_n]; rfl
    · rw [nReset_n] at hi
      rw [(nReset_w hi).1, (nReset_w hi).2]
      simp only [mA_sA, if_true, upd_at]
      rw [if_neg (by show ¬ 1 + i = 0; omega), if_neg (by show ¬ 9 + i = 0; omega), h2 _ (by omega), h2 _ (by omega), if_pos (by omega), if_neg (by omega)]
      exact ⟨rfl, rfl⟩
    · simp only [mA_sA, if_true, upd_at]
      rw [if_neg (by decide), h2 _ (by omega), if_neg (by omega)]; rfl
    · simp only [mA_sA, if_true, upd_at]
      rw [if_neg (by decide), h2 _ (by omega), if_neg (by omega)]; rfl
  · refine Rt.ite (fun h2 => put 0 (by omega) (by rw [if_neg (by omega)])) (fun h2 => Rt.ite (fun h3 => put 0 (by omega) (by rw [if_neg (by omega)])) (fun h3 => put 1 (by omega) (by rw [if_pos (by omega)])))
theorem M_connects_eq {a b : Nat} {l : Int} (hN : mN σ N) (h12 : eN N < 12) (hN' : okN (nCon N a b l)) : ∃ τ, M_connects σ (i32 a) (i32 b) (i32 l) = some (i32 (eN N), τ) ∧ kp [] [] [0] [] σ τ ∧ mN τ (nCon N a b l) := by
  obtain ⟨r1, r2, r3, r4, r5, r6⟩ := hN.1
  have h8 := hN.2.2.1
  have h6 := hN.2.2.2.2.2.2.1
  have e1 : (18 + 3 * (eN N : Int)).toNat = 18 + 3 * eN N := by omega
  have e2 : (18 + 3 * (eN N : Int) + 1).toNat = 18 + 3 * eN N + 1 := by omega
  have e3 : (18 + 3 * (eN N : Int) + 2).toNat = 18 + 3 * eN N + 2 := by omega
  have e4 : (17 : Int).toNat = 17 := rfl
  unfold M_connects
  rw [M_edgeMany_eq hN]
  simp (disch := omega) only [i_c0, i_c1, i_c2, i_c3, i_c4, i_c5, i_c6, i_c8, i_c9, i_c10, i_c12, i_c16, i_c17, i_c18, i_c31, i_c32, i_c45, i_c48, i_c50, i_c54, i_c55, i_c57, i_c58, i_c59, i_c61, i_c64, i_c73, i_c118, i_c119, i_c120, i_c126, i_c365, i_c1000, i_cFAR, i_add, i_sub, i_mul, i_neg, Option.bind_eq_bind, Option.bind_some, stA_i, rdI_i, e1, e2, e3, e4, mA_sA, if_true, upd_at]
  rw [if_neg (by omega), if_neg (by omega), if_neg (by omega), r3, i_add]
  refine ⟨_, rfl, kp.tr kp.sA (kp.tr kp.sA (kp.tr kp.sA kp.sA)), ⟨?_, fun i hi => ?_, ?_, fun e he => ?_, ?_, fun k hk => ?_⟩, hN'⟩
  · simp only [mA_sA, if_true, upd_at]; rw [if_neg (by omega), if_neg (by omega), if_neg (by omega), if_neg (by omega)]; exact r1
  · have hi' : i < nN N := hi
    simp only [mA_sA, if_true, upd_at]
    rw [if_neg (by omega), if_neg (by omega), if_neg (by omega), if_neg (by omega), if_neg (by omega), if_neg (by omega), if_neg (by omega), if_neg (by omega)]; exact r2 i hi'
  · simp only [mA_sA, if_true, upd_at]; rw [nCon_e]; rfl
  · rw [nCon_e] at he
    rw [nCon_ed]
    simp only [mA_sA, if_true, upd_at]
    by_cases h : e < eN N
    · rw [if_pos h, if_neg (by omega), if_neg (by omega), if_neg (by omega), if_neg (by omega), if_neg (by omega), if_neg (by omega), if_neg (by omega), if_neg (by omega), if_neg (by omega), if_neg (by omega), if_neg (by omega), if_neg (by omega)]
      exact r4 e h
    · obtain rfl : e = eN N := by omega
      rw [if_neg h, if_pos rfl, if_neg (by omega), if_neg (by omega), if_neg (by omega), if_pos rfl, if_neg (by omega), if_neg (by omega), if_pos rfl, if_neg (by omega), if_pos rfl]
      exact ⟨rfl, rfl, rfl⟩
  · simp only [mA_sA, if_true, upd_at]; rw [if_neg (by omega), if_neg (by omega), if_neg (by omega), if_neg (by omega)]; exact r5
  · have hk' : k < sN N := hk
    simp only [mA_sA, if_true, upd_at]
    rw [if_neg (by omega), if_neg (by omega), if_neg (by omega), if_neg (by omega), if_neg (by omega), if_neg (by omega), if_neg (by omega), if_neg (by omega), if_neg (by omega), if_neg (by omega), if_neg (by omega), if_neg (by omega)]
    exact r6 k hk'
theorem M_forbids_eq {e : Nat} {a b : Int} (hN : mN σ N) (h6 : sN N < 6) (hN' : okN (nFor N e a b)) : ∃ τ, M_forbids σ (i32 e) (i32 a) (i32 b) = some (i32 (sN N), τ) ∧ kp [] [] [0] [] σ τ ∧ mN τ (nFor N e a b) := by
  obtain ⟨r1, r2, r3, r4, r5, r6⟩ := hN.1
  have h8 := hN.2.2.1
  have h12 := hN.2.2.2.2.1
  have e1 : (55 + 3 * (sN N : Int)).toNat = 55 + 3 * sN N := by omega
  have e2 : (55 + 3 * (sN N : Int) + 1).toNat = 55 + 3 * sN N + 1 := by omega
  have e3 : (55 + 3 * (sN N : Int) + 2).toNat = 55 + 3 * sN N + 2 := by omega
  have e4 : (54 : Int).toNat = 54 := rfl
  unfold M_forbids
  rw [M_stretchMany_eq hN]
  simp (disch := omega) only [i_c0, i_c1, i_c2, i_c3, i_c4, i_c5, i_c6, i_c8, i_c9, i_c10, i_c12, i_c16, i_c17, i_c18, i_c31, i_c32, i_c45, i_c48, i_c50, i_c54, i_c55, i_c57, i_c58, i_c59, i_c61, i_c64, i_c73, i_c118, i_c119, i_c120, i_c126, i_c365, i_c1000, i_cFAR, i_add, i_sub, i_mul, i_neg, Option.bind_eq_bind, Option.bind_some, stA_i, rdI_i, e1, e2, e3, e4, mA_sA, if_true, upd_at]
  rw [if_neg (by omega), if_neg (by omega), if_neg (by omega), r5, i_add]
  refine ⟨_, rfl, kp.tr kp.sA (kp.tr kp.sA (kp.tr kp.sA kp.sA)), ⟨?_, fun i hi => ?_, ?_, fun e he => ?_, ?_, fun k hk => ?_⟩, hN'⟩
  · simp only [mA_sA, if_true, upd_at]; rw [if_neg (by omega), if_neg (by omega), if_neg (by omega), if_neg (by omega)]; exact r1
  · have hi' : i < nN N := hi
    simp only [mA_sA, if_true, upd_at]
    rw [if_neg (by omega), if_neg (by omega), if_neg (by omega), if_neg (by omega), if_neg (by omega), if_neg (by omega), if_neg (by omega), if_neg (by omega)]; exact r2 i hi'
  · simp only [mA_sA, if_true, upd_at]; rw [if_neg (by omega), if_neg (by omega), if_neg (by omega), if_neg (by omega)]; exact r3
  · have he' : e < eN N := he
    simp only [mA_sA, if_true, upd_at]
    rw [if_neg (by omega), if_neg (by omega), if_neg (by omega), if_neg (by omega), if_neg (by omega), if_neg (by omega), if_neg (by omega), if_neg (by omega), if_neg (by omega), if_neg (by omega), if_neg (by omega), if_neg (by omega)]
    exact r4 e he'
  · simp only [mA_sA, if_true, upd_at]; rw [nFor_s]; rfl
  · rw [nFor_s] at hk
    rw [nFor_sd]
    simp only [mA_sA, if_true, upd_at]
    by_cases h : k < sN N
    · rw [if_pos h, if_neg (by omega), if_neg (by omega), if_neg (by omega), if_neg (by omega), if_neg (by omega), if_neg (by omega), if_neg (by omega), if_neg (by omega), if_neg (by omega), if_neg (by omega), if_neg (by omega), if_neg (by omega)]
      exact r6 k h
    · obtain rfl : k = sN N := by omega
      rw [if_neg h, if_pos rfl, if_neg (by omega), if_neg (by omega), if_neg (by omega), if_pos rfl, if_neg (by omega), if_neg (by omega), if_pos rfl, if_neg (by omega), if_pos rfl]
      exact ⟨rfl, rfl, rfl⟩
/-- a stretch goes (of a row that need not be a network yet) -/
theorem M_dropsStretch_eq {k : Nat} (hN : row (mA σ 0) N) (hz : szN N) (hk : k < sN N) (hF : 1000 < F) : Rt (M_dropsStretch F σ (i32 k)) (fun τ => kp [] [] [0] [] σ τ ∧ row (mA τ 0) (nAll N k)) := by
  obtain ⟨r1, r2, r3, r4, r5, r6⟩ := hN
  obtain ⟨z1, z2, z3⟩ := hz
  unfold M_dropsStretch
  simp only [i_c0, i_c1, i_c2, i_c3, i_c4, i_c5, i_c6, i_c8, i_c9, i_c10, i_c12, i_c16, i_c17, i_c18, i_c31, i_c32, i_c45, i_c48, i_c50, i_c54, i_c55, i_c57, i_c58, i_c59, i_c61, i_c64, i_c73, i_c118, i_c119, i_c120, i_c126, i_c365, i_c1000, i_cFAR, i_add, i_sub, i_mul, i_neg, Option.bind_eq_bind, Option.bind_some]
  refine Rt.loop (ι := Nat) (fun i x τ => x = i32 i ∧ 55 + 3 * k ≤ i ∧ i ≤ 55 + 3 * (sN N - 1) ∧ kp [] [] [0] [] σ τ ∧ ∀ j, mA τ 0 j = if 55 + 3 * k ≤ j ∧ j < i then mA σ 0 (j + 3) else mA σ 0 j) (fun i => 73 - i) ?_ F (55 + 3 * k) _ _ ⟨by congr 1, by omega, by omega, kp.rf, fun j => by rw [if_neg (by omega)]⟩ (by omega)
  rintro n i _ τ ⟨rfl, hi1, hi2, h1, h2⟩ ih
  have e54 : mA τ 0 54 = i32 (sN N) := by rw [h2, if_neg (by omega)]; exact r5
  unfold M_dropsStretch_7 M_stretchMany
  rw [i_c54, rdI_i (by omega) (by omega) (by omega), show (54 : Int).toNat = 54 from rfl, e54]
  simp (disch := omega) only [i_c0, i_c1, i_c2, i_c3, i_c4, i_c5, i_c6, i_c8, i_c9, i_c10, i_c12, i_c16, i_c17, i_c18, i_c31, i_c32, i_c45, i_c48, i_c50, i_c54, i_c55, i_c57, i_c58, i_c59, i_c61, i_c64, i_c73, i_c118, i_c119, i_c120, i_c126, i_c365, i_c1000, i_cFAR, i_add, i_sub, i_mul, i_neg, Option.bind_eq_bind, Option.bind_some, i_le, i_lt, i_eq]
  refine Rt.ite (fun h => ?_) (fun h => ?_)
  · obtain rfl : i = 55 + 3 * (sN N - 1) := by omega
    unfold M_dropsStretch_42
    rw [i_c54, rdI_i (by omega) (by omega) (by omega), show (54 : Int).toNat = 54 from rfl, e54]
    simp (disch := omega) only [i_c0, i_c1, i_c2, i_c3, i_c4, i_c5, i_c6, i_c8, i_c9, i_c10, i_c12, i_c16, i_c17, i_c18, i_c31, i_c32, i_c45, i_c48, i_c50, i_c54, i_c55, i_c57, i_c58, i_c59, i_c61, i_c64, i_c73, i_c118, i_c119, i_c120, i_c126, i_c365, i_c1000, i_cFAR, i_add, i_sub, i_mul, i_neg, Option.bind_eq_bind, Option.bind_some, stA_i, show (54 : Int).toNat = 54 from rfl]
    have es := nAll_s hk
    refine Rt.some ⟨kp.tr h1 kp.sA, ?_, fun i hi => ?_, ?_, fun e he => ?_, ?_, fun j hj => ?_⟩
    · simp only [mA_sA, if_true, upd_at]; rw [if_neg (by omega), h2, if_neg (by omega)]; exact r1
    · have hi' : i < nN N := hi
      simp only [mA_sA, if_true, upd_at]; rw [if_neg (by omega), if_neg (by omega), h2, h2, if_neg (by omega), if_neg (by omega)]; exact r2 i hi'
    · simp only [mA_sA, if_true, upd_at]; rw [if_neg (by omega), h2, if_neg (by omega)]; exact r3
    · have he' : e < eN N := he
      simp only [mA_sA, if_true, upd_at]; rw [if_neg (by omega), if_neg (by omega), if_neg (by omega), h2, h2, h2, if_neg (by omega), if_neg (by omega), if_neg (by omega)]; exact r4 e he'
    · simp only [mA_sA, if_true, upd_at]; rw [es]; congr 1; omega
    · rw [es] at hj
      simp only [mA_sA, if_true, upd_at]; rw [if_neg (by omega), if_neg (by omega), if_neg (by omega), h2, h2, h2, nAll_sd]
      by_cases hjk : j < k
      · rw [if_pos hjk, if_neg (by omega), if_neg (by omega), if_neg (by omega)]; exact r6 j (by omega)
      · rw [if_neg hjk, if_pos (by omega), if_pos (by omega), if_pos (by omega)]
        have := r6 (j + 1) (by omega)
        rw [show 55 + 3 * (j + 1) = 55 + 3 * j + 3 by omega] at this
        exact this
  · have ei : ((i : Int) + 3).toNat = i + 3 := by omega
    simp (disch := omega) only [i_add, i_sub, i_mul, i_neg, rdI_i, stA_i, Option.bind_eq_bind, Option.bind_some, Int.toNat_natCast, ei]
    refine ih (i + 1) _ _ ⟨rfl, by omega, by omega, kp.tr h1 kp.sA, fun j => ?_⟩ (by omega)
    simp only [mA_sA, if_true, upd_at]
    by_cases e : j = i
    · rw [if_pos e, e, if_pos (by omega), h2, if_neg (by omega)]
    · rw [if_neg e, h2]
      by_cases e2 : 55 + 3 * k ≤ j ∧ j < i
      · rw [if_pos e2, if_pos (by omega)]
      · rw [if_neg e2, if_neg (by omega)]
end MQ
