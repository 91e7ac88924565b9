/-! THE MODEL: an edge goes; the calls that change the network -/
section MU
variable {σ : MS} {N : Net} {F : Nat} {P : List Net} {A : Ab}
def nSts (N : Net) (l : List (Nat × Int × Int)) : Net := (N.1, N.2.1, l)
theorem row_setS {f : Nat → Int32} {k v : Nat} (hz : szN N) (hr : row f N) (hk : k < sN N) : row (upd f (55 + 3 * k) (i32 v)) (nSts N (N.2.2.set k (v, (sd N k).2))) := by
  obtain ⟨r1, r2, r3, r4, r5, r6⟩ := hr
  obtain ⟨z1, z2, z3⟩ := hz
  have es : sN (nSts N (N.2.2.set k (v, (sd N k).2))) = sN N := List.length_set
  have ed' : ∀ j, sd (nSts N (N.2.2.set k (v, (sd N k).2))) j = if j = k then (v, (sd N k).2) else sd N j := fun j => getD_set hk
  refine ⟨?_, fun i hi => ?_, ?_, fun e he => ?_, ?_, fun j hj => ?_⟩
  · rw [upd_at, if_neg (by omega)]; exact r1
  · have hi' : i < nN N := hi
    rw [upd_at, upd_at, if_neg (by omega), if_neg (by omega)]; exact r2 i hi'
  · rw [upd_at, if_neg (by omega)]; exact r3
  · have he' : e < eN N := he
    rw [upd_at, upd_at, upd_at, if_neg (by omega), if_neg (by omega), if_neg (by omega)]; exact r4 e he'
  · rw [upd_at, if_neg (by omega), es]; exact r5
  · rw [es] at hj
    rw [ed', upd_at, upd_at, upd_at, if_neg (show ¬ 55 + 3 * j + 1 = 55 + 3 * k by omega), if_neg (show ¬ 55 + 3 * j + 2 = 55 + 3 * k by omega)]
    by_cases e : j = k
    · subst e; rw [if_pos rfl, if_pos rfl]; exact ⟨rfl, (r6 j hj).2⟩
    · rw [if_neg e, if_neg (by omega)]; exact r6 j hj
theorem row_setL {f : Nat → Int32} {L : List (Nat × Int × Int)} {k v : Nat} (hz : szN (nSts N L)) (hr : row f (nSts N L)) (hk : k < L.length) : row (upd f (55 + 3 * k) (i32 v)) (nSts N (L.set k (v, (L.getD k (0, 0, 0)).2))) := row_setS hz hr hk
theorem stD_cons (e : Nat) (s : Nat × Int × Int) (l : List (Nat × Int × Int)) : stD e (s :: l) = if s.1 = e then stD e l else (if e < s.1 then (s.1 - 1, s.2) else s) :: stD e l := by
  unfold stD
  by_cases h : s.1 = e
  · rw [if_pos h, List.filter_cons_of_neg (by simp [h])]
  · rw [if_neg h, List.filter_cons_of_pos (by simp [h]), List.map_cons]
theorem take_era {α : Type} {l Y : List α} {k : Nat} (hk : k < l.length) : (l.take (k + 1) ++ Y).eraseIdx k = l.take k ++ Y := by
  rw [List.take_succ_eq_append_getElem hk, List.append_assoc, List.eraseIdx_append_of_length_le (by rw [List.length_take]; omega)]
  congr 1
  rw [List.length_take, Nat.min_eq_left (by omega), Nat.sub_self]; rfl
theorem take_set {α : Type} {l Y : List α} {k : Nat} {v : α} (hk : k < l.length) : (l.take (k + 1) ++ Y).set k v = l.take k ++ v :: Y := by
  rw [List.take_succ_eq_append_getElem hk, List.append_assoc, List.set_append, if_neg (by rw [List.length_take]; omega)]
  congr 1
  rw [List.length_take, Nat.min_eq_left (by omega), Nat.sub_self]; rfl
theorem take_keep {α : Type} {l Y : List α} {k : Nat} (hk : k < l.length) : l.take (k + 1) ++ Y = l.take k ++ l[k] :: Y := by
  rw [List.take_succ_eq_append_getElem hk, List.append_assoc]; rfl
theorem M_dropsEdge_65_eq {e : Nat} {c : Int32} {L : List (Nat × Int × Int)} (hr : row (mA σ 0) (nSts N L)) (hz : szN (nSts N L)) (he : e < eN N) (hF : 1000 < F) :
    Rt (M_dropsEdge_65 F (i32 e) c σ) (fun v => v.1 = c ∧ kp [] [] [0] [] σ v.2 ∧ row (mA v.2 0) (N.1, N.2.1.eraseIdx e, L)) := by
  obtain ⟨r1, r2, r3, r4, r5, r6⟩ := hr
  obtain ⟨z1, z2, z3⟩ := hz
  have z2' : eN N ≤ 12 := z2
  unfold M_dropsEdge_65
  simp only [i_c0, i_c1, i_c2, i_c3, i_c4, i_c5, i_c6, i_c8, i_c9, i_c10, i_c12, i_c16, i_c17, i_c18, i_c31, i_c32, i_c45, i_c48, i_c50, i_c54, i_c55, i_c57, i_c58, i_c59, i_c61, i_c64, i_c73, i_c118, i_c119, i_c120, i_c126, i_c365, i_c1000, i_cFAR, i_add, i_sub, i_mul, i_neg, Option.bind_eq_bind, Option.bind_some]
  refine Rt.loop (ι := Nat) (fun i x τ => x = i32 i ∧ 18 + 3 * e ≤ i ∧ i ≤ 18 + 3 * (eN N - 1) ∧ kp [] [] [0] [] σ τ ∧ ∀ j, mA τ 0 j = if 18 + 3 * e ≤ j ∧ j < i then mA σ 0 (j + 3) else mA σ 0 j) (fun i => 73 - i) ?_ F (18 + 3 * e) _ _ ⟨by congr 1, by omega, by omega, kp.rf, fun j => by rw [if_neg (by omega)]⟩ (by omega)
  rintro n i _ τ ⟨rfl, hi1, hi2, h1, h2⟩ ih
  have e17 : mA τ 0 17 = i32 (eN N) := by rw [h2, if_neg (by omega)]; exact r3
  unfold M_dropsEdge_72 M_edgeMany
  rw [i_c17, rdI_i (by omega) (by omega) (by omega), show (17 : Int).toNat = 17 from rfl, e17]
  simp (disch := omega) only [i_c0, i_c1, i_c2, i_c3, i_c4, i_c5, i_c6, i_c8, i_c9, i_c10, i_c12, i_c16, i_c17, i_c18, i_c31, i_c32, i_c45, i_c48, i_c50, i_c54, i_c55, i_c57, i_c58, i_c59, i_c61, i_c64, i_c73, i_c118, i_c119, i_c120, i_c126, i_c365, i_c1000, i_cFAR, i_add, i_sub, i_mul, i_neg, Option.bind_eq_bind, Option.bind_some, i_le, i_lt, i_eq]
  refine Rt.ite (fun h => ?_) (fun h => ?_)
  · obtain rfl : i = 18 + 3 * (eN N - 1) := by omega
    unfold M_dropsEdge_107
    rw [i_c17, rdI_i (by omega) (by omega) (by omega), show (17 : Int).toNat = 17 from rfl, e17]
    simp (disch := omega) only [i_c0, i_c1, i_c2, i_c3, i_c4, i_c5, i_c6, i_c8, i_c9, i_c10, i_c12, i_c16, i_c17, i_c18, i_c31, i_c32, i_c45, i_c48, i_c50, i_c54, i_c55, i_c57, i_c58, i_c59, i_c61, i_c64, i_c73, i_c118, i_c119, i_c120, i_c126, i_c365, i_c1000, i_cFAR, i_add, i_sub, i_mul, i_neg, Option.bind_eq_bind, Option.bind_some, stA_i, show (17 : Int).toNat = 17 from rfl]
    have ee : eN ((N.1, N.2.1.eraseIdx e, L) : Net) = eN N - 1 := nDis_e he
    have ed' : ∀ j, ed ((N.1, N.2.1.eraseIdx e, L) : Net) j = if j < e then ed N j else ed N (j + 1) := fun j => nDis_ed
    refine Rt.some ⟨rfl, kp.tr h1 kp.sA, ?_, fun i hi => ?_, ?_, fun j hj => ?_, ?_, fun j hj => ?_⟩
    · simp only [mA_sA, if_true, upd_at]; rw [if_neg (by omega), h2, if_neg (by omega)]; exact r1
    · have hi' : i < nN (nSts N L) := hi
      simp only [mA_sA, if_true, upd_at]; rw [if_neg (by omega), if_neg (by omega), h2, h2, if_neg (by omega), if_neg (by omega)]; exact r2 i hi'
    · simp only [mA_sA, if_true, upd_at]; rw [ee]; congr 1; omega
    · rw [ee] at hj
      simp only [mA_sA, if_true, upd_at]; rw [if_neg (by omega), if_neg (by omega), if_neg (by omega), h2, h2, h2, ed']
      by_cases hjk : j < e
      · rw [if_pos hjk, if_neg (by omega), if_neg (by omega), if_neg (by omega)]; exact r4 j (show j < eN N by omega)
      · rw [if_neg hjk, if_pos (by omega), if_pos (by omega), if_pos (by omega)]
        have := r4 (j + 1) (show j + 1 < eN N by omega)
        rw [show 18 + 3 * (j + 1) = 18 + 3 * j + 3 by omega] at this
        exact this
    · simp only [mA_sA, if_true, upd_at]; rw [if_neg (by omega), h2, if_neg (by omega)]; exact r5
    · have hj' : j < sN (nSts N L) := hj
      simp only [mA_sA, if_true, upd_at]; rw [if_neg (by omega), if_neg (by omega), if_neg (by omega), h2, h2, h2, if_neg (by omega), if_neg (by omega), if_neg (by omega)]; exact r6 j hj'
  · have ei : ((i : Int) + 3).toNat = i + 3 := by omega
    simp (disch := omega) only [i_add, i_sub, i_mul, i_neg, rdI_i, stA_i, Option.bind_eq_bind, Option.bind_some, Int.toNat_natCast, ei]
    refine ih (i + 1) _ _ ⟨rfl, by omega, by omega, kp.tr h1 kp.sA, fun j => ?_⟩ (by omega)
    simp only [mA_sA, if_true, upd_at]
    by_cases e2 : j = i
    · rw [if_pos e2, e2, if_pos (by omega), h2, if_neg (by omega)]
    · rw [if_neg e2, h2]
      by_cases e3 : 18 + 3 * e ≤ j ∧ j < i
      · rw [if_pos e3, if_pos (by omega)]
      · rw [if_neg e3, if_neg (by omega)]
theorem M_dropsEdge_eq {e : Nat} (hN : mN σ N) (he : e < eN N) (hF : 1000 < F) :
    Rt (M_dropsEdge F σ (i32 e)) (fun v => v.1 = i32 ((sN N : Int) - sN (nDis N e)) ∧ kp [] [] [0] [] σ v.2 ∧ mN v.2 (nDis N e)) := by
  have z := hN.2.sz
  have z2 := z.2.1
  have z3 := z.2.2
  unfold M_dropsEdge
  rw [M_stretchMany_eq hN]
  simp only [i_c0, i_c1, i_c2, i_c3, i_c4, i_c5, i_c6, i_c8, i_c9, i_c10, i_c12, i_c16, i_c17, i_c18, i_c31, i_c32, i_c45, i_c48, i_c50, i_c54, i_c55, i_c57, i_c58, i_c59, i_c61, i_c64, i_c73, i_c118, i_c119, i_c120, i_c126, i_c365, i_c1000, i_cFAR, i_add, i_sub, i_mul, i_neg, Option.bind_eq_bind, Option.bind_some]
  refine Rt.loop3 (ι := Nat) (fun k c x τ => x = i32 ((k : Int) - 1) ∧ k ≤ sN N ∧ kp [] [] [0] [] σ τ ∧ c = i32 (((N.2.2.drop k).length : Int) - (stD e (N.2.2.drop k)).length) ∧ row (mA τ 0) (nSts N (N.2.2.take k ++ stD e (N.2.2.drop k)))) (fun k => k) ?_ F (sN N) _ _ _ ⟨rfl, by omega, kp.rf, ?_, ?_⟩ (by omega)
  rotate_left
  · rw [List.drop_of_length_le (show N.2.2.length ≤ sN N from Nat.le_refl _)]; congr 1
  · rw [List.drop_of_length_le (show N.2.2.length ≤ sN N from Nat.le_refl _), List.take_of_length_le (show N.2.2.length ≤ sN N from Nat.le_refl _)]
    have : N.2.2 ++ stD e [] = N.2.2 := List.append_nil _
    rw [this]; exact hN.1
  rintro n k _ _ τ ⟨rfl, hk, h1, rfl, h2⟩ ih
  have sz : ∀ j, j ≤ sN N → (N.2.2.take j ++ stD e (N.2.2.drop j)).length ≤ sN N := by
    intro j hj
    have := stD_len e (N.2.2.drop j)
    rw [List.length_append, List.length_take]
    rw [List.length_drop] at this
    unfold sN; omega
  unfold M_dropsEdge_9
  simp (disch := omega) only [i_c0, i_c1, i_c2, i_c3, i_c4, i_c5, i_c6, i_c8, i_c9, i_c10, i_c12, i_c16, i_c17, i_c18, i_c31, i_c32, i_c45, i_c48, i_c50, i_c54, i_c55, i_c57, i_c58, i_c59, i_c61, i_c64, i_c73, i_c118, i_c119, i_c120, i_c126, i_c365, i_c1000, i_cFAR, i_le, i_lt, i_eq]
  refine Rt.ite (fun h => ?_) (fun h => ?_)
  · obtain rfl : k = 0 := by omega
    rw [List.drop_zero, List.take_zero, List.nil_append] at *
    have s0 := sz 0 (by omega)
    rw [List.drop_zero, List.take_zero, List.nil_append] at s0
    refine (M_dropsEdge_65_eq h2 ⟨z.1, z2, show (stD e N.2.2).length ≤ 6 by omega⟩ he hF).mono ?_
    rintro ⟨c, υ⟩ ⟨rfl, k1, k2⟩
    exact ⟨by show i32 _ = i32 _; congr 1, kp.tr h1 k1, k2, nDis_ok hN.2 he⟩
  obtain ⟨k, rfl⟩ : ∃ k', k = k' + 1 := ⟨k - 1, by omega⟩
  have hk' : k < N.2.2.length := by unfold sN at hk; omega
  have ek : (((k + 1 : Nat) : Int) - 1) = (k : Int) := by omega
  rw [ek]
  have sk := sz (k + 1) hk
  have hks : k < sN (nSts N (N.2.2.take (k + 1) ++ stD e (N.2.2.drop (k + 1)))) := by
    show k < (N.2.2.take (k + 1) ++ stD e (N.2.2.drop (k + 1))).length
    rw [List.length_append, List.length_take]; omega
  have esd : sd (nSts N (N.2.2.take (k + 1) ++ stD e (N.2.2.drop (k + 1)))) k = N.2.2[k] := by
    show (N.2.2.take (k + 1) ++ stD e (N.2.2.drop (k + 1))).getD k (0, 0, 0) = _
    rw [take_keep hk', List.getD_eq_getElem?_getD, List.getElem?_append_right (by rw [List.length_take]; omega), List.length_take, Nat.min_eq_left (by omega), Nat.sub_self]; rfl
  have okk : N.2.2[k].1 < eN N := by
    have := hN.2.2.2.2.2.2.2 k hk'
    rw [show sd N k = N.2.2[k] from getD_at hk'] at this
    exact this.1
  have g0 : mA τ 0 (55 + 3 * k) = i32 N.2.2[k].1 := by rw [(h2.2.2.2.2.2 k hks).1, esd]
  have ea : ((55 + 3 * (k : Int)) + 0).toNat = 55 + 3 * k := by omega
  have ea' : (55 + 3 * (k : Int)).toNat = 55 + 3 * k := by omega
  have dk : N.2.2.drop k = N.2.2[k] :: N.2.2.drop (k + 1) := List.drop_eq_getElem_cons hk'
  have M_at' : M_at τ (i32 k) (i32 0) = some (i32 N.2.2[k].1) := by
    unfold M_at
    simp (disch := omega) only [i_c0, i_c1, i_c2, i_c3, i_c4, i_c5, i_c6, i_c8, i_c9, i_c10, i_c12, i_c16, i_c17, i_c18, i_c31, i_c32, i_c45, i_c48, i_c50, i_c54, i_c55, i_c57, i_c58, i_c59, i_c61, i_c64, i_c73, i_c118, i_c119, i_c120, i_c126, i_c365, i_c1000, i_cFAR, i_add, i_sub, i_mul, i_neg, Option.bind_eq_bind, Option.bind_some, rdI_i, ea, g0]
  have nxt : ∀ (c : Int) (υ : MS), kp [] [] [0] [] σ υ → c = ((N.2.2.drop k).length : Int) - (stD e (N.2.2.drop k)).length → row (mA υ 0) (nSts N (N.2.2.take k ++ stD e (N.2.2.drop k))) →
      Rt (M_dropsEdge_59 F (M_dropsEdge_9 F (i32 e) n) (i32 e) (i32 c) (i32 k) υ) (fun v => v.1 = i32 ((sN N : Int) - sN (nDis N e)) ∧ kp [] [] [0] [] σ v.2 ∧ mN v.2 (nDis N e)) := by
    intro c υ q1 q2 q3
    unfold M_dropsEdge_59
    simp only [i_c0, i_c1, i_c2, i_c3, i_c4, i_c5, i_c6, i_c8, i_c9, i_c10, i_c12, i_c16, i_c17, i_c18, i_c31, i_c32, i_c45, i_c48, i_c50, i_c54, i_c55, i_c57, i_c58, i_c59, i_c61, i_c64, i_c73, i_c118, i_c119, i_c120, i_c126, i_c365, i_c1000, i_cFAR, i_neg, i_add, i_sub, i_mul, i_neg, Option.bind_eq_bind, Option.bind_some]
    exact ih k _ _ _ ⟨by rw [show (k : Int) + -1 = (k : Int) - 1 by omega], by omega, q1, by rw [q2], q3⟩ (by omega)
  rw [M_at']
  simp (disch := omega) only [Option.bind_eq_bind, Option.bind_some, i_le, i_lt, i_eq]
  refine Rt.ite (fun h3 => ?_) (fun h3 => ?_)
  · have h3' : N.2.2[k].1 = e := by omega
    refine Rt.bindO (M_dropsStretch_eq h2 ⟨z.1, z2, show (N.2.2.take (k + 1) ++ stD e (N.2.2.drop (k + 1))).length ≤ 6 by omega⟩ hks hF) ?_
    rintro υ ⟨k1, k2⟩
    simp only [i_add, i_sub, i_mul, i_neg, Option.bind_eq_bind, Option.bind_some]
    refine nxt _ υ (kp.tr h1 k1) ?_ ?_
    · rw [dk, stD_cons, if_pos h3', List.length_cons]; push_cast; omega
    · have : nAll (nSts N (N.2.2.take (k + 1) ++ stD e (N.2.2.drop (k + 1)))) k = nSts N (N.2.2.take k ++ stD e (N.2.2.drop k)) := by
        rw [dk, stD_cons, if_pos h3']
        show (N.1, N.2.1, (N.2.2.take (k + 1) ++ stD e (N.2.2.drop (k + 1))).eraseIdx k) = _
        rw [take_era hk']; rfl
      rw [← this]; exact k2
  · have h3' : ¬ N.2.2[k].1 = e := by omega
    have cl : ((N.2.2.drop (k + 1)).length : Int) - (stD e (N.2.2.drop (k + 1))).length = ((N.2.2.drop k).length : Int) - (stD e (N.2.2.drop k)).length := by
      rw [dk, stD_cons, if_neg h3', List.length_cons, List.length_cons]; push_cast; omega
    refine Rt.ite (fun h4 => ?_) (fun h4 => ?_)
    · refine nxt _ τ h1 cl ?_
      rw [dk, stD_cons, if_neg h3', if_neg (by omega), ← take_keep hk']; exact h2
    · simp only [i_add, i_sub, i_mul, i_neg, Option.bind_eq_bind, Option.bind_some]
      rw [rdI_i (by omega) (by omega) (by omega), ea', g0]
      simp only [i_add, i_sub, i_mul, i_neg, Option.bind_eq_bind, Option.bind_some]
      rw [stA_i (by omega) (by omega) (by omega), ea']
      simp only [Option.bind_eq_bind, Option.bind_some]
      refine nxt _ _ (kp.tr h1 kp.sA) cl ?_
      have q := row_setL (N := N) (L := N.2.2.take (k + 1) ++ stD e (N.2.2.drop (k + 1))) (k := k) (v := N.2.2[k].1 - 1) ⟨z.1, z2, show (N.2.2.take (k + 1) ++ stD e (N.2.2.drop (k + 1))).length ≤ 6 by omega⟩ h2 hks
      rw [take_set hk', show (N.2.2.take (k + 1) ++ stD e (N.2.2.drop (k + 1))).getD k (0, 0, 0) = N.2.2[k] from esd] at q
      rw [dk, stD_cons, if_neg h3', if_pos (by omega)]
      have e2 : (N.2.2[k].1 : Int) - 1 = ((N.2.2[k].1 - 1 : Nat) : Int) := by omega
      rw [e2]
      exact q
theorem M_set_eq {i : Nat} {v : Int} (hN : mN σ N) (hi : i < nN N) (h0 : 0 ≤ v) (h9 : v ≤ 9) : mN (sA σ 0 (upd (mA σ 0) (1 + i) (i32 v))) (nWei N i v) ∧ mN (sA σ 0 (upd (mA σ 0) (9 + i) (i32 v))) (nTre N i v) := by
  obtain ⟨r1, r2, r3, r4, r5, r6⟩ := hN.1
  obtain ⟨z1, z2, z3⟩ := hN.2.sz
  constructor
  · refine ⟨⟨?_, fun j hj => ?_, ?_, fun e he => ?_, ?_, fun k hk => ?_⟩, nWei_ok hN.2 hi h0 h9⟩
    · simp only [mA_sA, if_true, upd_at, nWei_n]; rw [if_neg (by omega)]; exact r1
    · rw [nWei_n] at hj
      simp only [mA_sA, if_true, upd_at]
      rw [(nWei_w hi).1, (nWei_w hi).2, if_neg (show ¬ 9 + j = 1 + i by omega)]
      refine ⟨?_, (r2 j hj).2⟩
      by_cases e : j = i
      · rw [if_pos e, if_pos (by omega)]
      · rw [if_neg e, if_neg (by omega)]; exact (r2 j hj).1
    · simp only [mA_sA, if_true, upd_at]; rw [if_neg (by omega)]; exact r3
    · have he' : e < eN N := he
      simp only [mA_sA, if_true, upd_at]; rw [if_neg (by omega), if_neg (by omega), if_neg (by omega)]; exact r4 e he'
    · simp only [mA_sA, if_true, upd_at]; rw [if_neg (by omega)]; exact r5
    · have hk' : k < sN N := hk
      simp only [mA_sA, if_true, upd_at]; rw [if_neg (by omega), if_neg (by omega), if_neg (by omega)]; exact r6 k hk'
  · refine ⟨⟨?_, fun j hj => ?_, ?_, fun e he => ?_, ?_, fun k hk => ?_⟩, nTre_ok hN.2 hi h0 h9⟩
    · simp only [mA_sA, if_true, upd_at, nTre_n]; rw [if_neg (by omega)]; exact r1
    · rw [nTre_n] at hj
      simp only [mA_sA, if_true, upd_at]
      rw [(nTre_w hi).1, (nTre_w hi).2, if_neg (show ¬ 1 + j = 9 + i by omega)]
      refine ⟨(r2 j hj).1, ?_⟩
      by_cases e : j = i
      · rw [if_pos e, if_pos (by omega)]
      · rw [if_neg e, if_neg (by omega)]; exact (r2 j hj).2
    · simp only [mA_sA, if_true, upd_at]; rw [if_neg (by omega)]; exact r3
    · have he' : e < eN N := he
      simp only [mA_sA, if_true, upd_at]; rw [if_neg (by omega), if_neg (by omega), if_neg (by omega)]; exact r4 e he'
    · simp only [mA_sA, if_true, upd_at]; rw [if_neg (by omega)]; exact r5
    · have hk' : k < sN N := hk
      simp only [mA_sA, if_true, upd_at]; rw [if_neg (by omega), if_neg (by omega), if_neg (by omega)]; exact r6 k hk'
theorem M_areJoined_eq {a b : Int} (hN : mN σ N) (ha : -2147483648 ≤ a) (ha2 : a < 2147483648) (hb : -2147483648 ≤ b) (hb2 : b < 2147483648) (hF : 1000 < F) : Rt (M_areJoined F σ (i32 a) (i32 b)) (fun v => v = i32 (tr01 (joinN N a b))) := by
  have z := hN.2.sz
  have z1 := z.1
  have z2 := z.2.1
  unfold M_areJoined
  simp only [i_c0]
  refine Rt.loop (ι := Nat) (fun k c x => x = i32 k ∧ k ≤ eN N ∧ c = i32 (tr01 (∃ e, e < k ∧ (((ed N e).1 : Int) = a ∧ ((ed N e).2.1 : Int) = b ∨ ((ed N e).1 : Int) = b ∧ ((ed N e).2.1 : Int) = a)))) (fun k => eN N - k) ?_ F 0 _ _ ⟨rfl, by omega, by rw [tr01_neg]; rintro ⟨e, he, -⟩; omega⟩ (by omega)
  rintro n k _ _ ⟨rfl, hk, rfl⟩ ih
  unfold M_areJoined_5
  rw [M_edgeMany_eq hN]
  simp (disch := omega) only [Option.bind_eq_bind, Option.bind_some, i_le, i_lt, i_eq]
  refine Rt.ite (fun h => ?_) (fun h => ?_)
  · obtain rfl : k = eN N := by omega
    have zt : zz (i32 (tr01 (joinN N a b))) = some (i32 (tr01 (joinN N a b))) := by
      by_cases h : joinN N a b
      · rw [tr01_pos h]; rfl
      · rw [tr01_neg h]; rfl
    refine Rt.of (a := i32 (tr01 (joinN N a b))) ?_ rfl
    show (zz (i32 (tr01 (joinN N a b)))).bind some = _
    rw [zt]; rfl
  have hk' : k < eN N := by omega
  obtain ⟨a1, a2, a3, a4, a5⟩ := hN.2.2.2.2.2.1 k hk'
  have nxt : ∀ c : Prop, (c ↔ ∃ e, e < k + 1 ∧ (((ed N e).1 : Int) = a ∧ ((ed N e).2.1 : Int) = b ∨ ((ed N e).1 : Int) = b ∧ ((ed N e).2.1 : Int) = a)) → Rt (M_areJoined_67 F (M_areJoined_5 F σ (i32 a) (i32 b) n) σ (i32 a) (i32 b) (i32 k) (i32 (tr01 c))) (fun v => v = i32 (tr01 (joinN N a b))) := by
    intro c hc
    unfold M_areJoined_67
    simp only [i_c0, i_c1, i_c2, i_c3, i_c4, i_c5, i_c6, i_c8, i_c9, i_c10, i_c12, i_c16, i_c17, i_c18, i_c31, i_c32, i_c45, i_c48, i_c50, i_c54, i_c55, i_c57, i_c58, i_c59, i_c61, i_c64, i_c73, i_c118, i_c119, i_c120, i_c126, i_c365, i_c1000, i_cFAR, i_add, i_sub, i_mul, i_neg, Option.bind_eq_bind, Option.bind_some]
    exact ih (k + 1) _ _ ⟨rfl, by omega, by rw [propext hc]⟩ (by omega)
  have yes : (∃ e, e < k + 1 ∧ (((ed N e).1 : Int) = a ∧ ((ed N e).2.1 : Int) = b ∨ ((ed N e).1 : Int) = b ∧ ((ed N e).2.1 : Int) = a)) → Rt (M_areJoined_62 F (M_areJoined_5 F σ (i32 a) (i32 b) n) σ (i32 a) (i32 b) (i32 k)) (fun v => v = i32 (tr01 (joinN N a b))) := by
    intro hc
    have := nxt True ⟨fun _ => hc, fun _ => trivial⟩
    rw [tr01_pos trivial] at this
    exact this
  have no : (¬ ∃ e, e < k + 1 ∧ (((ed N e).1 : Int) = a ∧ ((ed N e).2.1 : Int) = b ∨ ((ed N e).1 : Int) = b ∧ ((ed N e).2.1 : Int) = a)) → Rt (M_areJoined_66 F (M_areJoined_5 F σ (i32 a) (i32 b) n) σ (i32 a) (i32 b) (i32 k)) (fun v => v = i32 (tr01 (joinN N a b))) := by
    intro hc
    have := nxt False ⟨fun z => z.elim, fun z => hc z⟩
    rw [tr01_neg (fun z => z)] at this
    exact this
  rw [i_c0]
  refine Rt.ite (fun h1 => ?_) (fun h1 => ?_)
  · have hno := tr01_n h1
    have split : ¬ (((ed N k).1 : Int) = a ∧ ((ed N k).2.1 : Int) = b ∨ ((ed N k).1 : Int) = b ∧ ((ed N k).2.1 : Int) = a) → ¬ ∃ e, e < k + 1 ∧ (((ed N e).1 : Int) = a ∧ ((ed N e).2.1 : Int) = b ∨ ((ed N e).1 : Int) = b ∧ ((ed N e).2.1 : Int) = a) := by
      rintro hn ⟨e, he, hh⟩
      by_cases eq : e = k
      · rw [eq] at hh; exact hn hh
      · exact hno ⟨e, by omega, hh⟩
    have second : ¬ (((ed N k).1 : Int) = a ∧ ((ed N k).2.1 : Int) = b) → Rt (M_areJoined_40 F (M_areJoined_5 F σ (i32 a) (i32 b) n) σ (i32 a) (i32 b) (i32 k)) (fun v => v = i32 (tr01 (joinN N a b))) := by
      intro hn
      unfold M_areJoined_40
      simp only [i_c0, i_c1]
      rw [M_of_0 hN hk', M_of_1 hN hk']
      simp (disch := omega) only [Option.bind_eq_bind, Option.bind_some, i_le, i_lt, i_eq]
      exact Rt.ite (fun h2 => Rt.ite (fun h3 => yes ⟨k, by omega, Or.inr ⟨h2, h3⟩⟩) (fun h3 => no (split (by omega)))) (fun h2 => no (split (by omega)))
    simp only [i_c1]
    rw [M_of_0 hN hk', M_of_1 hN hk']
    simp (disch := omega) only [Option.bind_eq_bind, Option.bind_some, i_le, i_lt, i_eq]
    exact Rt.ite (fun h2 => Rt.ite (fun h3 => yes ⟨k, by omega, Or.inl ⟨h2, h3⟩⟩) (fun h3 => second (by omega))) (fun h2 => second (by omega))
  · obtain ⟨e, he, h⟩ := tr01_y h1
    exact yes ⟨e, by omega, h⟩
end MU
