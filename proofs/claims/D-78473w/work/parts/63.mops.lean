/-! THE MODEL's CALLS ANSWER BY THE COMMON LAW -/
abbrev rng (a : Int) : Prop := -2147483648 ≤ a ∧ a < 2147483648
theorem b01_tr {c : Prop} {ic : Decidable c} : @b01 c ic = tr01 c := by
  unfold b01
  by_cases h : c
  · rw [if_pos h, tr01_pos h]
  · rw [if_neg h, tr01_neg h]
theorem Rt.tst {ρ : Type} {E : Option Int32} {c : Prop} {ic : (r : Int32) → Decidable (r = 0)} {A B : Int32 → Option ρ} {Q : ρ → Prop} (h : E = Option.some (i32 (tr01 c))) (hn : ¬ c → Rt (A (i32 (tr01 c))) Q) (hy : c → Rt (B (i32 (tr01 c))) Q) : Rt (E >>= fun r => @_root_.ite _ (r = 0) (ic r) (A r) (B r)) Q := by
  rw [h]
  refine Rt.let (Rt.ite (fun h => hn (tr01_n h)) (fun h => hy (tr01_y h)))
theorem Rt.tst2 {ρ : Type} {E : Option (Int32 × MS)} {c : Prop} {τ : MS} {ic : (r : Int32 × MS) → Decidable (r.1 = 0)} {A B : Int32 × MS → Option ρ} {Q : ρ → Prop} (h : E = Option.some (i32 (tr01 c), τ)) (hn : ¬ c → Rt (A (i32 (tr01 c), τ)) Q) (hy : c → Rt (B (i32 (tr01 c), τ)) Q) : Rt (E >>= fun r => @_root_.ite _ (r.1 = 0) (ic r) (A r) (B r)) Q := by
  rw [h]
  refine Rt.let (Rt.ite (fun h => hn (tr01_n h)) (fun h => hy (tr01_y h)))
section MV
variable {σ : MS} {N : Net} {F : Nat} {A : Ab}
theorem mno {τ : MS} {c : Nat} (hR : mR τ A) : mOK (no A c) ((0 : Int32), sI τ 1 (i32 c)) := ⟨rfl, hR.kp (kp.sI (iS := [1]) (lS := []) (aS := []) (bS := [])), rfl⟩
theorem ref_no {τ : MS} {c : Nat} {ic : (r : Int32 × MS) → Decidable (r.1 = 0)} {G : Int32 × MS → Option (Int32 × MS)} (hc : 1 ≤ c) (hc3 : c ≤ 3) (hR : mR τ A) : Rt (M_refused τ (i32 c) >>= fun r => @ite _ (r.1 = 0) (ic r) (G r) (some (0, r.2))) (mOK (no A c)) := by
  rw [M_refused_eq (c : Int) (by omega) (by omega)]
  refine Rt.let (Rt.ite (fun h => ?_) (fun _ => Rt.some (mno hR)))
  rw [if_neg (by omega)] at h
  exact absurd (show (1 : Int32) = 0 from h) (by decide)
theorem ref_yes {τ : MS} {ic : (r : Int32 × MS) → Decidable (r.1 = 0)} {G : Int32 × MS → Option (Int32 × MS)} {Q : Int32 × MS → Prop} (h : Rt (G (i32 0, sI τ 1 (i32 0))) Q) : Rt (M_refused τ (i32 0) >>= fun r => @ite _ (r.1 = 0) (ic r) (G r) (some (0, r.2))) Q := by
  rw [M_refused_eq 0 (by omega) (by omega)]
  exact Rt.let (Rt.ite (fun _ => h) (fun z => absurd rfl z))
theorem ref_no1 {τ : MS} {ic : (r : Int32 × MS) → Decidable (r.1 = 0)} {G : Int32 × MS → Option (Int32 × MS)} (hR : mR τ A) : Rt (M_refused τ 1 >>= fun r => @ite _ (r.1 = 0) (ic r) (G r) (some (0, r.2))) (mOK (no A 1)) := by
  rw [show (1 : Int32) = i32 ((1 : Nat) : Int) from rfl]
  exact ref_no (by decide) (by decide) hR
theorem ref_no2 {τ : MS} {ic : (r : Int32 × MS) → Decidable (r.1 = 0)} {G : Int32 × MS → Option (Int32 × MS)} (hR : mR τ A) : Rt (M_refused τ 2 >>= fun r => @ite _ (r.1 = 0) (ic r) (G r) (some (0, r.2))) (mOK (no A 2)) := by
  rw [show (2 : Int32) = i32 ((2 : Nat) : Int) from rfl]
  exact ref_no (by decide) (by decide) hR
theorem ref_no3 {τ : MS} {ic : (r : Int32 × MS) → Decidable (r.1 = 0)} {G : Int32 × MS → Option (Int32 × MS)} (hR : mR τ A) : Rt (M_refused τ 3 >>= fun r => @ite _ (r.1 = 0) (ic r) (G r) (some (0, r.2))) (mOK (no A 3)) := by
  rw [show (3 : Int32) = i32 ((3 : Nat) : Int) from rfl]
  exact ref_no (by decide) (by decide) hR
theorem ref_yes0 {τ : MS} {ic : (r : Int32 × MS) → Decidable (r.1 = 0)} {G : Int32 × MS → Option (Int32 × MS)} {Q : Int32 × MS → Prop} (h : Rt (G (i32 0, sI τ 1 (i32 0))) Q) : Rt (M_refused τ 0 >>= fun r => @ite _ (r.1 = 0) (ic r) (G r) (some (0, r.2))) Q := by
  exact ref_yes (ic := ic) h
theorem M_within_t {a lo hi : Int} (ha : rng a) (hl : rng lo) (hh : rng hi) : M_within (i32 a) (i32 lo) (i32 hi) = some (i32 (tr01 (inR a lo hi))) := by
  rw [M_within_eq, i_toInt ha.1 ha.2, i_toInt hl.1 hl.2, i_toInt hh.1 hh.2, b01_tr]
theorem M_isNode_t {a : Int} (hN : mN σ N) (ha : rng a) : M_isNode σ (i32 a) = some (i32 (tr01 (isNd N a))) := by
  rw [M_isNode_eq hN, i_toInt ha.1 ha.2, b01_tr]
theorem M_isEdge_t {a : Int} (hN : mN σ N) (ha : rng a) : M_isEdge σ (i32 a) = some (i32 (tr01 (isEg N a))) := by
  rw [M_isEdge_eq hN, i_toInt ha.1 ha.2, b01_tr]
theorem k1 {τ : MS} {v : Int32} : kp [1] [] [] [] τ (sI τ 1 v) := kp.sI
/-- the state behind a change -/
theorem mOK_push {N' : Net} {v : Int} {τ υ φ : MS} (hR : mR τ A) (hk1 : kp [0] [] [1] [] τ υ) (hP : mP υ (sv A.2.1 A.1)) (hk2 : kp [] [] [0] [] υ φ) (hN : mN φ N') (h1 : mI τ 1 = i32 0) : mOK (0, v, push A N') (i32 v, φ) :=
  ⟨rfl, ⟨hN, hP.kp hk2, (hR.2.2.kp hk1).kp hk2⟩, by show mI φ 1 = i32 0; rw [hk2.1 1 (by decide), hk1.1 1 (by decide)]; exact h1⟩
theorem M_reset_ok {n : Int} (hR : mR σ A) (hn : rng n) (hF : 4294967296 < F) : Rt (M_reset F σ (i32 n)) (mOK (sp_reset A n)) := by
  unfold M_reset M_reset_16 sp_reset
  refine Rt.tst (M_within_t (lo := 1) (hi := 8) hn (by decide) (by decide)) (fun h => ?_) (fun h => ?_)
  · rw [ifc_neg h]; exact ref_no1 hR
  · rw [ifc_pos h]
    have hR1 := hR.kp (k1 (v := i32 0))
    refine ref_yes0 ?_
    show Rt ((M_many (sI σ 1 (i32 0))) >>= _) _
    rw [M_many_eq hR1.1]
    refine Rt.let (Rt.bind (M_saves_eq hR1.1 hR1.2.1 (by omega)) ?_)
    rintro τ ⟨h1, h2⟩
    obtain ⟨m, rfl⟩ : ∃ m : Nat, n = m := ⟨n.toNat, by have := h.1; omega⟩
    refine Rt.bind (M_begins_eq (by have := h.1; omega) (by have := h.2; omega) (by omega)) ?_
    rintro υ ⟨h3, h4⟩
    exact Rt.some (mOK_push hR1 h1 h2 h3 h4 rfl)
theorem M_needConnect_eq {a b l : Int} (hN : mN σ N) (ha : rng a) (hb : rng b) (hl : rng l) (hF : 4294967296 < F) : Rt (M_needConnect F σ (i32 a) (i32 b) (i32 l)) (fun v => v = i32 (cdCon N a b l : Nat)) := by
  have z2 := hN.2.sz.2.1
  unfold M_needConnect cdCon
  refine Rt.tst (M_isNode_t hN ha) (fun h => ?_) (fun h => ?_)
  · rw [ifc_pos (fun z => h z.1)]; exact Rt.some rfl
  refine Rt.tst (M_isNode_t hN hb) (fun h2 => ?_) (fun h2 => ?_)
  · rw [ifc_pos (fun z => h2 z.2)]; exact Rt.some rfl
  rw [ifc_neg (fun z => z ⟨h, h2⟩)]
  refine Rt.ite (fun h3 => ?_) (fun h3 => ?_)
  · rw [i_eq ha.1 ha.2 hb.1 hb.2] at h3
    rw [ifc_pos (Or.inl h3)]; exact Rt.some rfl
  rw [i_eq ha.1 ha.2 hb.1 hb.2] at h3
  refine Rt.tst (M_within_t (lo := 1) (hi := 50) hl (by decide) (by decide)) (fun h4 => ?_) (fun h4 => ?_)
  · rw [ifc_pos (Or.inr h4)]; exact Rt.some rfl
  rw [ifc_neg (fun z => by rcases z with z | z; exact h3 z; exact z h4)]
  refine Rt.bind (M_areJoined_eq hN ha.1 ha.2 hb.1 hb.2 (by omega)) ?_
  rintro _ rfl
  refine Rt.ite (fun h5 => ?_) (fun h5 => ?_)
  · have h5' := tr01_n h5
    rw [M_edgeMany_eq hN]
    refine Rt.let (Rt.ite (fun h6 => ?_) (fun h6 => ?_))
    · rw [i_c12, i_eq (by omega) (by omega) (by omega) (by omega)] at h6
      rw [ifc_pos (Or.inr (by omega))]; exact Rt.some rfl
    · rw [i_c12, i_eq (by omega) (by omega) (by omega) (by omega)] at h6
      rw [ifc_neg (fun z => by rcases z with z | z; exact h5' z; omega)]; exact Rt.some rfl
  · rw [ifc_pos (Or.inl (tr01_y h5))]; exact Rt.some rfl
theorem cdCon_le {a b l : Int} : cdCon N a b l ≤ 3 := by
  unfold cdCon ifc; repeat (first | split | omega)
theorem cdSet_le {i v : Int} : cdSet N i v ≤ 3 := by
  unfold cdSet ifc; repeat (first | split | omega)
theorem cdFor_le {e a b : Int} : cdFor N e a b ≤ 3 := by
  unfold cdFor ifc; repeat (first | split | omega)
theorem cdCon_0 {a b l : Int} (h : cdCon N a b l = 0) : isNd N a ∧ isNd N b ∧ a ≠ b ∧ inR l 1 50 ∧ ¬ joinN N a b ∧ eN N ≠ 12 := by
  unfold cdCon at h
  by_cases h1 : isNd N a ∧ isNd N b
  · rw [ifc_neg (fun z => z h1)] at h
    by_cases h2 : a = b ∨ ¬ inR l 1 50
    · rw [ifc_pos h2] at h; omega
    · rw [ifc_neg h2] at h
      by_cases h3 : joinN N a b ∨ eN N = 12
      · rw [ifc_pos h3] at h; omega
      · exact ⟨h1.1, h1.2, fun z => h2 (Or.inl z), Classical.byContradiction (fun z => h2 (Or.inr z)), fun z => h3 (Or.inl z), fun z => h3 (Or.inr z)⟩
  · rw [ifc_pos h1] at h; omega
theorem cdSet_0 {i v : Int} (h : cdSet N i v = 0) : isNd N i ∧ inR v 0 9 := by
  unfold cdSet at h
  by_cases h1 : isNd N i
  · rw [ifc_neg (fun z => z h1)] at h
    by_cases h2 : inR v 0 9
    · exact ⟨h1, h2⟩
    · rw [ifc_pos h2] at h; omega
  · rw [ifc_pos h1] at h; omega
theorem cdFor_0 {e a b : Int} (h : cdFor N e a b = 0) : isEg N e ∧ (0 ≤ a ∧ a < b ∧ b ≤ (ed N e.toNat).2.2) ∧ sN N ≠ 6 := by
  unfold cdFor at h
  by_cases h1 : isEg N e
  · rw [ifc_neg (fun z => z h1)] at h
    by_cases h2 : 0 ≤ a ∧ a < b ∧ b ≤ (ed N e.toNat).2.2
    · rw [ifc_neg (fun z => z h2)] at h
      by_cases h3 : sN N = 6
      · rw [ifc_pos h3] at h; omega
      · exact ⟨h1, h2, h3⟩
    · rw [ifc_pos h2] at h; omega
  · rw [ifc_pos h1] at h; omega
theorem nCon_okc {a b l : Int} (hN : okN N) (h : cdCon N a b l = 0) : okN (nCon N a.toNat b.toNat l) := by
  obtain ⟨h1, h2, h3, h4, h5, h6⟩ := cdCon_0 h
  have := hN.2.2.2.1
  exact nCon_ok hN (by omega) (by omega) (by omega) h4.1 h4.2 (by omega)
theorem nFor_okc {e a b : Int} (hN : okN N) (h : cdFor N e a b = 0) : okN (nFor N e.toNat a b) := by
  obtain ⟨h1, h2, h3⟩ := cdFor_0 h
  have := hN.2.2.2.2.2.1
  exact nFor_ok hN (by omega) h2.1 h2.2.1 h2.2.2 (by omega)
theorem M_connect_ok {a b l : Int} (hR : mR σ A) (ha : rng a) (hb : rng b) (hl : rng l) (hF : 4294967296 < F) : Rt (M_connect F σ (i32 a) (i32 b) (i32 l)) (mOK (sp_connect A a b l)) := by
  unfold M_connect sp_connect
  refine Rt.bind (M_needConnect_eq hR.1 ha hb hl hF) ?_
  rintro _ rfl
  by_cases h : cdCon A.1 a b l = 0
  · rw [h, if_pos rfl]
    have hR1 := hR.kp (k1 (v := i32 0))
    refine ref_yes (Rt.bind (M_saves_eq hR1.1 hR1.2.1 (by omega)) ?_)
    rintro τ ⟨h1, h2⟩
    obtain ⟨q1, q2, q3, q4, q5, q6⟩ := cdCon_0 h
    have z2 := hR.1.2.sz.2.1
    obtain ⟨υ, c1, c2, c3⟩ := M_connects_eq (a := a.toNat) (b := b.toNat) (l := l) (hR1.1.kp h1) (by omega) (nCon_okc hR.1.2 h)
    rw [show ((a.toNat : Nat) : Int) = a by omega, show ((b.toNat : Nat) : Int) = b by omega] at c1
    rw [c1]
    exact Rt.some (mOK_push hR1 h1 h2 c2 c3 rfl)
  · rw [if_neg h]; exact ref_no (by omega) cdCon_le hR
theorem M_disconnect_ok {e : Int} (hR : mR σ A) (he : rng e) (hF : 4294967296 < F) : Rt (M_disconnect F σ (i32 e)) (mOK (sp_disconnect A e)) := by
  unfold M_disconnect M_disconnect_14 sp_disconnect
  refine Rt.tst (M_isEdge_t hR.1 he) (fun h => ?_) (fun h => ?_)
  · rw [ifc_neg h]; exact ref_no1 hR
  · rw [ifc_pos h]
    have hR1 := hR.kp (k1 (v := i32 0))
    refine ref_yes0 (Rt.bind (M_saves_eq hR1.1 hR1.2.1 (by omega)) ?_)
    rintro τ ⟨h1, h2⟩
    obtain ⟨m, rfl⟩ : ∃ m : Nat, e = m := ⟨e.toNat, by have := h.1; omega⟩
    refine Rt.bind (M_dropsEdge_eq (hR1.1.kp h1) (by have := h.2; omega) (by omega)) ?_
    rintro ⟨v, υ⟩ ⟨rfl, h3, h4⟩
    exact Rt.some (mOK_push hR1 h1 h2 h3 h4 rfl)
theorem M_needSet_eq {i v : Int} (hN : mN σ N) (hi : rng i) (hv : rng v) : M_needSet σ (i32 i) (i32 v) = some (i32 (cdSet N i v : Nat)) := by
  have : Rt (M_needSet σ (i32 i) (i32 v)) (fun r => r = i32 (cdSet N i v : Nat)) := by
    unfold M_needSet cdSet
    refine Rt.tst (M_isNode_t hN hi) (fun h => ?_) (fun h => ?_)
    · rw [ifc_pos h]; exact Rt.some rfl
    · rw [ifc_neg (fun z => z h)]
      refine Rt.tst (M_within_t (lo := 0) (hi := 9) hv (by decide) (by decide)) (fun h => ?_) (fun h => ?_)
      · rw [ifc_pos h]; exact Rt.some rfl
      · rw [ifc_neg (fun z => z h)]; exact Rt.some rfl
  obtain ⟨r, e, rfl⟩ := this
  exact e
theorem M_setWeight_ok {i v : Int} (hR : mR σ A) (hi : rng i) (hv : rng v) (hF : 4294967296 < F) : Rt (M_setWeight F σ (i32 i) (i32 v)) (mOK (sp_setWeight A i v)) := by
  unfold M_setWeight sp_setWeight
  rw [M_needSet_eq hR.1 hi hv]
  refine Rt.let ?_
  by_cases h : cdSet A.1 i v = 0
  · rw [h, if_pos rfl]
    have hR1 := hR.kp (k1 (v := i32 0))
    obtain ⟨q1, q2⟩ := cdSet_0 h
    have z1 := hR.1.2.sz.1
    obtain ⟨m, rfl⟩ : ∃ m : Nat, i = m := ⟨i.toNat, by have := q1.1; omega⟩
    have hm : m < nN A.1 := by omega
    have e1 : (1 + (m : Int)).toNat = 1 + m := by omega
    refine ref_yes ?_
    show Rt ((rdI (mA (sI σ 1 (i32 0)) 0) 73 (i32 1 + i32 m)) >>= _) _
    rw [i_add, rdI_i (by omega) (by omega) (by omega), e1, (hR1.1.1.2.1 m hm).1]
    refine Rt.let (Rt.bind (M_saves_eq hR1.1 hR1.2.1 (by omega)) ?_)
    rintro τ ⟨h1, h2⟩
    show Rt ((stA τ 0 73 (i32 1 + i32 m) (i32 v)) >>= _) _
    rw [i_add, stA_i (by omega) (by omega) (by omega), e1]
    exact Rt.let (Rt.some (mOK_push hR1 h1 h2 kp.sA (M_set_eq (hR1.1.kp h1) hm q2.1 q2.2).1 rfl))
  · rw [if_neg h]; exact ref_no (by omega) cdSet_le hR
theorem M_setTrend_ok {i v : Int} (hR : mR σ A) (hi : rng i) (hv : rng v) (hF : 4294967296 < F) : Rt (M_setTrend F σ (i32 i) (i32 v)) (mOK (sp_setTrend A i v)) := by
  unfold M_setTrend sp_setTrend
  rw [M_needSet_eq hR.1 hi hv]
  refine Rt.let ?_
  by_cases h : cdSet A.1 i v = 0
  · rw [h, if_pos rfl]
    have hR1 := hR.kp (k1 (v := i32 0))
    obtain ⟨q1, q2⟩ := cdSet_0 h
    have z1 := hR.1.2.sz.1
    obtain ⟨m, rfl⟩ : ∃ m : Nat, i = m := ⟨i.toNat, by have := q1.1; omega⟩
    have hm : m < nN A.1 := by omega
    have e1 : (9 + (m : Int)).toNat = 9 + m := by omega
    refine ref_yes ?_
    show Rt ((rdI (mA (sI σ 1 (i32 0)) 0) 73 (i32 9 + i32 m)) >>= _) _
    rw [i_add, rdI_i (by omega) (by omega) (by omega), e1, (hR1.1.1.2.1 m hm).2]
    refine Rt.let (Rt.bind (M_saves_eq hR1.1 hR1.2.1 (by omega)) ?_)
    rintro τ ⟨h1, h2⟩
    show Rt ((stA τ 0 73 (i32 9 + i32 m) (i32 v)) >>= _) _
    rw [i_add, stA_i (by omega) (by omega) (by omega), e1]
    exact Rt.let (Rt.some (mOK_push hR1 h1 h2 kp.sA (M_set_eq (hR1.1.kp h1) hm q2.1 q2.2).2 rfl))
  · rw [if_neg h]; exact ref_no (by omega) cdSet_le hR
theorem M_of_2' {e : Int} (hN : mN σ N) (he : isEg N e) : M_of σ (i32 e) 2 = some (i32 (ed N e.toNat).2.2) := by
  obtain ⟨m, rfl⟩ : ∃ m : Nat, e = m := ⟨e.toNat, by have := he.1; omega⟩
  exact M_of_2 hN (by have := he.2; omega)
theorem M_needForbid_eq {e a b : Int} (hN : mN σ N) (he : rng e) (ha : rng a) (hb : rng b) : M_needForbid σ (i32 e) (i32 a) (i32 b) = some (i32 (cdFor N e a b : Nat)) := by
  have z3 := hN.2.sz.2.2
  have : Rt (M_needForbid σ (i32 e) (i32 a) (i32 b)) (fun r => r = i32 (cdFor N e a b : Nat)) := by
    unfold M_needForbid cdFor
    refine Rt.tst (M_isEdge_t hN he) (fun h => ?_) (fun h => ?_)
    · rw [ifc_pos h]; exact Rt.some rfl
    rw [ifc_neg (fun z => z h)]
    have hl := hN.2.2.2.2.2.1 e.toNat (by omega)
    refine Rt.ite (fun h1 => ?_) (fun h1 => ?_)
    · rw [i_c0, i_lt ha.1 ha.2 (by omega) (by omega)] at h1
      rw [ifc_pos (fun z => by omega)]; exact Rt.some rfl
    rw [i_c0, i_lt ha.1 ha.2 (by omega) (by omega)] at h1
    refine Rt.ite (fun h2 => ?_) (fun h2 => ?_)
    · rw [i_le hb.1 hb.2 ha.1 ha.2] at h2
      rw [ifc_pos (fun z => by omega)]; exact Rt.some rfl
    rw [i_le hb.1 hb.2 ha.1 ha.2] at h2
    rw [M_of_2' hN h]
    refine Rt.let (Rt.ite (fun h3 => ?_) (fun h3 => ?_))
    · rw [i_le hb.1 hb.2 (by omega) (by omega)] at h3
      rw [ifc_neg (fun z => z ⟨by omega, by omega, h3⟩), M_stretchMany_eq hN]
      refine Rt.let (Rt.ite (fun h4 => ?_) (fun h4 => ?_))
      · rw [i_c6, i_eq (by omega) (by omega) (by omega) (by omega)] at h4
        rw [ifc_pos (by omega)]; exact Rt.some rfl
      · rw [i_c6, i_eq (by omega) (by omega) (by omega) (by omega)] at h4
        rw [ifc_neg (by omega)]; exact Rt.some rfl
    · rw [i_le hb.1 hb.2 (by omega) (by omega)] at h3
      rw [ifc_pos (fun z => h3 z.2.2)]; exact Rt.some rfl
  obtain ⟨r, e, rfl⟩ := this
  exact e
theorem M_forbid_ok {e a b : Int} (hR : mR σ A) (he : rng e) (ha : rng a) (hb : rng b) (hF : 4294967296 < F) : Rt (M_forbid F σ (i32 e) (i32 a) (i32 b)) (mOK (sp_forbid A e a b)) := by
  unfold M_forbid sp_forbid
  rw [M_needForbid_eq hR.1 he ha hb]
  refine Rt.let ?_
  by_cases h : cdFor A.1 e a b = 0
  · rw [h, if_pos rfl]
    have hR1 := hR.kp (k1 (v := i32 0))
    refine ref_yes (Rt.bind (M_saves_eq hR1.1 hR1.2.1 (by omega)) ?_)
    rintro τ ⟨h1, h2⟩
    obtain ⟨q1, q2, q3⟩ := cdFor_0 h
    have z3 := hR.1.2.sz.2.2
    obtain ⟨υ, c1, c2, c3⟩ := M_forbids_eq (e := e.toNat) (a := a) (b := b) (hR1.1.kp h1) (by omega) (nFor_okc hR.1.2 h)
    rw [show ((e.toNat : Nat) : Int) = e by omega] at c1
    rw [c1]
    exact Rt.some (mOK_push hR1 h1 h2 c2 c3 rfl)
  · rw [if_neg h]; exact ref_no (by omega) cdFor_le hR
theorem M_isStretch_t {k : Int} (hN : mN σ N) (hk : rng k) : M_within (i32 k) 0 (i32 (sN N) - 1) = some (i32 (tr01 (isSt N k))) := by
  have z3 := hN.2.sz.2.2
  have : M_within (i32 k) (i32 0) (i32 ((sN N : Int) - 1)) = some (i32 (tr01 (inR k 0 ((sN N : Int) - 1)))) := M_within_t hk (by decide) ⟨by omega, by omega⟩
  rw [i_c1, i_sub, i_c0, this]
  congr 3
  exact propext ⟨fun h => ⟨h.1, by have := h.2; omega⟩, fun h => ⟨h.1, by have := h.2; omega⟩⟩
theorem M_allow_ok {k : Int} (hR : mR σ A) (hk : rng k) (hF : 4294967296 < F) : Rt (M_allow F σ (i32 k)) (mOK (sp_allow A k)) := by
  unfold M_allow M_allow_20 sp_allow
  rw [M_stretchMany_eq hR.1]
  refine Rt.let (Rt.tst (M_isStretch_t hR.1 hk) (fun h => ?_) (fun h => ?_))
  · rw [ifc_neg h]; exact ref_no1 hR
  · rw [ifc_pos h]
    have hR1 := hR.kp (k1 (v := i32 0))
    obtain ⟨m, rfl⟩ : ∃ m : Nat, k = m := ⟨k.toNat, by have := h.1; omega⟩
    have hm : m < sN A.1 := by have := h.2; omega
    refine ref_yes0 ?_
    show Rt ((M_at (sI σ 1 (i32 0)) (i32 m) (i32 0)) >>= _) _
    rw [M_at_0 hR1.1 hm]
    refine Rt.let (Rt.bind (M_saves_eq hR1.1 hR1.2.1 (by omega)) ?_)
    rintro τ ⟨h1, h2⟩
    refine Rt.bind (M_dropsStretch_eq (hR1.1.kp h1).1 hR.1.2.sz hm (by omega)) ?_
    rintro υ ⟨h3, h4⟩
    exact Rt.some (mOK_push hR1 h1 h2 h3 ⟨h4, nAll_ok hR.1.2 hm⟩ rfl)
theorem M_undo_ok (hR : mR σ A) (hF : 4294967296 < F) : Rt (M_undo F σ) (mOK (sp_undo A)) := by
  obtain ⟨p1, p2, p3, p4⟩ := hR.2.1
  unfold M_undo M_undo_13 sp_undo
  rw [p1]
  refine Rt.ite (fun h => ?_) (fun h => ?_)
  · rw [i_c0, i_eq (by omega) (by omega) (by omega) (by omega)] at h
    rw [ifc_pos (List.length_eq_zero_iff.mp (by omega))]; exact ref_no1 hR
  · rw [i_c0, i_eq (by omega) (by omega) (by omega) (by omega)] at h
    have hne : A.2.1 ≠ [] := fun z => h (by rw [z]; rfl)
    rw [ifc_neg hne]
    obtain ⟨m, hm⟩ : ∃ m, A.2.1.length = m + 1 := ⟨A.2.1.length - 1, by omega⟩
    refine ref_yes0 ?_
    show Rt ((some (sI (sI σ 1 (i32 0)) 0 (mI (sI σ 1 (i32 0)) 0 - 1))) >>= _) _
    refine Rt.let ?_
    rw [mI_sI, if_neg (by decide), p1, i_c1, i_sub, hm, show ((m + 1 : Nat) : Int) - 1 = m by omega]
    have last : A.2.1.getLastD A.1 = A.2.1[m] := by
      rw [List.getLastD_eq_getLast?, List.getLast?_eq_getElem?, show A.2.1.length - 1 = m by omega, List.getElem?_eq_getElem (show m < A.2.1.length by omega)]; rfl
    refine Rt.loop (ι := Nat) (fun k x τ => x = i32 k ∧ k ≤ 73 ∧ kp [0, 1] [] [0] [] σ τ ∧ mI τ 0 = i32 m ∧ mI τ 1 = i32 0 ∧ ∀ j, j < k → mA τ 0 j = mA σ 1 (73 * m + j)) (fun k => 73 - k) ?_ F 0 _ _ ⟨rfl, by omega, kp.tr kp.sI kp.sI, rfl, rfl, fun j hj => by omega⟩ (by omega)
    rintro n k _ τ ⟨rfl, hk, h1, h2, h3, h4⟩ ih
    unfold M_undo_33
    simp (disch := omega) only [i_c0, i_c1, i_c2, i_c3, i_c4, i_c5, i_c6, i_c8, i_c9, i_c10, i_c12, i_c16, i_c17, i_c18, i_c31, i_c32, i_c45, i_c48, i_c50, i_c54, i_c55, i_c57, i_c58, i_c59, i_c61, i_c64, i_c73, i_c118, i_c119, i_c120, i_c126, i_c365, i_c1000, i_cFAR, i_le, i_lt, i_eq]
    refine Rt.ite (fun h5 => ?_) (fun h5 => ?_)
    · obtain rfl : k = 73 := by omega
      unfold M_undo_65
      rw [h2]
      refine Rt.some ⟨?_, ⟨⟨?_, ?_⟩, ⟨?_, ?_, ?_, ?_⟩, hR.2.2.kp h1⟩, h3⟩
      · rfl
      · show row (mA τ 0) (A.2.1.getLastD A.1)
        rw [last]
        exact row.congr (p3 _ (List.getElem_mem _)).sz (fun j hj => h4 j hj) (p4 m (by omega))
      · show okN (A.2.1.getLastD A.1)
        rw [last]; exact p3 _ (List.getElem_mem _)
      · show mI τ 0 = i32 A.2.1.dropLast.length
        rw [h2, List.length_dropLast, hm]; congr 1
      · show A.2.1.dropLast.length ≤ 6
        rw [List.length_dropLast]; omega
      · exact fun M hM => p3 M ((List.dropLast_sublist A.2.1).subset hM)
      · intro j hj
        have hj' : j < A.2.1.length := by have : j < A.2.1.dropLast.length := hj; rw [List.length_dropLast] at this; omega
        have ej : A.2.1.dropLast[j] = A.2.1[j] := List.getElem_dropLast _
        show row (fun i => mA τ 1 (73 * j + i)) A.2.1.dropLast[j]
        rw [ej, h1.2.2.1 1 (by decide)]; exact p4 j hj'
    · have ei : (73 * (m : Int) + k).toNat = 73 * m + k := by omega
      rw [h2]
      simp only [i_add, i_sub, i_mul, i_neg]
      rw [rdI_i (by omega) (by omega) (by omega), ei]
      simp only [Option.bind_eq_bind, Option.bind_some]
      rw [stA_i (by omega) (by omega) (by omega)]
      simp only [Option.bind_eq_bind, Option.bind_some, Int.toNat_natCast]
      refine ih (k + 1) _ _ ⟨rfl, by omega, kp.tr h1 kp.sA, h2, h3, fun j hj => ?_⟩ (by omega)
      simp only [mA_sA, if_true, upd_at]
      by_cases e : j = k
      · rw [if_pos e, e, h1.2.2.1 1 (by decide)]
      · rw [if_neg e]; exact h4 j (by omega)
end MV
