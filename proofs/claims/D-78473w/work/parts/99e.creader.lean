/-! THE CLASS's READER -/
def nx (t : List Int) (p : Nat) : Int := if p < t.length then chr t p else -2
/-- what a reading step does: it throws a Fault, or goes on -/
def RdO {α ρ : Type} (U : Option (Nat × St)) (C : Option ρ) (r : Nat ⊕ α) (QF : Nat → Nat → St → Prop) (Q : α → ρ → Prop) : Prop := match r with
  | .inl f => Rt U (fun v => QF f v.1 v.2)
  | .inr a => U = none ∧ Rt C (Q a)
theorem RdO.seq {α β ρ σ : Type} {U1 : Option (Nat × St)} {C1 : Option ρ} {U2 : ρ → Option (Nat × St)} {C2 : ρ → Option σ} {r1 : Nat ⊕ α} {r2 : α → Nat ⊕ β} {QF : Nat → Nat → St → Prop} {Q1 : α → ρ → Prop} {Q2 : β → σ → Prop} (h : RdO U1 C1 r1 QF Q1) (k : ∀ a c, r1 = .inr a → Q1 a c → RdO (U2 c) (C2 c) (r2 a) QF Q2) : RdO (torU U1 (C1 >>= U2)) (C1 >>= C2) (pb r1 r2) QF Q2 := by
  match r1, h with
  | .inl f, h =>
    obtain ⟨v, e, q⟩ := h
    exact ⟨v, by rw [e]; rfl, q⟩
  | .inr a, h =>
    obtain ⟨e, c, e2, q⟩ := h
    have := k a c rfl q
    rw [e, e2]
    exact this
theorem RdO.let {α ρ σ : Type} {U : ρ → Option (Nat × St)} {C : ρ → Option σ} {r : Nat ⊕ α} {QF : Nat → Nat → St → Prop} {Q : α → σ → Prop} {v : ρ} (k : RdO (U v) (C v) r QF Q) : RdO ((Option.some v) >>= U) ((Option.some v) >>= C) r QF Q := k
theorem RdO.bind {α ρ σ : Type} {E : Option ρ} {P : ρ → Prop} {U : ρ → Option (Nat × St)} {C : ρ → Option σ} {r : Nat ⊕ α} {QF : Nat → Nat → St → Prop} {Q : α → σ → Prop} (h : Rt E P) (k : ∀ v, P v → RdO (U v) (C v) r QF Q) : RdO (E >>= U) (E >>= C) r QF Q := by
  obtain ⟨v, e, q⟩ := h
  rw [e]; exact k v q
theorem RdO.ite {α σ : Type} {c : Prop} {ic ic' : Decidable c} {U V : Option (Nat × St)} {C D : Option σ} {r : Nat ⊕ α} {QF : Nat → Nat → St → Prop} {Q : α → σ → Prop} (ha : c → RdO U C r QF Q) (hb : ¬ c → RdO V D r QF Q) : RdO (@_root_.ite _ c ic U V) (@_root_.ite _ c ic' C D) r QF Q := by
  by_cases h : c
  · rw [if_pos h, if_pos h]; exact ha h
  · rw [if_neg h, if_neg h]; exact hb h
theorem RdO.mono {α σ : Type} {U : Option (Nat × St)} {C : Option σ} {r : Nat ⊕ α} {QF : Nat → Nat → St → Prop} {Q Q' : α → σ → Prop} (h : RdO U C r QF Q) (k : ∀ a v, r = .inr a → Q a v → Q' a v) : RdO U C r QF Q' := by
  match r, h with
  | .inl f, h => exact h
  | .inr a, h => exact ⟨h.1, Rt.mono h.2 (fun v q => k a v rfl q)⟩
/-- all is kept but the reader's two cells -/
def rx (y nb c d : Nat) (S S' : St) : Prop := wfS S' ∧ S.2.1 ≤ S'.2.1 ∧ S'.2.2.1 ≤ S.2.2.1 + c ∧ S'.2.2.2 ≤ S.2.2.2 + d ∧ ∀ q e, S.1 q = some e → q ≠ y → q ≠ nb → S'.1 q = some e
theorem rx.rf {y nb c d : Nat} {S : St} (h : wfS S) : rx y nb c d S S := ⟨h, Nat.le_refl _, by omega, by omega, fun _ _ h _ _ => h⟩
theorem rx.le {y nb c d c' d' : Nat} {S T : St} (h : rx y nb c d S T) (hc : c ≤ c') (hd : d ≤ d') : rx y nb c' d' S T := by
  obtain ⟨a1, a2, a3, a4, a5⟩ := h
  exact ⟨a1, a2, by omega, by omega, a5⟩
theorem rx.put {y nb c d a : Nat} {e e' : Cel} {S T : St} (h : rx y nb c d S T) (ha : a = y ∨ a = nb) (hT : T.1 a = some e') : rx y nb c d S (put T a e) := by
  obtain ⟨a1, a2, a3, a4, a5⟩ := h
  refine ⟨a1.put hT, a2, a3, a4, fun q g hq h1 h2 => ?_⟩
  rw [put_ne (by rcases ha with rfl | rfl; exact h1; exact h2)]
  exact a5 q g hq h1 h2
theorem rx.ala {y nb c d n : Nat} {e : Cel} {S T : St} (h : rx y nb c d S T) : rx y nb (c + 1) (d + n) S (al T e n) := by
  obtain ⟨a1, a2, a3, a4, a5⟩ := h
  refine ⟨a1.al, by show S.2.1 ≤ T.2.1 + 1; omega, by show T.2.2.1 + 1 ≤ _; omega, by show T.2.2.2 + n ≤ _; omega, fun q g hq h1 h2 => ?_⟩
  have := a5 q g hq h1 h2
  rw [al_ne (by have := a1.lt this; omega)]; exact this
theorem rx.ex {y nb c d : Nat} {S T : St} (h : rx y nb c d S T) (h0 : wfS S) (hy : S.2.1 ≤ y) (hn : S.2.1 ≤ nb) : ex c d S T :=
  ⟨h.1, h.2.1, h.2.2.1, h.2.2.2.1, fun q e hq => h.2.2.2.2 q e hq (by have := h0.lt hq; omega) (by have := h0.lt hq; omega)⟩
section RD
variable {S0 S T : St} {c d y tx nb p : Nat} {kd : Value} {t : List Int} {g : Nat → Int32} {F : Nat} {ek : Nat → Nat}
/-- the reader's two cells, all of it new; the place -/
def rdT (S0 S : St) (c d y tx nb : Nat) (kd : Value) (p : Nat) (g : Nat → Int32) : Prop := rx y nb c d S0 S ∧ (∀ e, S0.1 y = some e → ∃ f, e = cO 9 f) ∧ (∀ e, S0.1 nb = some e → ∃ f, e = cI 0 3 f) ∧ S.1 y = some (cO 9 [.ref tx, .ref nb, kd, .int (i32 p)]) ∧ S.1 nb = some (cI 0 3 g)
/-- the text behind it -/
def rdX0 (S0 : St) (tx : Nat) (t : List Int) : Prop := wfS S0 ∧ txC S0 tx t ∧ t.length ≤ 120 ∧ ∀ z ∈ t, 32 ≤ z ∧ z ≤ 126
theorem rdX0.chR (h : rdX0 S0 tx t) (hp : p < t.length) : 32 ≤ chr t p ∧ chr t p ≤ 126 := by
  have e : chr t p = t[p] := getD_at hp
  rw [e]; exact h.2.2.2 _ (List.getElem_mem hp)
theorem rdX0.nxR (h : rdX0 S0 tx t) : -2 ≤ nx t p ∧ nx t p ≤ 126 := by
  unfold nx
  split
  · have := h.chR (p := p) (by assumption); omega
  · omega
theorem rdX0.diR (h : rdX0 S0 tx t) : dig (nx t p) ↔ dig (chr t p) := by
  unfold nx
  split
  · exact Iff.rfl
  · rename_i hp
    have : chr t p = 0 := chr_end (by omega)
    rw [this]; decide
theorem rdX0.isR {z : Int} (hz : 0 < z) : nx t p = z ↔ chr t p = z := by
  unfold nx
  split
  · exact Iff.rfl
  · rename_i hp
    have : chr t p = 0 := chr_end (by omega)
    rw [this]; omega
theorem rdT.txt (hX : rdX0 S0 tx t) (h : rdT S0 S c d y tx nb kd p g) : txC S tx t := hX.2.1.ke (fun q e hq hn => h.1.2.2.2.2 q e hq (by
  rintro rfl
  obtain ⟨f, rfl⟩ := h.2.1 e hq
  exact hn (by decide : (9 : Nat) ≠ 12)) (by
  rintro rfl
  obtain ⟨f, rfl⟩ := h.2.2.1 e hq
  exact hn (by decide : (0 : Nat) ≠ 2)))
theorem rdT.setp {p' : Nat} (hX : rdX0 S0 tx t) (h : rdT S0 S c d y tx nb kd p g) : ∃ T, gP S 9 y 3 (.int (i32 p')) = some T ∧ rdT S0 T c d y tx nb kd p' g := by
  obtain ⟨h1, h2, h3, h4, h5⟩ := h
  have ne : nb ≠ y := by
    rintro rfl
    rw [h4] at h5; cases h5
  exact ⟨_, gP_of h4 (by simp), h1.put (Or.inl rfl) h4, h2, h3, put_me _ _ _, by rw [put_ne ne]; exact h5⟩
theorem rdT.setk {kd' : Value} (hX : rdX0 S0 tx t) (h : rdT S0 S c d y tx nb kd p g) : ∃ T, gP S 9 y 2 kd' = some T ∧ rdT S0 T c d y tx nb kd' p g := by
  obtain ⟨h1, h2, h3, h4, h5⟩ := h
  have ne : nb ≠ y := by
    rintro rfl
    rw [h4] at h5; cases h5
  exact ⟨_, gP_of h4 (by simp), h1.put (Or.inl rfl) h4, h2, h3, put_me _ _ _, by rw [put_ne ne]; exact h5⟩
theorem rdT.setn {i : Nat} {v : Int32} (hX : rdX0 S0 tx t) (h : rdT S0 S c d y tx nb kd p g) (hi : i < 3) : ∃ T, tI S 0 nb (i32 i) v = some T ∧ rdT S0 T c d y tx nb kd p (upd g i v) := by
  obtain ⟨h1, h2, h3, h4, h5⟩ := h
  have ne : y ≠ nb := by
    rintro rfl
    rw [h4] at h5; cases h5
  have e := tI_of (x := v) h5 (show (0 : Int) ≤ i by omega) (by omega) (by omega)
  rw [Int.toNat_natCast] at e
  exact ⟨_, e, h1.put (Or.inr rfl) h5, h2, h3, by rw [put_ne ne]; exact h4, put_me _ _ _⟩
theorem C_next10 (hX : rdX0 S0 tx t) (h : rdT S0 S c d y tx nb kd p g) (hp : p ≤ 1000) : C_X10_next ek S y = some (i32 (nx t p)) := by
  have hl := hX.2.2.1
  have ht := h.txt hX
  apply Rt.eq
  unfold C_X10_next
  rw [gO_of h.2.2.2.1, gI_of (k := 3) h.2.2.2.1 rfl, gA_of (k := 0) h.2.2.2.1 rfl]
  refine Rt.let (Rt.let (Rt.let ?_))
  rw [C_length ht]
  refine Rt.let (Rt.ite (fun z => ?_) (fun z => ?_))
  · rw [i_le (by omega) (by omega) (by omega) (by omega)] at z
    exact Rt.some (by unfold nx; rw [if_neg (by omega)]; rfl)
  · rw [i_le (by omega) (by omega) (by omega) (by omega)] at z
    refine Rt.let (Rt.let ?_)
    rw [C_charAt ht (show p < t.length by omega)]
    exact Rt.let (Rt.some (by unfold nx; rw [if_pos (by omega)]))
theorem C_token (hX : rdX0 S0 tx t) (h : rdT S0 S c d y tx nb kd p g) (hp : p ≤ t.length) (hF : 4294967296 < F) : Rt (C_X10_token F ek S y) (fun v => v.1 = i32 (nx t (skp t p)) ∧ rdT S0 v.2 c d y tx nb kd (skp t p) g) := by
  have hl := hX.2.2.1
  unfold C_X10_token
  rw [gO_of h.2.2.2.1]
  refine Rt.let ?_
  refine Rt.loop1 (ι := Nat) (fun q V => q ≤ t.length ∧ skp t q = skp t p ∧ rdT S0 V c d y tx nb kd q g) (fun q => t.length - q) ?_ F p _ ⟨hp, rfl, h⟩ (by omega)
  rintro n q V ⟨h1, h2, h3⟩ ih
  have nr := hX.nxR (p := q)
  unfold C_X10_token_0
  rw [C_next10 hX h3 (by omega)]
  refine Rt.let (Rt.ite (fun z => ?_) (fun z => ?_))
  · rw [i_c32, i_eq (by omega) (by omega) (by omega) (by omega), rdX0.isR (by decide)] at z
    have lt : q < t.length := chr_lt (by omega)
    obtain ⟨V2, e1, e2⟩ := h3.setp (p' := q + 1) hX
    rw [gI_of (k := 3) h3.2.2.2.1 rfl]
    refine Rt.let ?_
    have en : i32 (q : Int) + 1 = i32 ((q + 1 : Nat) : Int) := by rw [i_c1, i_add]; congr 1
    rw [en, e1]
    exact Rt.let (ih (q + 1) _ ⟨by omega, by rw [← skp_step lt z]; exact h2, e2⟩ (by omega))
  · rw [i_c32, i_eq (by omega) (by omega) (by omega) (by omega), rdX0.isR (by decide)] at z
    have e : skp t p = q := by rw [← h2]; exact skp_stop (Or.inr z)
    unfold C_X10_token_22
    rw [C_next10 hX h3 (by omega), e]
    exact Rt.let (Rt.some ⟨rfl, h3⟩)
theorem C_isAtEnd (hX : rdX0 S0 tx t) (h : rdT S0 S c d y tx nb kd p g) (hp : p ≤ t.length) (hF : 4294967296 < F) : Rt (C_X10_isAtEnd F ek S y) (fun v => v.1 = i32 (tr01 (t.length ≤ skp t p)) ∧ rdT S0 v.2 c d y tx nb kd (skp t p) g) := by
  have nr := hX.nxR (p := skp t p)
  unfold C_X10_isAtEnd
  rw [gO_of h.2.2.2.1]
  refine Rt.let (Rt.bind (C_token hX h hp hF) ?_)
  rintro ⟨v, V⟩ ⟨rfl, h2⟩
  dsimp only
  refine Rt.ite (fun z => Rt.some ⟨tr_1 ?_, h2⟩) (fun z => Rt.some ⟨tr_0 ?_, h2⟩)
  · rw [show (-2 : Int32) = i32 (-2) from rfl, i_eq (by omega) (by omega) (by omega) (by omega)] at z
    apply Classical.byContradiction
    intro hn
    have := hX.chR (p := skp t p) (by omega)
    unfold nx at z
    rw [if_pos (by omega)] at z
    omega
  · rw [show (-2 : Int32) = i32 (-2) from rfl, i_eq (by omega) (by omega) (by omega) (by omega)] at z
    intro hn
    exact z (by unfold nx; rw [if_neg (by omega)])
/-- a Fault's place -/
def QFt (S0 : St) (y nb c d : Nat) (f a : Nat) (T : St) : Prop := gI T 10 a 6 = some (i32 f) ∧ rx y nb (c + 1) (d + 7) S0 T
theorem C_req1 (h : rdT S0 S c d y tx nb kd p g) : U_X10_require ek S y 1 = none ∧ C_X10_require ek S y 1 = some S := by
  unfold U_X10_require C_X10_require
  rw [gO_of h.2.2.2.1]
  exact ⟨rfl, rfl⟩
theorem C_req0 (hX : rdX0 S0 tx t) (h : rdT S0 S c d y tx nb kd p g) : Rt (U_X10_require ek S y 0) (fun v => QFt S0 y nb c d p v.1 v.2) := by
  have hw := h.1.1
  have cy : (al S (cO 10 df_10) 7).1 y = some (cO 9 [.ref tx, .ref nb, kd, .int (i32 p)]) := by rw [al_ne (by have := hw.lt h.2.2.2.1; omega)]; exact h.2.2.2.1
  have st : ∀ (g0 g1 g2 g3 g4 g5 g6 : Value) (k : Nat) (v : Value), k < 7 → gP (al S (cO 10 [g0, g1, g2, g3, g4, g5, g6]) 7) 10 S.2.1 k v = some (al S (cO 10 ([g0, g1, g2, g3, g4, g5, g6].set k v)) 7) := by
    intro g0 g1 g2 g3 g4 g5 g6 k v hk
    rw [gP_of (al_me _ _ _) (by simpa using hk), put_al]
  have ini : C_X11_init ek (al S (cO 10 df_10) 7) S.2.1 (i32 p) = some (al S (cO 10 [.null, .null, .null, .ref (ek 7), .null, .int 0, .int (i32 p)]) 7) := by
    apply Rt.eq
    unfold C_X11_init C_J8_init_2 C_J7_init_3 C_J7_init_3_41 df_10
    rw [st _ _ _ _ _ _ _ _ _ (by decide)]
    refine Rt.bind (P := fun v => v = al S (cO 10 [.null, .null, .null, .ref (ek 7), .null, .int 0, .int 0]) 7) ?_ ?_
    · refine Rt.bind (P := fun v => v = al S (cO 10 [.null, .null, .null, .ref (ek 7), .null, .int 0, .int 0]) 7) ?_ (fun v hv => Rt.some hv)
      refine Rt.let ?_
      simp only [List.set]
      rw [st _ _ _ _ _ _ _ _ _ (by decide)]
      refine Rt.let ?_
      simp only [List.set]
      rw [st _ _ _ _ _ _ _ _ _ (by decide)]
      refine Rt.let (Rt.ite (fun _ => ?_) (fun z => (z (by trivial)).elim))
      simp only [List.set]
      rw [st _ _ _ _ _ _ _ _ _ (by decide)]
      refine Rt.let ?_
      simp only [List.set]
      rw [st _ _ _ _ _ _ _ _ _ (by decide)]
      refine Rt.let ?_
      simp only [List.set]
      rw [st _ _ _ _ _ _ _ _ _ (by decide)]
      refine Rt.let (Rt.ite (fun _ => ?_) (fun z => (z (by trivial)).elim))
      simp only [List.set]
      rw [st _ _ _ _ _ _ _ _ _ (by decide)]
      exact Rt.let (Rt.some rfl)
    · rintro _ rfl
      rw [st _ _ _ _ _ _ _ _ _ (by decide)]
      exact Rt.let (Rt.some rfl)
  unfold U_X10_require
  rw [gO_of h.2.2.2.1]
  refine Rt.let (Rt.ite (fun _ => ?_) (fun z => absurd rfl z))
  rw [nO_eq]
  refine Rt.let ?_
  dsimp only
  rw [gI_of (k := 3) cy rfl]
  refine Rt.let ?_
  rw [ini]
  refine Rt.let ?_
  rw [gO_of (al_me _ _ _)]
  exact Rt.let (Rt.some ⟨gI_of (al_me _ _ _) rfl, h.1.ala⟩)
/-- a sign is asked for -/
theorem C_expect {z : Int} (hX : rdX0 S0 tx t) (h : rdT S0 S c d y tx nb kd p g) (hp : p ≤ t.length) (hz : 0 < z) (hz2 : z ≤ 126) (hF : 4294967296 < F) : RdO (U_X10_expect F ek S y (i32 z)) (C_X10_expect F ek S y (i32 z)) (sgn t z p) (QFt S0 y nb c d) (fun q T => rdT S0 T c d y tx nb kd q g) := by
  have nr := hX.nxR (p := skp t p)
  unfold U_X10_expect C_X10_expect
  rw [gO_of h.2.2.2.1]
  refine RdO.let (RdO.bind (C_token hX h hp hF) ?_)
  rintro ⟨v, V⟩ ⟨rfl, h2⟩
  dsimp only
  unfold sgn
  refine RdO.ite (fun e => ?_) (fun e => ?_)
  · rw [i_eq (by omega) (by omega) (by omega) (by omega), rdX0.isR hz] at e
    rw [if_pos e]
    unfold U_X10_expect_14 C_X10_expect_14
    obtain ⟨r1, r2⟩ := C_req1 (ek := ek) h2
    rw [r1, r2]
    refine ⟨rfl, ?_⟩
    refine Rt.let ?_
    rw [gI_of (k := 3) h2.2.2.2.1 rfl]
    refine Rt.let ?_
    have en : i32 ((skp t p : Nat) : Int) + 1 = i32 ((skp t p + 1 : Nat) : Int) := by rw [i_c1, i_add]; congr 1
    obtain ⟨V2, e1, e2⟩ := h2.setp (p' := skp t p + 1) hX
    rw [en, e1]
    exact Rt.let (Rt.some e2)
  · rw [i_eq (by omega) (by omega) (by omega) (by omega), rdX0.isR hz] at e
    rw [if_neg e]
    unfold U_X10_expect_14 C_X10_expect_14
    obtain ⟨w, w1, w2⟩ := C_req0 (ek := ek) hX h2
    exact ⟨w, by rw [w1]; rfl, w2⟩
/-- a number is asked for -/
theorem C_number (hX : rdX0 S0 tx t) (h : rdT S0 S c d y tx nb kd p g) (hp : p ≤ t.length) (hF : 4294967296 < F) : RdO (U_X10_number F ek S y) (C_X10_number F ek S y) (num t p) (QFt S0 y nb c d) (fun q v => v.1 = i32 q.1 ∧ rdT S0 v.2 c d y tx nb kd q.2 g) := by
  have hl := hX.2.2.1
  have sk := skp_ok hp
  have i48 : (48 : Int32) = i32 48 := rfl
  have i57 : (57 : Int32) = i32 57 := rfl
  have isd : ∀ q, C_X1_isIn (i32 (nx t q)) 48 57 = some (i32 (tr01 (dig (chr t q)))) := by
    intro q
    have nr := hX.nxR (p := q)
    rw [i48, i57, C_isIn ⟨by omega, by omega⟩ (by decide) (by decide)]
    congr 2
    exact tr01_congr hX.diR
  have last : ∀ (V : St) (q : Nat) (v : Int32), rdT S0 V c d y tx nb kd q g → q ≤ 1000 → RdO (U_X10_number_70 F ek y v V) (C_X10_number_70 F ek y v V) (if dig (chr t q) then .inl q else .inr (v, q) : Nat ⊕ (Int32 × Nat)) (QFt S0 y nb c d) (fun w u => u.1 = w.1 ∧ rdT S0 u.2 c d y tx nb kd w.2 g) := by
    intro V q v hV hq
    unfold U_X10_number_70 C_X10_number_70
    rw [C_next10 hX hV hq]
    refine RdO.let ?_
    rw [isd]
    refine RdO.let (RdO.ite (fun e => ?_) (fun e => ?_))
    · rw [i_c0] at e
      rw [if_neg (tr01_n e)]
      obtain ⟨r1, r2⟩ := C_req1 (ek := ek) hV
      rw [r1, r2]
      exact ⟨rfl, Rt.let (Rt.some ⟨rfl, hV⟩)⟩
    · rw [i_c0] at e
      rw [if_pos (tr01_y e)]
      obtain ⟨w, w1, w2⟩ := C_req0 (ek := ek) hX hV
      exact ⟨w, by rw [w1]; rfl, w2⟩
  unfold U_X10_number C_X10_number
  rw [gO_of h.2.2.2.1]
  refine RdO.let (RdO.bind (C_token hX h hp hF) ?_)
  rintro ⟨v, V⟩ ⟨rfl, h2⟩
  dsimp only
  rw [isd]
  refine RdO.let ?_
  unfold num
  dsimp only
  by_cases d1 : dig (chr t (skp t p))
  · rw [if_pos d1, tr01_pos d1]
    have l1 : skp t p < t.length := chr_lt (by have := d1.1; omega)
    have nq : nx t (skp t p) = chr t (skp t p) := by unfold nx; rw [if_pos l1]
    have nr := hX.nxR (p := skp t p + 1)
    obtain ⟨r1, r2⟩ := C_req1 (ek := ek) h2
    rw [show i32 1 = (1 : Int32) from rfl, r1, r2]
    show RdO ((some V) >>= _) ((some V) >>= _) _ _ _
    refine RdO.let ?_
    rw [C_next10 hX h2 (by omega), nq]
    refine RdO.let ?_
    rw [i48, i_sub]
    refine RdO.let ?_
    rw [gI_of (k := 3) h2.2.2.2.1 rfl]
    refine RdO.let ?_
    have en : i32 ((skp t p : Nat) : Int) + 1 = i32 ((skp t p + 1 : Nat) : Int) := by rw [i_c1, i_add]; congr 1
    obtain ⟨V2, e1, e2⟩ := h2.setp (p' := skp t p + 1) hX
    rw [en, e1]
    refine RdO.let ?_
    rw [C_next10 hX e2 (by omega)]
    refine RdO.let ?_
    rw [← i48, isd]
    refine RdO.let (RdO.ite (fun e => ?_) (fun e => ?_))
    · rw [i_c0] at e
      have nd := tr01_n e
      have := last V2 _ (i32 (chr t (skp t p) - 48)) e2 (by omega)
      rw [if_neg nd] at this
      rw [if_neg nd]
      exact ⟨this.1, Rt.mono this.2 (fun u q => q)⟩
    · rw [i_c0] at e
      have yd := tr01_y e
      have l2 : skp t p + 1 < t.length := chr_lt (by have := yd.1; omega)
      have nq2 : nx t (skp t p + 1) = chr t (skp t p + 1) := by unfold nx; rw [if_pos l2]
      rw [if_pos yd]
      refine RdO.let ?_
      rw [nq2, show (10 : Int32) = i32 10 from rfl, i48, i_mul, i_add, i_sub]
      refine RdO.let ?_
      rw [gI_of (k := 3) e2.2.2.2.1 rfl]
      refine RdO.let ?_
      have en2 : i32 ((skp t p + 1 : Nat) : Int) + 1 = i32 ((skp t p + 2 : Nat) : Int) := by rw [i_c1, i_add]; congr 1
      obtain ⟨V3, e3, e4⟩ := e2.setp (p' := skp t p + 2) hX
      rw [en2, e3]
      refine RdO.let ?_
      have := last V3 _ (i32 (10 * (chr t (skp t p) - 48) + chr t (skp t p + 1) - 48)) e4 (by omega)
      by_cases d3 : dig (chr t (skp t p + 2))
      · rw [if_pos d3] at this
        rw [if_pos d3]
        exact this
      · rw [if_neg d3] at this
        rw [if_neg d3]
        exact ⟨this.1, Rt.mono this.2 (fun u q => q)⟩
  · rw [if_neg d1, tr01_neg d1]
    obtain ⟨w, w1, w2⟩ := C_req0 (ek := ek) hX h2
    rw [show i32 0 = (0 : Int32) from rfl]
    exact ⟨w, by rw [w1]; rfl, w2⟩
end RD
