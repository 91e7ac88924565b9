/-! THE CLASS's CELLS: reading, writing, making; what is kept -/
def put (S : St) (a : Nat) (c : Cel) : St := (gU S.1 a c, S.2)
def al (S : St) (c : Cel) (n : Nat) : St := (gU S.1 S.2.1 c, S.2.1 + 1, S.2.2.1 + 1, S.2.2.2 + n)
abbrev cI (kd L : Nat) (f : Nat → Int32) : Cel := .inl (kd, L, .inl f)
abbrev cJ (L : Nat) (f : Nat → Int64) : Cel := .inl (1, L, .inr (.inl f))
abbrev cQ (kd L : Nat) (f : Nat → Option Nat) : Cel := .inl (kd, L, .inr (.inr (.inr (.inr f))))
abbrev cO (ci : Nat) (fs : List Value) : Cel := .inr (ci, fs)
theorem put_at (S : St) (a z : Nat) (c : Cel) : (put S a c).1 z = if z = a then some c else S.1 z := rfl
theorem al_at (S : St) (z n : Nat) (c : Cel) : (al S c n).1 z = if z = S.2.1 then some c else S.1 z := rfl
theorem put_2 (S : St) (a : Nat) (c : Cel) : (put S a c).2 = S.2 := rfl
theorem put_me (S : St) (a : Nat) (c : Cel) : (put S a c).1 a = some c := if_pos rfl
theorem put_ne {S : St} {a z : Nat} {c : Cel} (h : z ≠ a) : (put S a c).1 z = S.1 z := if_neg h
theorem al_me (S : St) (n : Nat) (c : Cel) : (al S c n).1 S.2.1 = some c := if_pos rfl
theorem al_ne {S : St} {z n : Nat} {c : Cel} (h : z ≠ S.2.1) : (al S c n).1 z = S.1 z := if_neg h
theorem al_n (S : St) (n : Nat) (c : Cel) : (al S c n).2.1 = S.2.1 + 1 := rfl
theorem nC_eq (S : St) (c : Cel) (n : Nat) : nC S c n = (S.2.1, al S c n) := rfl
theorem nO_eq (S : St) (ci : Nat) (fs : List Value) (n : Nat) : nO S ci fs n = (S.2.1, al S (cO ci fs) n) := rfl
section CB
variable {S : St} {a ci kd k L : Nat} {fs : List Value}
theorem gO_of (h : S.1 a = some (cO ci fs)) : gO S ci a = some fs := by unfold gO; rw [h]; exact if_pos rfl
theorem gI_of {v : Int32} (h : S.1 a = some (cO ci fs)) (hk : fs[k]? = some (.int v)) : gI S ci a k = some v := by unfold gI gV; rw [gO_of h]; show (fs[k]?).bind vI = _; rw [hk]; rfl
theorem gJ_of {v : Int64} (h : S.1 a = some (cO ci fs)) (hk : fs[k]? = some (.long v)) : gJ S ci a k = some v := by unfold gJ gV; rw [gO_of h]; show (fs[k]?).bind vJ = _; rw [hk]; rfl
theorem gA_of {v : Nat} (h : S.1 a = some (cO ci fs)) (hk : fs[k]? = some (.ref v)) : gA S ci a k = some v := by unfold gA gV; rw [gO_of h]; show (fs[k]?).bind vA = _; rw [hk]; rfl
def vOf (x : Option Nat) : Value := match x with
  | none => .null
  | some a => .ref a
theorem gQ_of {v : Option Nat} (h : S.1 a = some (cO ci fs)) (hk : fs[k]? = some (vOf v)) : gQ S ci a k = some v := by unfold gQ gV; rw [gO_of h]; show (fs[k]?).bind vQ = _; rw [hk]; cases v <;> rfl
theorem gP_of {v : Value} (h : S.1 a = some (cO ci fs)) (hk : k < fs.length) : gP S ci a k v = some (put S a (cO ci (fs.set k v))) := by unfold gP; rw [gO_of h]; exact if_pos hk
theorem aI_of {f : Nat → Int32} (h : S.1 a = some (cI kd L f)) : aI S kd a = some (L, f) := by unfold aI; rw [h]; exact if_pos rfl
theorem aJ_of {f : Nat → Int64} (h : S.1 a = some (cJ L f)) : aJ S 1 a = some (L, f) := by unfold aJ; rw [h]; exact if_pos rfl
theorem aQ_of {f : Nat → Option Nat} (h : S.1 a = some (cQ kd L f)) : aQ S kd a = some (L, f) := by unfold aQ; rw [h]; exact if_pos rfl
theorem aN_of {p : Nat × vp_A} (h : S.1 a = some (.inl p)) : aN S p.1 a = some (i32 (p.2.1 : Int)) := by
  obtain ⟨kd, L, f⟩ := p
  unfold aN; rw [h]
  show (if kd = kd then some (Int32.ofNat L) else none) = _
  rw [if_pos rfl, ← Int32.ofInt_eq_ofNat]; rfl
theorem oob {n : Nat} {i : Int} (h0 : 0 ≤ i) (h1 : i < n) (h2 : (n : Int) ≤ 2147483647) : ¬ (i32 i < 0 ∨ n ≤ (i32 i).toNatClampNeg) := by
  rw [i_nat h0 (by omega), i_c0, i_lt (by omega) (by omega) (by omega) (by omega)]; omega
theorem lI_of {f : Nat → Int32} {i : Int} (h : S.1 a = some (cI kd L f)) (h0 : 0 ≤ i) (h1 : i < L) (h2 : (L : Int) ≤ 2147483647) : lI S kd a (i32 i) = some (f i.toNat) := by
  unfold lI; rw [aI_of h]; exact rdI_i h0 h1 h2
theorem lJ_of {f : Nat → Int64} {i : Int} (h : S.1 a = some (cJ L f)) (h0 : 0 ≤ i) (h1 : i < L) (h2 : (L : Int) ≤ 2147483647) : lJ S 1 a (i32 i) = some (f i.toNat) := by
  unfold lJ; rw [aJ_of h]; exact rdL_i h0 h1 h2
theorem lQ_of {f : Nat → Option Nat} {i : Int} (h : S.1 a = some (cQ kd L f)) (h0 : 0 ≤ i) (h1 : i < L) (h2 : (L : Int) ≤ 2147483647) : lQ S kd a (i32 i) = some (f i.toNat) := by
  unfold lQ; rw [aQ_of h]
  show rdQ f L (i32 i) = _
  unfold rdQ
  rw [if_neg (oob h0 h1 h2), i_nat h0 (by omega)]
theorem lA_of {f : Nat → Option Nat} {i : Int} {q : Nat} (h : S.1 a = some (cQ kd L f)) (h0 : 0 ≤ i) (h1 : i < L) (h2 : (L : Int) ≤ 2147483647) (hq : f i.toNat = some q) : lA S kd a (i32 i) = some q := by
  unfold lA; rw [lQ_of h h0 h1 h2, hq]; rfl
theorem tI_of {f : Nat → Int32} {i : Int} {x : Int32} (h : S.1 a = some (cI kd L f)) (h0 : 0 ≤ i) (h1 : i < L) (h2 : (L : Int) ≤ 2147483647) : tI S kd a (i32 i) x = some (put S a (cI kd L (upd f i.toNat x))) := by
  unfold tI; rw [aI_of h]
  show (if i32 i < 0 ∨ L ≤ (i32 i).toNatClampNeg then none else _) = _
  rw [if_neg (oob h0 h1 h2), i_nat h0 (by omega)]; rfl
theorem tJ_of {f : Nat → Int64} {i : Int} {x : Int64} (h : S.1 a = some (cJ L f)) (h0 : 0 ≤ i) (h1 : i < L) (h2 : (L : Int) ≤ 2147483647) : tJ S 1 a (i32 i) x = some (put S a (cJ L (vp_updL f i.toNat x))) := by
  unfold tJ; rw [aJ_of h]
  show (if i32 i < 0 ∨ L ≤ (i32 i).toNatClampNeg then none else _) = _
  rw [if_neg (oob h0 h1 h2), i_nat h0 (by omega)]; rfl
theorem tQ_of {f : Nat → Option Nat} {i : Int} {x : Option Nat} (h : S.1 a = some (cQ kd L f)) (h0 : 0 ≤ i) (h1 : i < L) (h2 : (L : Int) ≤ 2147483647) : tQ S kd a (i32 i) x = some (put S a (cQ kd L (va_up f i.toNat x))) := by
  unfold tQ; rw [aQ_of h]
  show (if i32 i < 0 ∨ L ≤ (i32 i).toNatClampNeg then none else _) = _
  rw [if_neg (oob h0 h1 h2), i_nat h0 (by omega)]; rfl
theorem tA_of {f : Nat → Option Nat} {i : Int} {x : Nat} {gs : List Value} (hx : S.1 x = some (cO ci gs)) (h : S.1 a = some (cQ kd L f)) (h0 : 0 ≤ i) (h1 : i < L) (h2 : (L : Int) ≤ 2147483647) : tA S kd a (i32 i) ci x = some (put S a (cQ kd L (va_up f i.toNat (some x)))) := by
  unfold tA; rw [gO_of hx]; exact tQ_of h h0 h1 h2
theorem nbnd {n : Int} (h0 : 0 ≤ n) (h1 : n ≤ 16777216) : ¬ (i32 n < 0 ∨ 16777216 < (i32 n).toNatClampNeg) := by
  rw [i_nat h0 (by omega), i_c0, i_lt (by omega) (by omega) (by omega) (by omega)]; omega
theorem mkI {n : Int} (h0 : 0 ≤ n) (h1 : n ≤ 16777216) : nI_ S kd (i32 n) = some (S.2.1, al S (cI kd n.toNat (fun _ => 0)) n.toNat) := by
  unfold nI_; rw [if_neg (nbnd h0 h1), i_nat h0 (by omega)]; rfl
theorem mkJ {n : Int} (h0 : 0 ≤ n) (h1 : n ≤ 16777216) : nJ_ S 1 (i32 n) = some (S.2.1, al S (cJ n.toNat (fun _ => 0)) n.toNat) := by
  unfold nJ_; rw [if_neg (nbnd h0 h1), i_nat h0 (by omega)]; rfl
theorem mkQ {n : Int} (h0 : 0 ≤ n) (h1 : n ≤ 16777216) : nQ_ S kd (i32 n) = some (S.2.1, al S (cQ kd n.toNat (fun _ => none)) n.toNat) := by
  unfold nQ_; rw [if_neg (nbnd h0 h1), i_nat h0 (by omega)]; rfl
theorem gcl_of {f : Nat → Int32} (h : S.1 a = some (cI 0 L f)) : gcl S a = some (S.2.1, al S (cI 0 L f) L) := by unfold gcl; rw [aI_of h]; rfl
theorem cbnd {sp dp n : Int} {L M : Nat} (h0 : 0 ≤ sp) (h1 : 0 ≤ dp) (h2 : 0 ≤ n) (h3 : sp + n ≤ L) (h4 : dp + n ≤ M) (h5 : (L : Int) ≤ 2147483647) (h6 : (M : Int) ≤ 2147483647) : ¬ (i32 sp < 0 ∨ i32 dp < 0 ∨ i32 n < 0 ∨ L < (i32 sp).toNatClampNeg + (i32 n).toNatClampNeg ∨ M < (i32 dp).toNatClampNeg + (i32 n).toNatClampNeg) := by
  rw [i_nat h0 (by omega), i_nat h1 (by omega), i_nat h2 (by omega), i_c0, i_lt (by omega) (by omega) (by omega) (by omega), i_lt (by omega) (by omega) (by omega) (by omega), i_lt (by omega) (by omega) (by omega) (by omega)]; omega
theorem cI_of {b M : Nat} {f g : Nat → Int32} {sp dp n : Int} (h : S.1 a = some (cI kd L f)) (hb : S.1 b = some (cI kd M g)) (h0 : 0 ≤ sp) (h1 : 0 ≤ dp) (h2 : 0 ≤ n) (h3 : sp + n ≤ L) (h4 : dp + n ≤ M) (h5 : (L : Int) ≤ 2147483647) (h6 : (M : Int) ≤ 2147483647) :
    cI_ S kd a b (i32 sp) (i32 dp) (i32 n) = some (put S b (cI kd M (va_cpy f g sp.toNat dp.toNat n.toNat))) := by
  unfold cI_; rw [aI_of h, aI_of hb]
  show (if i32 sp < 0 ∨ i32 dp < 0 ∨ i32 n < 0 ∨ L < (i32 sp).toNatClampNeg + (i32 n).toNatClampNeg ∨ M < (i32 dp).toNatClampNeg + (i32 n).toNatClampNeg then none else _) = _
  rw [if_neg (cbnd h0 h1 h2 h3 h4 h5 h6), i_nat h0 (by omega), i_nat h1 (by omega), i_nat h2 (by omega)]; rfl
theorem cQ_of {b M : Nat} {f g : Nat → Option Nat} {sp dp n : Int} (h : S.1 a = some (cQ kd L f)) (hb : S.1 b = some (cQ kd M g)) (h0 : 0 ≤ sp) (h1 : 0 ≤ dp) (h2 : 0 ≤ n) (h3 : sp + n ≤ L) (h4 : dp + n ≤ M) (h5 : (L : Int) ≤ 2147483647) (h6 : (M : Int) ≤ 2147483647)
    (he : ∀ i, i < n.toNat → ∃ y gs, f (sp.toNat + i) = some y ∧ S.1 y = some (cO ci gs)) :
    cQ_ S kd ci a b (i32 sp) (i32 dp) (i32 n) = some (put S b (cQ kd M (va_cpy f g sp.toNat dp.toNat n.toNat))) := by
  unfold cQ_; rw [aQ_of h, aQ_of hb]
  show (if i32 sp < 0 ∨ i32 dp < 0 ∨ i32 n < 0 ∨ L < (i32 sp).toNatClampNeg + (i32 n).toNatClampNeg ∨ M < (i32 dp).toNatClampNeg + (i32 n).toNatClampNeg then none else _) = _
  rw [if_neg (cbnd h0 h1 h2 h3 h4 h5 h6), i_nat h0 (by omega), i_nat h1 (by omega), i_nat h2 (by omega)]
  rw [if_pos]
  · rfl
  · unfold elQ
    rw [List.all_eq_true]
    intro i hi
    obtain ⟨y, gs, e1, e2⟩ := he i (List.mem_range.mp hi)
    simp only [e1, gO_of e2]; rfl
end CB
/-- nothing lies behind the heap's end -/
def wfS (S : St) : Prop := ∀ q, S.2.1 ≤ q → S.1 q = none
theorem wfS.lt {S : St} {q : Nat} {c : Cel} (h : wfS S) (hq : S.1 q = some c) : q < S.2.1 := by
  apply Classical.byContradiction
  intro hn
  rw [h q (by omega)] at hq; cases hq
theorem wfS.put {S : St} {a : Nat} {c c' : Cel} (h : wfS S) (ha : S.1 a = some c') : wfS (put S a c) := by
  intro q hq
  have := h.lt ha
  rw [put_ne (by have : S.2.1 ≤ q := hq; omega)]; exact h q hq
theorem wfS.al {S : St} {c : Cel} {n : Nat} (h : wfS S) : wfS (al S c n) := by
  intro q hq
  have : S.2.1 + 1 ≤ q := hq
  rw [al_ne (by omega)]; exact h q (by omega)
/-- the cells that a plan does not own -/
def nk (c : Cel) : Bool := match c with
  | .inl (k, _) => k == 2 || k == 6
  | .inr (ci, _) => ci == 1 || ci == 11 || ci == 12
/-- what a plan's work keeps: p is the plan, b the end of its network's cells -/
def fr (b p c d : Nat) (S S' : St) : Prop := wfS S' ∧ S.2.1 ≤ S'.2.1 ∧ S'.2.2.1 ≤ S.2.2.1 + c ∧ S'.2.2.2 ≤ S.2.2.2 + d ∧ ∀ q e, S.1 q = some e → q ≠ p → (q < b ∨ nk e = true) → S'.1 q = some e
theorem fr.rf {b p c d : Nat} {S : St} (h : wfS S) : fr b p c d S S := ⟨h, Nat.le_refl _, by omega, by omega, fun _ _ h _ _ => h⟩
theorem fr.tr {b p c d c' d' m n : Nat} {S T U : St} (h : fr b p c d S T) (h2 : fr b p c' d' T U) (hm : c + c' ≤ m) (hn : d + d' ≤ n) : fr b p m n S U := by
  obtain ⟨a1, a2, a3, a4, a5⟩ := h
  obtain ⟨b1, b2, b3, b4, b5⟩ := h2
  exact ⟨b1, by omega, by omega, by omega, fun q e h hp k => b5 q e (a5 q e h hp k) hp k⟩
theorem fr.le {b p c d c' d' : Nat} {S T : St} (h : fr b p c d S T) (hc : c ≤ c') (hd : d ≤ d') : fr b p c' d' S T := by
  obtain ⟨a1, a2, a3, a4, a5⟩ := h
  exact ⟨a1, a2, by omega, by omega, a5⟩
theorem fr.put {b p a : Nat} {c e : Cel} {S : St} (h : wfS S) (ha : S.1 a = some e) (hb : a = p ∨ b ≤ a ∧ nk e = false) : fr b p 0 0 S (put S a c) := by
  refine ⟨h.put ha, Nat.le_refl _, Nat.le_refl _, Nat.le_refl _, fun q g hq hp hc => ?_⟩
  have : q ≠ a := by
    rintro rfl
    rw [ha] at hq; cases hq
    rcases hb with hb | ⟨hb, hk⟩
    · exact hp hb
    · rcases hc with hc | hc
      · omega
      · rw [hk] at hc; cases hc
  rw [put_ne this]; exact hq
theorem fr.al {b p n : Nat} {c : Cel} {S : St} (h : wfS S) : fr b p 1 n S (al S c n) := by
  refine ⟨h.al, Nat.le_succ _, Nat.le_refl _, Nat.le_refl _, fun q g hq _ _ => ?_⟩
  rw [al_ne (by have := h.lt hq; omega)]; exact hq
theorem fr.get {b p c d q : Nat} {e : Cel} {S T : St} (h : fr b p c d S T) (hq : S.1 q = some e) (hb : q < b) (hp : q ≠ p) : T.1 q = some e := h.2.2.2.2 q e hq hp (Or.inl hb)
theorem fr.wf {b p c d : Nat} {S T : St} (h : fr b p c d S T) : wfS T := h.1
theorem put_put (S : St) (a : Nat) (c c' : Cel) : put (put S a c) a c' = put S a c' := by
  unfold put gU
  congr 1
  funext q
  by_cases h : q = a
  · simp [h]
  · simp [h]
theorem put_al (S : St) (n : Nat) (c c' : Cel) : put (al S c n) S.2.1 c' = al S c' n := by
  unfold put al gU
  congr 1
  funext q
  by_cases h : q = S.2.1
  · simp [h]
  · simp [h]
/-- nothing that is there changes -/
def ex (c d : Nat) (S S' : St) : Prop := wfS S' ∧ S.2.1 ≤ S'.2.1 ∧ S'.2.2.1 ≤ S.2.2.1 + c ∧ S'.2.2.2 ≤ S.2.2.2 + d ∧ ∀ q e, S.1 q = some e → S'.1 q = some e
theorem ex.rf {c d : Nat} {S : St} (h : wfS S) : ex c d S S := ⟨h, Nat.le_refl _, by omega, by omega, fun _ _ h => h⟩
theorem ex.tr {c d c' d' m n : Nat} {S T U : St} (h : ex c d S T) (h2 : ex c' d' T U) (hm : c + c' ≤ m) (hn : d + d' ≤ n) : ex m n S U := by
  obtain ⟨a1, a2, a3, a4, a5⟩ := h
  obtain ⟨b1, b2, b3, b4, b5⟩ := h2
  exact ⟨b1, by omega, by omega, by omega, fun q e h => b5 q e (a5 q e h)⟩
theorem ex.fr {b p c d : Nat} {S T : St} (h : ex c d S T) : fr b p c d S T := ⟨h.1, h.2.1, h.2.2.1, h.2.2.2.1, fun q e h' _ _ => h.2.2.2.2 q e h'⟩
theorem ex.le {c d c' d' : Nat} {S T : St} (h : ex c d S T) (hc : c ≤ c') (hd : d ≤ d') : ex c' d' S T := ⟨h.1, h.2.1, by have := h.2.2.1; omega, by have := h.2.2.2.1; omega, h.2.2.2.2⟩
theorem ex.get {c d q : Nat} {e : Cel} {S T : St} (h : ex c d S T) (hq : S.1 q = some e) : T.1 q = some e := h.2.2.2.2 q e hq
theorem ex.al {n : Nat} {c : Cel} {S : St} (h : wfS S) : ex 1 n S (al S c n) := by
  refine ⟨h.al, Nat.le_succ _, Nat.le_refl _, Nat.le_refl _, fun q g hq => ?_⟩
  rw [al_ne (by have := h.lt hq; omega)]; exact hq
/-- what works behind the old end only, keeps all that was there -/
theorem fr.ex {p c d : Nat} {S T : St} (h0 : wfS S) (hp : S.2.1 ≤ p) (h : fr S.2.1 p c d S T) : ex c d S T := by
  obtain ⟨a1, a2, a3, a4, a5⟩ := h
  exact ⟨a1, a2, a3, a4, fun q e hq => a5 q e hq (by have := h0.lt hq; omega) (Or.inl (h0.lt hq))⟩
/-- a put behind the old end -/
theorem ex.put {c d a : Nat} {e e' : Cel} {S T : St} (h0 : wfS S) (h : ex c d S T) (ha : S.2.1 ≤ a) (hT : T.1 a = some e') : ex c d S (put T a e) := by
  obtain ⟨a1, a2, a3, a4, a5⟩ := h
  exact ⟨a1.put hT, a2, a3, a4, fun q g hq => by rw [put_ne (by have := h0.lt hq; omega)]; exact a5 q g hq⟩
theorem ex_al {c d n : Nat} {e : Cel} {S T : St} (h : ex c d S T) : ex (c + 1) (d + n) S (al T e n) := h.tr (ex.al h.1) (Nat.le_refl _) (Nat.le_refl _)
/-- a network's cells, all of them below b; its weights -/
def netC (b : Nat) (S : St) (a : Nat) (N : Net) (w : Nat → Int) : Prop := ∃ (wa ta ea sa : Nat) (fw ft : Nat → Int32) (fe fs : Nat → Option Nat) (eq sq : Nat → Nat),
  (a < b ∧ S.1 a = some (cO 2 [.ref wa, .ref ta, .ref ea, .ref sa])) ∧ (wa < b ∧ S.1 wa = some (cI 0 (nN N) fw) ∧ ∀ i, i < nN N → fw i = i32 (w i)) ∧ (ta < b ∧ S.1 ta = some (cI 0 (nN N) ft) ∧ ∀ i, i < nN N → ft i = i32 (tN N i)) ∧
  (ea < b ∧ S.1 ea = some (cQ 3 (eN N) fe) ∧ ∀ k, k < eN N → fe k = some (eq k) ∧ eq k < b ∧ S.1 (eq k) = some (cO 4 [.int (i32 (ed N k).1), .int (i32 (ed N k).2.1), .int (i32 (ed N k).2.2)])) ∧
  (sa < b ∧ S.1 sa = some (cQ 4 (sN N) fs) ∧ ∀ k, k < sN N → fs k = some (sq k) ∧ sq k < b ∧ S.1 (sq k) = some (cO 5 [.int (i32 (sd N k).1), .int (i32 (sd N k).2.1), .int (i32 (sd N k).2.2)]))
/-- no plan's cell -/
def netK (c : Cel) : Prop := match c with
  | .inl _ => True
  | .inr (ci, _) => ci ≠ 3
theorem netC.mono {b b' a : Nat} {S T : St} {N : Net} {w : Nat → Int} (h : netC b S a N w) (hb : b ≤ b') (hk : ∀ q e, q < b → netK e → S.1 q = some e → T.1 q = some e) : netC b' T a N w := by
  obtain ⟨wa, ta, ea, sa, fw, ft, fe, fs, eq, sq, ⟨a1, a2⟩, ⟨b1, b2, b3⟩, ⟨c1, c2, c3⟩, ⟨d1, d2, d3⟩, e1, e2, e3⟩ := h
  exact ⟨wa, ta, ea, sa, fw, ft, fe, fs, eq, sq, ⟨by omega, hk _ _ a1 (show (2 : Nat) ≠ 3 by decide) a2⟩, ⟨by omega, hk _ _ b1 trivial b2, b3⟩, ⟨by omega, hk _ _ c1 trivial c2, c3⟩,
    ⟨by omega, hk _ _ d1 trivial d2, fun k hk' => ⟨(d3 k hk').1, by have := (d3 k hk').2.1; omega, hk _ _ (d3 k hk').2.1 (show (4 : Nat) ≠ 3 by decide) (d3 k hk').2.2⟩⟩,
    by omega, hk _ _ e1 trivial e2, fun k hk' => ⟨(e3 k hk').1, by have := (e3 k hk').2.1; omega, hk _ _ (e3 k hk').2.1 (show (5 : Nat) ≠ 3 by decide) (e3 k hk').2.2⟩⟩
theorem netC.fr {b p c d a : Nat} {S T : St} {N : Net} {w : Nat → Int} {fs : List Value} (h : netC b S a N w) (hp : S.1 p = some (cO 3 fs)) (hf : fr b p c d S T) : netC b T a N w := h.mono (Nat.le_refl _) (fun q e hq hn he => hf.get he hq (by
  rintro rfl
  rw [hp] at he; cases he; exact hn rfl))
theorem netC.ex {b c d a : Nat} {S T : St} {N : Net} {w : Nat → Int} (h : netC b S a N w) (hf : ex c d S T) : netC b T a N w := h.mono (Nat.le_refl _) (fun _ _ _ _ he => hf.2.2.2.2 _ _ he)
/-- what the program reads of it -/
theorem netC.get {b a : Nat} {S : St} {N : Net} {w : Nat → Int} (hz : szN N) (h : netC b S a N w) : ∃ (wa ta ea sa : Nat) (eq sq : Nat → Nat),
    (∃ fs, gO S 2 a = some fs) ∧ gA S 2 a 0 = some wa ∧ gA S 2 a 1 = some ta ∧ gA S 2 a 2 = some ea ∧ gA S 2 a 3 = some sa ∧ aN S 0 wa = some (i32 (nN N)) ∧ aN S 3 ea = some (i32 (eN N)) ∧ aN S 4 sa = some (i32 (sN N)) ∧
    (∀ i : Nat, i < nN N → lI S 0 wa (i32 i) = some (i32 (w i)) ∧ lI S 0 ta (i32 i) = some (i32 (tN N i))) ∧
    (∀ k : Nat, k < eN N → lA S 3 ea (i32 k) = some (eq k) ∧ (∃ fs, gO S 4 (eq k) = some fs) ∧ gI S 4 (eq k) 0 = some (i32 (ed N k).1) ∧ gI S 4 (eq k) 1 = some (i32 (ed N k).2.1) ∧ gI S 4 (eq k) 2 = some (i32 (ed N k).2.2)) ∧
    ∀ k : Nat, k < sN N → lA S 4 sa (i32 k) = some (sq k) ∧ (∃ fs, gO S 5 (sq k) = some fs) ∧ gI S 5 (sq k) 0 = some (i32 (sd N k).1) ∧ gI S 5 (sq k) 1 = some (i32 (sd N k).2.1) ∧ gI S 5 (sq k) 2 = some (i32 (sd N k).2.2) := by
  obtain ⟨wa, ta, ea, sa, fw, ft, fe, fs, eq, sq, ⟨a1, a2⟩, ⟨b1, b2, b3⟩, ⟨c1, c2, c3⟩, ⟨d1, d2, d3⟩, e1, e2, e3⟩ := h
  obtain ⟨z1, z2, z3⟩ := hz
  refine ⟨wa, ta, ea, sa, eq, sq, ⟨_, gO_of a2⟩, gA_of a2 rfl, gA_of a2 rfl, gA_of a2 rfl, gA_of a2 rfl, aN_of b2, aN_of d2, aN_of e2, fun i hi => ⟨?_, ?_⟩, fun k hk => ?_, fun k hk => ?_⟩
  · rw [lI_of b2 (by omega) (by omega) (by omega), Int.toNat_natCast, b3 i hi]
  · rw [lI_of c2 (by omega) (by omega) (by omega), Int.toNat_natCast, c3 i hi]
  · obtain ⟨q1, q2, q3⟩ := d3 k hk
    exact ⟨lA_of d2 (by omega) (by omega) (by omega) (by rw [Int.toNat_natCast]; exact q1), ⟨_, gO_of q3⟩, gI_of q3 rfl, gI_of q3 rfl, gI_of q3 rfl⟩
  · obtain ⟨q1, q2, q3⟩ := e3 k hk
    exact ⟨lA_of e2 (by omega) (by omega) (by omega) (by rw [Int.toNat_natCast]; exact q1), ⟨_, gO_of q3⟩, gI_of q3 rfl, gI_of q3 rfl, gI_of q3 rfl⟩
