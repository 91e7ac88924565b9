/-! SCRIPTS: the common law of reading, and the model's -/
def chr (t : List Int) (p : Nat) : Int := t.getD p 0
def skp (t : List Int) (p : Nat) : Nat := p + ((t.drop p).takeWhile (fun c => c == 32)).length
theorem skp_step {t : List Int} {p : Nat} (hp : p < t.length) (h : chr t p = 32) : skp t p = skp t (p + 1) := by
  unfold skp
  have e : chr t p = t[p] := getD_at hp
  rw [List.drop_eq_getElem_cons hp, List.takeWhile_cons_of_pos (by rw [← e, h]; rfl), List.length_cons]
  omega
theorem skp_stop {t : List Int} {p : Nat} (h : t.length ≤ p ∨ chr t p ≠ 32) : skp t p = p := by
  unfold skp
  by_cases hp : p < t.length
  · have e : chr t p = t[p] := getD_at hp
    have hne : chr t p ≠ 32 := by rcases h with h | h; omega; exact h
    rw [List.drop_eq_getElem_cons hp, List.takeWhile_cons_of_neg (by rw [← e]; simpa using hne)]; rfl
  · rw [List.drop_of_length_le (by omega)]; rfl
theorem skp_spec {t : List Int} (d : Nat) : ∀ p, p + d = t.length → p ≤ skp t p ∧ skp t p ≤ t.length ∧ (skp t p = t.length ∨ chr t (skp t p) ≠ 32) := by
  induction d with
  | zero => intro p hp; rw [skp_stop (Or.inl (by omega))]; exact ⟨by omega, by omega, Or.inl (by omega)⟩
  | succ d ih =>
    intro p hp
    by_cases h : chr t p = 32
    · rw [skp_step (by omega) h]
      obtain ⟨h1, h2, h3⟩ := ih (p + 1) (by omega)
      exact ⟨by omega, h2, h3⟩
    · rw [skp_stop (Or.inr h)]; exact ⟨by omega, by omega, Or.inr h⟩
theorem skp_ok {t : List Int} {p : Nat} (hp : p ≤ t.length) : p ≤ skp t p ∧ skp t p ≤ t.length ∧ (skp t p = t.length ∨ chr t (skp t p) ≠ 32) := skp_spec (t.length - p) p (by omega)
theorem skp_skp {t : List Int} {p : Nat} (hp : p ≤ t.length) : skp t (skp t p) = skp t p := by
  obtain ⟨-, -, h⟩ := skp_ok hp
  exact skp_stop (by rcases h with h | h; exact Or.inl (by omega); exact Or.inr h)
def pb {α β : Type} (r : Nat ⊕ α) (f : α → Nat ⊕ β) : Nat ⊕ β := match r with
  | .inl e => .inl e
  | .inr a => f a
abbrev dig (c : Int) : Prop := 48 ≤ c ∧ c ≤ 57
/-- a number -/
def num (t : List Int) (p : Nat) : Nat ⊕ (Int × Nat) :=
  let q := skp t p
  if dig (chr t q) then
    if dig (chr t (q + 1)) then
      if dig (chr t (q + 2)) then .inl (q + 2) else .inr (10 * (chr t q - 48) + chr t (q + 1) - 48, q + 2)
    else .inr (chr t q - 48, q + 1)
  else .inl q
/-- a sign -/
def sgn (t : List Int) (c : Int) (p : Nat) : Nat ⊕ Nat := if chr t (skp t p) = c then .inr (skp t p + 1) else .inl (skp t p)
abbrev Cmd : Type := Int × Int × Int × Int
abbrev isLt (c : Int) : Prop := c = 119 ∨ c = 118 ∨ c = 120
/-- a command that begins at q -/
def cmdP (t : List Int) (q : Nat) : Nat ⊕ (Cmd × Nat) :=
  let c := chr t q
  pb (num t (if isLt c then q + 1 else q)) fun a =>
  pb (sgn t (if c = 120 then 58 else if isLt c then 61 else 45) a.2) fun p =>
  pb (num t p) fun b =>
  if c = 120 ∨ ¬ isLt c then
    pb (sgn t (if c = 120 then 45 else 58) b.2) fun p =>
    pb (num t p) fun d =>
    pb (sgn t 59 d.2) fun p => .inr ((if isLt c then c else 0, a.1, b.1, d.1), p)
  else pb (sgn t 59 b.2) fun p => .inr ((if isLt c then c else 0, a.1, b.1, 0), p)
/-- a script, from p on -/
def scrF (t : List Int) : Nat → Nat → Nat ⊕ List Cmd
  | 0, _ => .inr []
  | n + 1, p => if t.length ≤ skp t p then .inr [] else pb (cmdP t (skp t p)) fun c => pb (scrF t n c.2) fun l => .inr (c.1 :: l)
def scr (t : List Int) : Nat ⊕ List Cmd := scrF t (t.length + 1) 0
noncomputable def doC (N : Net) (c : Cmd) : Option Net :=
  if c.1 = 0 then (if cdCon N c.2.1 c.2.2.1 c.2.2.2 = 0 then some (nCon N c.2.1.toNat c.2.2.1.toNat c.2.2.2) else none)
  else if c.1 = 120 then (if cdFor N c.2.1 c.2.2.1 c.2.2.2 = 0 then some (nFor N c.2.1.toNat c.2.2.1 c.2.2.2) else none)
  else if c.1 = 119 then (if cdSet N c.2.1 c.2.2.1 = 0 then some (nWei N c.2.1.toNat c.2.2.1) else none)
  else (if cdSet N c.2.1 c.2.2.1 = 0 then some (nTre N c.2.1.toNat c.2.2.1) else none)
noncomputable def run1 (x : Net × Nat) (c : Cmd) : Net × Nat := match doC x.1 c with
  | some N => (N, x.2 + 1)
  | none => x
noncomputable def runC (N : Net) (l : List Cmd) : Net × Nat := l.foldl run1 (N, 0)
def fltA (r : Nat ⊕ List Cmd) : Int := match r with
  | .inl f => f
  | .inr _ => -1
def sp_fault (A : Ab) : Res := yes A (fltA (scr A.2.2))
noncomputable def sp_run (A : Ab) : Res := match scr A.2.2 with
  | .inl _ => no A 1
  | .inr l => (0, (runC A.1 l).2, push A (runC A.1 l).1)
theorem num_ok {t : List Int} {p : Nat} (hp : p ≤ t.length) : (∀ f, num t p = .inl f → f ≤ t.length) ∧ ∀ v q, num t p = .inr (v, q) → p < q ∧ q ≤ t.length ∧ 0 ≤ v ∧ v ≤ 99 := by
  obtain ⟨h1, h2, -⟩ := skp_ok hp
  have lt : ∀ i, dig (chr t i) → i < t.length := by
    intro i hd
    apply Classical.byContradiction
    intro hn
    have : chr t i = 0 := by unfold chr; rw [List.getD_eq_getElem?_getD, List.getElem?_eq_none (by omega)]; rfl
    rw [this] at hd; exact absurd hd (by decide)
  unfold num
  simp only
  by_cases d1 : dig (chr t (skp t p))
  · rw [if_pos d1]
    have l1 := lt _ d1
    by_cases d2 : dig (chr t (skp t p + 1))
    · rw [if_pos d2]
      have l2 := lt _ d2
      by_cases d3 : dig (chr t (skp t p + 2))
      · rw [if_pos d3]
        exact ⟨fun f hf => (by cases hf; omega), fun v q hq => by cases hq⟩
      · rw [if_neg d3]
        refine ⟨fun f hf => (by cases hf), fun v q hq => ?_⟩
        have := Sum.inr.inj hq
        cases this
        omega
    · rw [if_neg d2]
      refine ⟨fun f hf => (by cases hf), fun v q hq => ?_⟩
      have := Sum.inr.inj hq
      cases this
      omega
  · rw [if_neg d1]
    exact ⟨fun f hf => (by cases hf; omega), fun v q hq => by cases hq⟩
theorem sgn_ok {t : List Int} {c : Int} {p : Nat} (hc : c ≠ 0) (hp : p ≤ t.length) : (∀ f, sgn t c p = .inl f → f ≤ t.length) ∧ ∀ q, sgn t c p = .inr q → p < q ∧ q ≤ t.length := by
  obtain ⟨h1, h2, -⟩ := skp_ok hp
  unfold sgn
  by_cases h : chr t (skp t p) = c
  · rw [if_pos h]
    refine ⟨fun f hf => (by cases hf), fun q hq => ?_⟩
    cases hq
    have : skp t p < t.length := by
      apply Classical.byContradiction
      intro hn
      have : chr t (skp t p) = 0 := by unfold chr; rw [List.getD_eq_getElem?_getD, List.getElem?_eq_none (by omega)]; rfl
      omega
    omega
  · rw [if_neg h]
    exact ⟨fun f hf => (by cases hf; omega), fun q hq => by cases hq⟩
theorem pb_inr {α β : Type} {r : Nat ⊕ α} {f : α → Nat ⊕ β} {b : β} (h : pb r f = .inr b) : ∃ a, r = .inr a ∧ f a = .inr b := by
  match r, h with
  | .inr a, h => exact ⟨a, rfl, h⟩
theorem pb_inl {α β : Type} {r : Nat ⊕ α} {f : α → Nat ⊕ β} {e : Nat} (h : pb r f = .inl e) : r = .inl e ∨ ∃ a, r = .inr a ∧ f a = .inl e := by
  match r, h with
  | .inl e', h =>
    have he : e' = e := Sum.inl.inj h
    exact Or.inl (by rw [he])
  | .inr a, h => exact Or.inr ⟨a, rfl, h⟩
def okCm (c : Cmd) : Prop := (c.1 = 0 ∨ isLt c.1) ∧ 0 ≤ c.2.1 ∧ c.2.1 ≤ 99 ∧ 0 ≤ c.2.2.1 ∧ c.2.2.1 ≤ 99 ∧ 0 ≤ c.2.2.2 ∧ c.2.2.2 ≤ 99
theorem chr_lt {t : List Int} {q : Nat} (h : chr t q ≠ 0) : q < t.length := by
  apply Classical.byContradiction
  intro hn
  exact h (by unfold chr; rw [List.getD_eq_getElem?_getD, List.getElem?_eq_none (by omega)]; rfl)
theorem cmdP_ok {t : List Int} {q : Nat} (hq : q < t.length) : (∀ f, cmdP t q = .inl f → f ≤ t.length) ∧ ∀ c p, cmdP t q = .inr (c, p) → q < p ∧ p ≤ t.length ∧ okCm c := by
  have p0 : (if isLt (chr t q) then q + 1 else q) ≤ t.length := by split <;> omega
  have q0 : q ≤ (if isLt (chr t q) then q + 1 else q) := by split <;> omega
  have s1 : (if chr t q = 120 then (58 : Int) else if isLt (chr t q) then 61 else 45) ≠ 0 := by
    split
    · decide
    · split <;> decide
  have s2 : (if chr t q = 120 then (45 : Int) else 58) ≠ 0 := by split <;> decide
  have kk : (if isLt (chr t q) then chr t q else 0) = 0 ∨ isLt (if isLt (chr t q) then chr t q else 0) := by
    by_cases h : isLt (chr t q)
    · rw [if_pos h]; exact Or.inr h
    · rw [if_neg h]; exact Or.inl rfl
  unfold cmdP
  simp only
  constructor
  · intro f hf
    rcases pb_inl hf with h | ⟨a, ha, hf⟩
    · exact (num_ok p0).1 f h
    obtain ⟨a1, a2, -⟩ := (num_ok p0).2 a.1 a.2 ha
    rcases pb_inl hf with h | ⟨p, hp, hf⟩
    · exact (sgn_ok s1 a2).1 f h
    obtain ⟨b1, b2⟩ := (sgn_ok s1 a2).2 p hp
    rcases pb_inl hf with h | ⟨b, hb, hf⟩
    · exact (num_ok b2).1 f h
    obtain ⟨c1, c2, -⟩ := (num_ok b2).2 b.1 b.2 hb
    by_cases h3 : chr t q = 120 ∨ ¬ isLt (chr t q)
    · rw [if_pos h3] at hf
      rcases pb_inl hf with h | ⟨p', hp', hf⟩
      · exact (sgn_ok s2 c2).1 f h
      obtain ⟨d1, d2⟩ := (sgn_ok s2 c2).2 p' hp'
      rcases pb_inl hf with h | ⟨d, hd, hf⟩
      · exact (num_ok d2).1 f h
      obtain ⟨e1, e2, -⟩ := (num_ok d2).2 d.1 d.2 hd
      rcases pb_inl hf with h | ⟨p'', hp'', hf⟩
      · exact (sgn_ok (by decide) e2).1 f h
      · cases hf
    · rw [if_neg h3] at hf
      rcases pb_inl hf with h | ⟨p'', hp'', hf⟩
      · exact (sgn_ok (by decide) c2).1 f h
      · cases hf
  · intro c pp hf
    obtain ⟨a, ha, hf⟩ := pb_inr hf
    obtain ⟨a1, a2, a3, a4⟩ := (num_ok p0).2 a.1 a.2 ha
    obtain ⟨p, hp, hf⟩ := pb_inr hf
    obtain ⟨b1, b2⟩ := (sgn_ok s1 a2).2 p hp
    obtain ⟨b, hb, hf⟩ := pb_inr hf
    obtain ⟨c1, c2, c3, c4⟩ := (num_ok b2).2 b.1 b.2 hb
    by_cases h3 : chr t q = 120 ∨ ¬ isLt (chr t q)
    · rw [if_pos h3] at hf
      obtain ⟨p', hp', hf⟩ := pb_inr hf
      obtain ⟨d1, d2⟩ := (sgn_ok s2 c2).2 p' hp'
      obtain ⟨d, hd, hf⟩ := pb_inr hf
      obtain ⟨e1, e2, e3, e4⟩ := (num_ok d2).2 d.1 d.2 hd
      obtain ⟨p'', hp'', hf⟩ := pb_inr hf
      obtain ⟨f1, f2⟩ := (sgn_ok (by decide) e2).2 p'' hp''
      have := Sum.inr.inj hf
      cases this
      exact ⟨by omega, f2, kk, a3, a4, c3, c4, e3, e4⟩
    · rw [if_neg h3] at hf
      obtain ⟨p'', hp'', hf⟩ := pb_inr hf
      obtain ⟨f1, f2⟩ := (sgn_ok (by decide) c2).2 p'' hp''
      have := Sum.inr.inj hf
      cases this
      exact ⟨by omega, f2, kk, a3, a4, c3, c4, show (0 : Int) ≤ 0 by decide, show (0 : Int) ≤ 99 by decide⟩
theorem doC_ok {N N' : Net} {c : Cmd} (hN : okN N) (h : doC N c = some N') : okN N' := by
  unfold doC at h
  split at h
  · split at h
    · cases h; exact nCon_okc hN (by assumption)
    · cases h
  · split at h
    · split at h
      · cases h; exact nFor_okc hN (by assumption)
      · cases h
    · split at h
      · split at h
        · rename_i hc
          obtain ⟨q1, q2⟩ := cdSet_0 hc
          cases h; exact nWei_ok hN (by have := q1.1; have := q1.2; omega) q2.1 q2.2
        · cases h
      · split at h
        · rename_i hc
          obtain ⟨q1, q2⟩ := cdSet_0 hc
          cases h; exact nTre_ok hN (by have := q1.1; have := q1.2; omega) q2.1 q2.2
        · cases h
theorem run1_ok {x : Net × Nat} {c : Cmd} (h : okN x.1) : okN (run1 x c).1 := by
  unfold run1
  split
  · rename_i N' e; exact doC_ok h e
  · exact h
theorem runC_ok {N : Net} {l : List Cmd} (h : okN N) : okN (runC N l).1 ∧ (runC N l).2 ≤ l.length := by
  have go : ∀ (l : List Cmd) (x : Net × Nat), okN x.1 → okN (l.foldl run1 x).1 ∧ (l.foldl run1 x).2 ≤ x.2 + l.length := by
    intro l
    induction l with
    | nil => intro x hx; exact ⟨hx, by simp⟩
    | cons c l ih =>
      intro x hx
      obtain ⟨h1, h2⟩ := ih (run1 x c) (run1_ok hx)
      refine ⟨h1, Nat.le_trans h2 ?_⟩
      rw [List.length_cons]
      unfold run1
      split
      · simp only; omega
      · omega
  have := go l (N, 0) h
  simp only [Nat.zero_add] at this
  exact this
/-- the script's commands are no more than its signs -/
theorem scrF_len {t : List Int} (n : Nat) : ∀ p l, p ≤ t.length → scrF t n p = .inr l → l.length ≤ t.length - p := by
  induction n with
  | zero => intro p l _ h; have := Sum.inr.inj h; cases this; simp
  | succ n ih =>
    intro p l hp h
    unfold scrF at h
    split at h
    · have := Sum.inr.inj h; cases this; simp
    · rename_i hlt
      have sk := skp_ok hp
      obtain ⟨c, hc, h⟩ := pb_inr h
      obtain ⟨l', hl', h⟩ := pb_inr h
      obtain ⟨c1, c2, -⟩ := (cmdP_ok (by omega)).2 c.1 c.2 hc
      have := ih c.2 l' c2 hl'
      have := Sum.inr.inj h
      cases this
      rw [List.length_cons]; omega
section MZ
variable {σ : MS} {N : Net} {F : Nat} {A : Ab} {t : List Int}
/-- the reader: at a fault, or at a place -/
def rdX (σ : MS) (t : List Int) (r : Nat ⊕ Nat) : Prop := mT σ t ∧ ∃ p : Nat, mI σ 5 = i32 p ∧ p ≤ t.length ∧ (match r with
  | .inl f => mI σ 6 = i32 f ∧ f ≤ t.length
  | .inr q => mI σ 6 = i32 (-1) ∧ p = q)
theorem mT_get {p : Nat} (h : mT σ t) (hp : p < t.length) : mA σ 3 p = i32 (chr t p) ∧ 32 ≤ chr t p ∧ chr t p ≤ 126 := by
  have e : chr t p = t[p] := getD_at hp
  rw [e]
  exact ⟨h.2.2.2 p hp, h.2.2.1 _ (List.getElem_mem hp)⟩
theorem chr_end {p : Nat} (hp : t.length ≤ p) : chr t p = 0 := by
  unfold chr; rw [List.getD_eq_getElem?_getD, List.getElem?_eq_none hp]; rfl
theorem chr_rng {p : Nat} (h : mT σ t) : 0 ≤ chr t p ∧ chr t p ≤ 126 := by
  by_cases hp : p < t.length
  · have := (mT_get h hp).2; omega
  · rw [chr_end (by omega)]; decide
theorem M_looking_eq {p : Nat} (hT : mT σ t) (hp : mI σ 5 = i32 p) (hl : p ≤ t.length) (hF : 4294967296 < F) : Rt (M_looking F σ) (fun v => v.1 = i32 (chr t (skp t p)) ∧ kp [5] [] [] [] σ v.2 ∧ mI v.2 5 = i32 (skp t p)) := by
  have h120 := hT.2.1
  unfold M_looking
  refine Rt.loop1 (ι := Nat) (fun q τ => kp [5] [] [] [] σ τ ∧ mI τ 5 = i32 q ∧ q ≤ t.length ∧ skp t q = skp t p) (fun q => t.length - q) ?_ F p _ ⟨kp.rf, hp, hl, rfl⟩ (by omega)
  rintro n q τ ⟨h1, h2, h3, h4⟩ ih
  have hTt := hT.kp h1
  have fin : (t.length ≤ q ∨ chr t q ≠ 32) → Rt (M_looking_38 F τ) (fun v => v.1 = i32 (chr t (skp t p)) ∧ kp [5] [] [] [] σ v.2 ∧ mI v.2 5 = i32 (skp t p)) := by
    intro h5
    have e : skp t p = q := by rw [← h4]; exact skp_stop h5
    unfold M_looking_38
    rw [hTt.1, h2]
    simp (disch := omega) only [i_le, i_lt, i_eq]
    refine Rt.ite (fun h6 => ?_) (fun h6 => ?_)
    · exact Rt.some ⟨by rw [e, chr_end (by omega)]; rfl, h1, by rw [e]; exact h2⟩
    · rw [rdI_i (by omega) (by omega) (by omega)]
      exact Rt.let (Rt.some ⟨by rw [e]; exact (mT_get hTt (by omega)).1, h1, by rw [e]; exact h2⟩)
  unfold M_looking_0
  rw [hTt.1, h2]
  simp (disch := omega) only [i_le, i_lt, i_eq]
  refine Rt.ite (fun h5 => fin (Or.inl (by omega))) (fun h5 => ?_)
  rw [rdI_i (by omega) (by omega) (by omega)]
  have g := mT_get hTt (show q < t.length by omega)
  simp only [Option.bind_eq_bind, Option.bind_some, Int.toNat_natCast, g.1]
  refine Rt.ite (fun h6 => ?_) (fun h6 => ?_)
  · rw [i_c32, i_eq (by omega) (by omega) (by omega) (by omega)] at h6
    simp only [i_c0, i_c1, i_c2, i_c3, i_c4, i_c5, i_c6, i_c8, i_c9, i_c10, i_c12, i_c16, i_c17, i_c18, i_c31, i_c32, i_c45, i_c48, i_c50, i_c54, i_c55, i_c57, i_c58, i_c59, i_c61, i_c64, i_c73, i_c118, i_c119, i_c120, i_c126, i_c365, i_c1000, i_cFAR, i_add, i_sub, i_mul, i_neg]
    exact ih (q + 1) _ ⟨kp.tr h1 kp.sI, rfl, by omega, by rw [← skp_step (by omega) h6]; exact h4⟩ (by omega)
  · rw [i_c32, i_eq (by omega) (by omega) (by omega) (by omega)] at h6
    exact fin (Or.inr h6)
theorem M_isDigit_eq {p : Nat} (hT : mT σ t) (hp : mI σ 5 = i32 p) (hl : p ≤ t.length) : M_isDigit σ = some (i32 (tr01 (dig (chr t p)))) := by
  have h120 := hT.2.1
  have : Rt (M_isDigit σ) (fun v => v = i32 (tr01 (dig (chr t p)))) := by
    unfold M_isDigit
    rw [hT.1, hp]
    simp (disch := omega) only [i_le, i_lt, i_eq]
    refine Rt.ite (fun h => ?_) (fun h => ?_)
    · exact Rt.some (by rw [chr_end (by omega), tr01_neg (by decide)]; rfl)
    · have g := mT_get hT (show p < t.length by omega)
      rw [rdI_i (by omega) (by omega) (by omega)]
      simp only [Int.toNat_natCast, g.1]
      refine Rt.let (Rt.tst (M_within_t (lo := 48) (hi := 57) ⟨by omega, by omega⟩ (by decide) (by decide)) (fun h2 => ?_) (fun h2 => ?_))
      · exact Rt.some (by rw [tr01_neg h2]; rfl)
      · exact Rt.some (by rw [tr01_pos h2]; rfl)
  obtain ⟨r, e, rfl⟩ := this
  exact e
def fpl (r : Nat ⊕ Nat) : Nat := match r with
  | .inl f => f
  | .inr q => q
theorem M_fails_eq {r : Nat ⊕ Nat} (h : rdX σ t r) : ∃ τ, M_fails σ = some τ ∧ kp [5, 6] [] [] [] σ τ ∧ rdX τ t (.inl (fpl r)) := by
  obtain ⟨hT, p, h1, h2, h3⟩ := h
  have h120 := hT.2.1
  unfold M_fails
  match r, h3 with
  | .inl f, h3 =>
    rw [h3.1, if_neg (by rw [show (-1 : Int32) = i32 (-1) from rfl, i_eq (by omega) (by omega) (by omega) (by omega)]; omega)]
    exact ⟨_, rfl, kp.sI, hT.kp (kp.sI (iS := [6]) (lS := []) (aS := []) (bS := [])), p, h1, h2, rfl, h3.2⟩
  | .inr q, h3 =>
    obtain ⟨h3, rfl⟩ := h3
    rw [h3, if_pos (show i32 (-1) = -1 from rfl)]
    exact ⟨_, rfl, kp.sI, hT.kp (kp.sI (iS := [6]) (lS := []) (aS := []) (bS := [])), p, h1, h2, h1, h2⟩
def snd2 (r : Nat ⊕ (Int × Nat)) : Nat ⊕ Nat := pb r (fun a => .inr a.2)
theorem M_number_eq {r : Nat ⊕ Nat} (h : rdX σ t r) (hF : 4294967296 < F) : Rt (M_number F σ) (fun v => kp [5, 6] [] [] [] σ v.2 ∧ rdX v.2 t (snd2 (pb r (num t))) ∧ ∀ y q, pb r (num t) = .inr (y, q) → v.1 = i32 y) := by
  obtain ⟨hT, p, h1, h2, h3⟩ := h
  have h120 := hT.2.1
  unfold M_number
  refine Rt.bind (M_looking_eq hT h1 h2 hF) ?_
  rintro ⟨c, τ⟩ ⟨rfl, k1', k2'⟩
  have hTt := hT.kp k1'
  have sk := skp_ok h2
  have w6 : mI τ 6 = mI σ 6 := k1'.1 6 (by decide)
  show Rt (if mI τ 6 = -1 then _ else _) _
  match r, h3 with
  | .inl f, h3 =>
    rw [w6, h3.1, if_neg (by rw [show (-1 : Int32) = i32 (-1) from rfl, i_eq (by omega) (by omega) (by omega) (by omega)]; omega)]
    have hX : rdX τ t (.inl f) := ⟨hTt, skp t p, k2', sk.2.1, by rw [w6]; exact h3.1, h3.2⟩
    obtain ⟨υ, f1, f2, f3⟩ := M_fails_eq hX
    unfold M_number_20
    rw [f1]
    exact Rt.let (Rt.some ⟨kp.tr k1'.le f2, f3, fun y q z => by cases z⟩)
  | .inr q, h3 =>
    obtain ⟨h3, rfl⟩ := h3
    rw [w6, h3, if_pos (show i32 (-1) = -1 from rfl)]
    refine Rt.tst (M_isDigit_eq hTt k2' sk.2.1) (fun d1 => ?_) (fun d1 => ?_)
    · have hX : rdX τ t (.inr (skp t p)) := ⟨hTt, skp t p, k2', sk.2.1, by rw [w6]; exact h3, rfl⟩
      obtain ⟨υ, f1, f2, f3⟩ := M_fails_eq hX
      have en : num t p = .inl (skp t p) := by unfold num; simp only; rw [if_neg d1]
      unfold M_number_20
      simp only at f3 ⊢
      rw [f1]
      refine Rt.let (Rt.some ⟨kp.tr k1'.le f2, ?_, fun y q z => ?_⟩)
      · show rdX υ t (snd2 (num t p)); rw [en]; exact f3
      · have : num t p = .inr (y, q) := z
        rw [en] at this; cases this
    · have l1 : skp t p < t.length := chr_lt (by omega)
      have g1 := mT_get hTt l1
      show Rt ((rdI (mA τ 3) 120 (mI τ 5)) >>= _) _
      rw [k2', rdI_i (by omega) (by omega) (by omega)]
      simp only [Int.toNat_natCast, g1.1, Option.bind_eq_bind, Option.bind_some, i_c0, i_c1, i_c2, i_c3, i_c4, i_c5, i_c6, i_c8, i_c9, i_c10, i_c12, i_c16, i_c17, i_c18, i_c31, i_c32, i_c45, i_c48, i_c50, i_c54, i_c55, i_c57, i_c58, i_c59, i_c61, i_c64, i_c73, i_c118, i_c119, i_c120, i_c126, i_c365, i_c1000, i_cFAR, i_add, i_sub, i_mul, i_neg]
      have hT1 : mT (sI τ 5 (i32 ((skp t p : Int) + 1))) t := hTt.kp (kp.sI (iS := [5]) (lS := []) (aS := []) (bS := []))
      have p1 : mI (sI τ 5 (i32 ((skp t p : Int) + 1))) 5 = i32 ((skp t p + 1 : Nat) : Int) := rfl
      have last : ∀ (υ : MS) (v : Int) (q : Nat), kp [5] [] [] [] σ υ → mT υ t → mI υ 5 = i32 q → q ≤ t.length → (¬ dig (chr t q) → num t p = .inr (v, q)) → (dig (chr t q) → num t p = .inl q) →
          Rt (M_number_84 F (i32 v) υ) (fun v => kp [5, 6] [] [] [] σ v.2 ∧ rdX v.2 t (snd2 (pb (.inr p) (num t))) ∧ ∀ y q, pb (.inr p) (num t) = .inr (y, q) → v.1 = i32 y) := by
        intro υ v q u1 u2 u3 u4 u5 u6
        have w6' : mI υ 6 = i32 (-1) := by rw [u1.1 6 (by decide)]; exact h3
        unfold M_number_84
        refine Rt.tst (M_isDigit_eq u2 u3 u4) (fun d => ?_) (fun d => ?_)
        · refine Rt.some ⟨u1.le, ?_, fun y q' z => ?_⟩
          · show rdX υ t (snd2 (num t p)); rw [u5 d]; exact ⟨u2, q, u3, u4, w6', rfl⟩
          · have : num t p = .inr (y, q') := z
            rw [u5 d] at this; cases this; rfl
        · obtain ⟨φ, f1, f2, f3⟩ := M_fails_eq (t := t) (r := .inr q) ⟨u2, q, u3, u4, w6', rfl⟩
          rw [f1]
          refine Rt.let (Rt.some ⟨kp.tr u1.le f2, ?_, fun y q' z => ?_⟩)
          · show rdX φ t (snd2 (num t p)); rw [u6 d]; exact f3
          · have : num t p = .inr (y, q') := z
            rw [u6 d] at this; cases this
      rw [M_isDigit_eq hT1 p1 (by omega)]
      simp only [Option.bind_eq_bind, Option.bind_some]
      refine Rt.ite (fun d2 => ?_) (fun d2 => ?_)
      · have d2' := tr01_n d2
        refine last _ (chr t (skp t p) - 48) (skp t p + 1) (kp.tr k1' kp.sI) hT1 p1 (by omega) (fun _ => ?_) (fun z => absurd z d2')
        unfold num; simp only; rw [if_pos d1, if_neg d2']
      · have d2' := tr01_y d2
        have l2 : skp t p + 1 < t.length := chr_lt (by omega)
        have g2 := mT_get hT1 l2
        rw [p1, rdI_i (by omega) (by omega) (by omega)]
        simp only [Int.toNat_natCast, g2.1, Option.bind_eq_bind, Option.bind_some, i_add, i_sub, i_mul, i_neg]
        refine last _ _ (skp t p + 2) (kp.tr k1' (kp.tr kp.sI kp.sI)) (hT1.kp (kp.sI (iS := [5]) (lS := []) (aS := []) (bS := []))) rfl (by omega) (fun d3 => ?_) (fun d3 => ?_)
        · unfold num; simp only; rw [if_pos d1, if_pos d2', if_neg d3]
        · unfold num; simp only; rw [if_pos d1, if_pos d2', if_pos d3]
theorem M_sign_eq {r : Nat ⊕ Nat} {c : Int} (h : rdX σ t r) (hc : 1 ≤ c) (hc2 : c ≤ 126) (hF : 4294967296 < F) : Rt (M_sign F σ (i32 c)) (fun τ => kp [5, 6] [] [] [] σ τ ∧ rdX τ t (pb r (sgn t c))) := by
  have hX := h
  obtain ⟨hT, p, h1, h2, h3⟩ := h
  have h120 := hT.2.1
  unfold M_sign
  match r, h3, hX with
  | .inl f, h3, hX =>
    rw [h3.1, if_neg (by rw [show (-1 : Int32) = i32 (-1) from rfl, i_eq (by omega) (by omega) (by omega) (by omega)]; omega)]
    obtain ⟨υ, f1, f2, f3⟩ := M_fails_eq hX
    rw [f1]
    exact Rt.let (Rt.some ⟨f2, f3⟩)
  | .inr q, h3, hX =>
    obtain ⟨h3, rfl⟩ := h3
    rw [h3, if_pos (show i32 (-1) = -1 from rfl)]
    refine Rt.bind (M_looking_eq hT h1 h2 hF) ?_
    rintro ⟨d, τ⟩ ⟨rfl, k1', k2'⟩
    have hTt := hT.kp k1'
    have sk := skp_ok h2
    have cr := chr_rng (p := skp t p) hT
    have w6 : mI τ 6 = i32 (-1) := by rw [k1'.1 6 (by decide)]; exact h3
    show Rt (if i32 (chr t (skp t p)) = i32 c then _ else _) _
    simp (disch := omega) only [i_le, i_lt, i_eq]
    refine Rt.ite (fun h4 => ?_) (fun h4 => ?_)
    · have l1 : skp t p < t.length := chr_lt (by omega)
      refine Rt.let (Rt.some ⟨kp.tr k1'.le kp.sI, ?_⟩)
      show rdX _ t (sgn t c p)
      unfold sgn
      rw [if_pos h4]
      exact ⟨hTt.kp (kp.sI (iS := [5]) (lS := []) (aS := []) (bS := [])), skp t p + 1, by rw [mI_sI, if_pos rfl, k2', i_c1, i_add]; rfl, by omega, w6, rfl⟩
    · obtain ⟨υ, f1, f2, f3⟩ := M_fails_eq (t := t) (r := .inr (skp t p)) ⟨hTt, skp t p, k2', sk.2.1, w6, rfl⟩
      show Rt ((M_fails τ) >>= _) _
      rw [f1]
      refine Rt.let (Rt.some ⟨kp.tr k1'.le f2, ?_⟩)
      show rdX υ t (sgn t c p)
      unfold sgn
      rw [if_neg h4]; exact f3
end MZ
