/-! BEST PLACES OF THE MODEL: heights and costs as plain numbers; centers, medians -/
/-- a loop: with fuel beyond the measure it ends, and ends well -/
theorem Rt.loop {ι α β ρ : Type} {f : Nat → α → β → Option ρ} {Q : ρ → Prop} (I : ι → α → β → Prop) (m : ι → Nat)
    (step : ∀ n i a b, I i a b → (∀ j c d, I j c d → m j < m i → Rt (f n c d) Q) → Rt (f (n + 1) a b) Q) : ∀ n i a b, I i a b → m i < n → Rt (f n a b) Q := by
  intro n
  induction n with
  | zero => intro i a b _ h; omega
  | succ n ih => intro i a b hI h; exact step n i a b hI (fun j c d hj hm => ih j c d hj (by omega))
theorem Rt.loop3 {ι α β γ ρ : Type} {f : Nat → α → β → γ → Option ρ} {Q : ρ → Prop} (I : ι → α → β → γ → Prop) (m : ι → Nat)
    (step : ∀ n i a b c, I i a b c → (∀ j a b c, I j a b c → m j < m i → Rt (f n a b c) Q) → Rt (f (n + 1) a b c) Q) : ∀ n i a b c, I i a b c → m i < n → Rt (f n a b c) Q := by
  intro n
  induction n with
  | zero => intro i a b c _ h; omega
  | succ n ih => intro i a b c hI h; exact step n i a b c hI (fun j a b c hj hm => ih j a b c hj (by omega))
theorem Rt.loop4 {ι α β γ δ ρ : Type} {f : Nat → α → β → γ → δ → Option ρ} {Q : ρ → Prop} (I : ι → α → β → γ → δ → Prop) (m : ι → Nat)
    (step : ∀ n i a b c d, I i a b c d → (∀ j a b c d, I j a b c d → m j < m i → Rt (f n a b c d) Q) → Rt (f (n + 1) a b c d) Q) : ∀ n i a b c d, I i a b c d → m i < n → Rt (f n a b c d) Q := by
  intro n
  induction n with
  | zero => intro i a b c d _ h; omega
  | succ n ih => intro i a b c d hI h; exact step n i a b c d hI (fun j a b c d hj hm => ih j a b c d hj (by omega))
theorem Rt.loop1 {ι α ρ : Type} {f : Nat → α → Option ρ} {Q : ρ → Prop} (I : ι → α → Prop) (m : ι → Nat)
    (step : ∀ n i a, I i a → (∀ j b, I j b → m j < m i → Rt (f n b) Q) → Rt (f (n + 1) a) Q) : ∀ n i a, I i a → m i < n → Rt (f n a) Q := by
  intro n
  induction n with
  | zero => intro i a _ h; omega
  | succ n ih => intro i a hI h; exact step n i a hI (fun j b hj hm => ih j b hj (by omega))
theorem Rt.bindO {α ρ : Type} {F : Option α} {P : α → Prop} {G : α → Option ρ} {Q : ρ → Prop} (h : Rt F P) (k : ∀ a, P a → Rt (G a) Q) : Rt (Option.bind F G) Q := Rt.bind h k
theorem tr01_zi {c : Prop} : i32 (tr01 c) = i32 0 ↔ ¬ c := by rw [tr01_zero]
theorem tr01_n {c : Prop} (h : i32 (tr01 c) = i32 0) : ¬ c := tr01_zi.mp h
theorem tr01_y {c : Prop} (h : ¬ i32 (tr01 c) = i32 0) : c := Classical.byContradiction (fun z => h (tr01_zi.mpr z))
theorem mul_min {w a b : Int} (h : 0 ≤ w) : w * min a b = min (w * a) (w * b) := by
  by_cases h1 : a ≤ b
  · rw [Int.min_eq_left h1, Int.min_eq_left (Int.mul_le_mul_of_nonneg_left h1 h)]
  · rw [Int.min_eq_right (by omega), Int.min_eq_right (Int.mul_le_mul_of_nonneg_left (by omega) h)]
theorem nf_Lw {N : Net} {w : Nat → Int} {e i : Nat} {x : Fq} (hw : 0 ≤ w i) : nf (Lw N w e) i x = w i * awy N i e x := by
  unfold awy
  rw [mul_min hw]
  unfold nf Lw lnv
  congr 1 <;> (simp only; grind)
theorem hgF_spec (v : Nat → Int) (s m : Nat) : 0 ≤ hgF v s m ∧ (∀ i, i < m → s.testBit i = true → v i ≤ hgF v s m) ∧ (hgF v s m = 0 ∨ ∃ i, i < m ∧ s.testBit i = true ∧ v i = hgF v s m) := by
  induction m with
  | zero => exact ⟨Int.le_refl _, fun i hi => by omega, Or.inl rfl⟩
  | succ m ih =>
    obtain ⟨h1, h2, h3⟩ := ih
    have e : hgF v s (m + 1) = max (hgF v s m) (if s.testBit m = true then v m else 0) := rfl
    rw [e]
    by_cases hb : s.testBit m = true
    · rw [if_pos hb]
      refine ⟨by omega, fun i hi hbi => ?_, ?_⟩
      · by_cases eq : i = m
        · subst eq; omega
        · have := h2 i (by omega) hbi; omega
      · by_cases hv : hgF v s m ≤ v m
        · exact Or.inr ⟨m, by omega, hb, by omega⟩
        · rcases h3 with h3 | ⟨i, hi, hbi, h3⟩
          · left; omega
          · right; exact ⟨i, by omega, hbi, by omega⟩
    · rw [if_neg hb]
      refine ⟨by omega, fun i hi hbi => ?_, ?_⟩
      · by_cases eq : i = m
        · subst eq; exact absurd hbi hb
        · have := h2 i (by omega) hbi; omega
      · rcases h3 with h3 | ⟨i, hi, hbi, h3⟩
        · left; omega
        · right; exact ⟨i, by omega, hbi, by omega⟩
def okw0 (m : Nat) (w : Nat → Int) : Prop := ∀ i, i < m → 0 ≤ w i
theorem okw9.ok0 {m : Nat} {w : Nat → Int} (h : okw9 m w) : okw0 m w := fun i hi => (h i hi).1
theorem hgt_isH {N : Net} {w : Nat → Int} {s e : Nat} {x : Fq} (hw : okw0 (nN N) w) : isH (bits N s) (Lw N w e) x (hgt N w s e x) := by
  obtain ⟨h1, h2, h3⟩ := hgF_spec (fun i => w i * awy N i e x) s (nN N)
  refine ⟨h1, fun i hi => ?_, ?_⟩
  · rw [nf_Lw (hw i hi.1)]; exact h2 i hi.1 hi.2
  · rcases h3 with h3 | ⟨i, hi, hb, h3⟩
    · exact Or.inl h3
    · exact Or.inr ⟨i, ⟨hi, hb⟩, by rw [nf_Lw (hw i hi)]; exact h3⟩
theorem cos_cst {N : Net} {w : Nat → Int} {e : Nat} {x : Fq} (hw : okw0 (nN N) w) : cos_ N w e x = cst (Lw N w e) (nN N) x := by
  unfold cos_
  have go : ∀ m, m ≤ nN N → csF (fun i => w i * awy N i e x) m = cst (Lw N w e) m x := by
    intro m
    induction m with
    | zero => intro _; rfl
    | succ m ih =>
      intro hm
      simp only [csF, cst]
      rw [ih (by omega), nf_Lw (hw m (by omega))]
  exact go _ (Nat.le_refl _)
theorem awy_nn {N : Net} {i e : Nat} {x : Fq} (hN : okN N) (he : e < eN N) (hx : inE (ed N e).2.2 x) : 0 ≤ awy N i e x := by
  obtain ⟨a1, a2, a3, a4, a5⟩ := hN.2.2.2.2.1 e he
  have hI := okN_D hN
  have m1 := Int.mul_nonneg (hI.2.1 i (ed N e).1) (Int.le_of_lt hx.1)
  have m2 := Int.mul_nonneg (hI.2.1 i (ed N e).2.1) (Int.le_of_lt hx.1)
  obtain ⟨x1, x2, x3⟩ := hx
  unfold awy
  rw [Int.add_mul]
  omega
/-- the best of all allowed places of the network -/
def ctrP (N : Net) (H : Nat → Fq → Int) (e : Nat) (x : Fq) : Prop := e < eN N ∧ inE (ed N e).2.2 x ∧ alw (sts N e) x ∧ ∀ e' y, e' < eN N → inE (ed N e').2.2 y → alw (sts N e') y → bq H e x e' y
theorem ctrP_uniq {N : Net} {H : Nat → Fq → Int} {e e' : Nat} {x y : Fq} (h : ctrP N H e x) (h2 : ctrP N H e' y) : e = e' ∧ feq x y ∧ feq (H e x, x.2) (H e' y, y.2) :=
  bq_anti h.2.1.1 h2.2.1.1 (h.2.2.2 e' y h2.1 h2.2.1 h2.2.2.1) (h2.2.2.2 e x h.1 h.2.1 h.2.2.1)
def lenN (N : Net) (e : Nat) : Int := (ed N e).2.2
def alN (N : Net) (e : Nat) (x : Fq) : Prop := alw (sts N e) x
theorem ctrP_of {N : Net} {H : Nat → Fq → Int} {cs : Nat → List Fq} {e : Nat} {x : Fq} (hd : desc (eN N) (lenN N) (alN N) H cs) (hr : ∀ e c, e < eN N → c ∈ cs e → inE (lenN N e) c) (hb : isBest (eN N) (alN N) H cs e x) : ctrP N H e x := by
  have px := hr e x hb.1 hb.2.1
  refine ⟨hb.1, px, hb.2.2.1, fun e' y he hy ha => ?_⟩
  obtain ⟨c, hc, ac, kc⟩ := hd e' y he hy ha
  exact bq_trans px.1 (hr e' c he hc).1 hy.1 (hb.2.2.2 e' c he hc ac) kc
theorem desc_hgt {N : Net} {w : Nat → Int} {s : Nat} {cs : Nat → List Fq} (hN : okN N) (hw : okw0 (nN N) w) (h : ∀ e, e < eN N → cdB (ed N e).2.2 (sts N e) (cs e) ∧ cdX (bits N s) (Lw N w e) (ed N e).2.2 (cs e)) : desc (eN N) (lenN N) (alN N) (hgt N w s) cs := by
  intro e x he hx ha
  obtain ⟨c, hc, ac, k⟩ := descH (h e he).1 (h e he).2 (fun i y hi hy => by rw [nf_Lw (hw i hi.1)]; exact Int.mul_nonneg (hw i hi.1) (awy_nn hN he hy)) hx ha (hgt_isH hw)
  refine ⟨c, hc, ac, ?_⟩
  rcases k _ (hgt_isH hw) with k | ⟨k, k2⟩
  · exact Or.inl k
  · rcases k with k | k
    · exact Or.inr ⟨k, Or.inr ⟨rfl, k2⟩⟩
    · exact Or.inl k
theorem desc_cos {N : Net} {w : Nat → Int} {cs : Nat → List Fq} (hw : okw0 (nN N) w) (h : ∀ e, e < eN N → cdB (ed N e).2.2 (sts N e) (cs e) ∧ cdO (fun i => i < nN N) (Lw N w e) (ed N e).2.2 (cs e)) : desc (eN N) (lenN N) (alN N) (cos_ N w) cs := by
  intro e x he hx ha
  obtain ⟨c, hc, ac, k⟩ := descC (h e he).1 (h e he).2 hx ha
  refine ⟨c, hc, ac, ?_⟩
  rw [← cos_cst hw, ← cos_cst hw] at k
  rcases k with k | ⟨k, k2⟩
  · exact Or.inl k
  · exact Or.inr ⟨k, Or.inr ⟨rfl, k2⟩⟩
def allN (N : Net) : Nat := 2 ^ nN N - 1
theorem allN_bits {N : Net} {i : Nat} : bits N (allN N) i ↔ i < nN N := by
  unfold bits allN
  rw [Nat.testBit_two_pow_sub_one]
  simp
theorem allN_lt {N : Net} (h : okN N) : allN N < 256 := by
  have := Nat.pow_le_pow_right (n := 2) (by decide) h.2.1
  unfold allN; omega
theorem i_all {N : Net} (h : okN N) : (i32 1 <<< (i32 (nN N : Int) &&& i32 31)) - i32 1 = i32 (allN N : Int) := by
  have h8 := h.2.1
  have hp : 1 ≤ 2 ^ nN N := Nat.one_le_two_pow
  rw [i_shl h8, i_sub]
  congr 1; unfold allN; omega
section ME
variable {σ : MS} {N : Net} {F : Nat} {w : Nat → Int}
/-- the best place so far -/
def bstA (σ : MS) (e : Nat) (x : Fq) (h : Int) : Prop := mI σ 4 = i32 e ∧ mL σ 0 = j64 x.1 ∧ mL σ 1 = j64 x.2 ∧ mL σ 2 = j64 h
def bst (N : Net) (H : Nat → Fq → Int) (σ : MS) (e0 : Nat) (seen : Nat → Fq → Prop) : Prop := (mI σ 4 = i32 (-1) ∧ ∀ e y, ¬ seen e y) ∨
  ∃ e x, bstA σ e x (H e x) ∧ e ≤ e0 ∧ seen e x ∧ ∀ e' y, seen e' y → bq H e x e' y
theorem bst.kp {H : Nat → Fq → Int} {τ : MS} {e0 : Nat} {seen : Nat → Fq → Prop} {iS lS aS bS : List Nat} (h : bst N H σ e0 seen) (hk : kp iS lS aS bS σ τ) (h4 : 4 ∉ iS := by decide) (h0 : 0 ∉ lS := by decide) (h1 : 1 ∉ lS := by decide) (h2 : 2 ∉ lS := by decide) : bst N H τ e0 seen := by
  rcases h with ⟨a, b⟩ | ⟨e, x, a, b⟩
  · exact Or.inl ⟨by rw [hk.1 4 h4]; exact a, b⟩
  · exact Or.inr ⟨e, x, ⟨by rw [hk.1 4 h4]; exact a.1, by rw [hk.2.1 0 h0]; exact a.2.1, by rw [hk.2.1 1 h1]; exact a.2.2.1, by rw [hk.2.1 2 h2]; exact a.2.2.2⟩, b⟩
theorem bst.same {H : Nat → Fq → Int} {e0 e1 : Nat} {seen seen' : Nat → Fq → Prop} (h : bst N H σ e0 seen) (he : e0 ≤ e1) (hs : ∀ e y, seen e y ↔ seen' e y) : bst N H σ e1 seen' := by
  rcases h with ⟨a, b⟩ | ⟨e, x, a, b, c, d⟩
  · exact Or.inl ⟨a, fun e y z => b e y ((hs e y).mpr z)⟩
  · exact Or.inr ⟨e, x, a, by omega, (hs e x).mp c, fun e' y z => d e' y ((hs e' y).mpr z)⟩
/-- a value that is small -/
def smV (x : Fq) (h : Int) : Prop := 0 < x.2 ∧ x.2 ≤ 1000 ∧ 0 ≤ x.1 ∧ x.1 ≤ 50000 ∧ 0 ≤ h ∧ h ≤ 100000000000
theorem M_tries_eq {H : Nat → Fq → Int} {e : Nat} {x : Fq} {seen : Nat → Fq → Prop} (he : e < 100) (hx : smV x (H e x)) (hsm : ∀ e' y, seen e' y → smV y (H e' y)) (hb : bst N H σ e seen) :
    Rt (M_tries σ (i32 e) (j64 x.1) (j64 x.2) (j64 (H e x))) (fun τ => kp [4] [0, 1, 2] [] [] σ τ ∧ bst N H τ e (fun e' y => seen e' y ∨ e' = e ∧ y = x)) := by
  obtain ⟨x1, x2, x3, x4, x5, x6⟩ := hx
  have new : (∀ e' y, seen e' y → bq H e x e' y) → Rt (M_tries_69 (i32 e) (j64 x.1) (j64 x.2) (j64 (H e x)) σ) (fun τ => kp [4] [0, 1, 2] [] [] σ τ ∧ bst N H τ e (fun e' y => seen e' y ∨ e' = e ∧ y = x)) := by
    intro hq
    unfold M_tries_69 M_tries_74
    rw [if_neg (by decide)]
    refine Rt.of rfl ⟨kp.tr kp.sI (kp.tr kp.sL (kp.tr kp.sL kp.sL)), Or.inr ⟨e, x, ⟨rfl, rfl, rfl, rfl⟩, Nat.le_refl _, Or.inr ⟨rfl, rfl⟩, ?_⟩⟩
    rintro e' y (h | ⟨rfl, rfl⟩)
    · exact hq e' y h
    · exact Or.inr ⟨feq_refl _, Or.inr ⟨rfl, fle_refl _⟩⟩
  unfold M_tries
  rcases hb with ⟨b1, b2⟩ | ⟨e', y, ⟨b1, b2, b3, b4⟩, b5, b6, b7⟩
  · rw [b1, if_pos (show i32 (-1) = -1 from rfl)]
    exact new (fun e' y h => absurd h (b2 e' y))
  · obtain ⟨y1, y2, y3, y4, y5, y6⟩ := hsm e' y b6
    have keep : bq H e' y e x → Rt (M_tries_73 (i32 e) (j64 x.1) (j64 x.2) (j64 (H e x)) σ) (fun τ => kp [4] [0, 1, 2] [] [] σ τ ∧ bst N H τ e (fun e' y => seen e' y ∨ e' = e ∧ y = x)) := by
      intro hq
      unfold M_tries_73 M_tries_74
      rw [if_pos rfl]
      refine Rt.some ⟨kp.rf, Or.inr ⟨e', y, ⟨b1, b2, b3, b4⟩, b5, Or.inl b6, ?_⟩⟩
      rintro e'' z (h | ⟨rfl, rfl⟩)
      · exact b7 e'' z h
      · exact hq
    have better : bq H e x e' y → Rt (M_tries_69 (i32 e) (j64 x.1) (j64 x.2) (j64 (H e x)) σ) (fun τ => kp [4] [0, 1, 2] [] [] σ τ ∧ bst N H τ e (fun e' y => seen e' y ∨ e' = e ∧ y = x)) :=
      fun hq => new (fun e'' z h => bq_trans x1 y1 (hsm e'' z h).1 hq (b7 e'' z h))
    have m1 := mul_rng (a := H e x) (b := y.2) (A := 100000000000) (B := 1000) x5 x6 (by omega) y2
    have m2 := mul_rng (a := H e' y) (b := x.2) (A := 100000000000) (B := 1000) y5 y6 (by omega) x2
    have m3 := mul_rng (a := x.1) (b := y.2) (A := 50000) (B := 1000) x3 x4 (by omega) y2
    have m4 := mul_rng (a := y.1) (b := x.2) (A := 50000) (B := 1000) y3 y4 (by omega) x2
    rw [b1, b2, b3, b4]
    simp (disch := omega) only [j_add, j_sub, j_mul, j_neg, j_le, j_lt, j_eq, i_le, i_lt, i_eq, show (-1 : Int32) = i32 (-1) from rfl]
    rw [if_neg (by omega)]
    refine Rt.ite (fun h => better (Or.inl h)) (fun h => Rt.ite (fun h2 => Rt.ite (fun h3 => ?_) (fun h3 => ?_)) (fun h2 => ?_))
    · have h3' : e' = e := by omega
      subst h3'
      refine Rt.ite (fun h4 => keep (Or.inr ⟨Eq.symm h2, Or.inr ⟨rfl, h4⟩⟩)) (fun h4 => better (Or.inr ⟨h2, Or.inr ⟨rfl, Int.le_of_lt (Int.not_le.mp h4)⟩⟩))
    · exact keep (Or.inr ⟨Eq.symm h2, Or.inl (by omega)⟩)
    · exact keep (Or.inl (show H e' y * x.2 < H e x * y.2 by omega))
/-- the places of an edge, as far as they have been seen -/
def seenK (N : Net) (cs : Nat → List Fq) (e k : Nat) (e' : Nat) (y : Fq) : Prop := alN N e' y ∧ (e' < e ∧ y ∈ cs e' ∨ e' = e ∧ y ∈ (cs e).take k)
theorem seenK_zero {cs : Nat → List Fq} {e k : Nat} (hk : (cs e).length ≤ k) {e' : Nat} {y : Fq} : seenK N cs e k e' y ↔ seenK N cs (e + 1) 0 e' y := by
  unfold seenK
  rw [List.take_of_length_le hk, List.take_zero]
  constructor
  · rintro ⟨a, ⟨b, c⟩ | ⟨rfl, c⟩⟩
    · exact ⟨a, Or.inl ⟨by omega, c⟩⟩
    · exact ⟨a, Or.inl ⟨by omega, c⟩⟩
  · rintro ⟨a, ⟨b, c⟩ | ⟨b, c⟩⟩
    · by_cases h : e' = e
      · subst h; exact ⟨a, Or.inr ⟨rfl, c⟩⟩
      · exact ⟨a, Or.inl ⟨by omega, c⟩⟩
    · cases c
theorem take_mem_succ {α : Type} {l : List α} {k : Nat} (hk : k < l.length) {y : α} : y ∈ l.take (k + 1) ↔ y ∈ l.take k ∨ y = l[k] := by
  rw [List.take_succ_eq_append_getElem hk, List.mem_append, List.mem_singleton]
theorem seenK_no {cs : Nat → List Fq} {e k : Nat} (hk : k < (cs e).length) (ha : ¬ alN N e ((cs e)[k])) {e' : Nat} {y : Fq} : seenK N cs e k e' y ↔ seenK N cs e (k + 1) e' y := by
  unfold seenK
  rw [take_mem_succ hk]
  constructor
  · rintro ⟨a, h | ⟨b, c⟩⟩
    · exact ⟨a, Or.inl h⟩
    · exact ⟨a, Or.inr ⟨b, Or.inl c⟩⟩
  · rintro ⟨a, h | ⟨b, c | c⟩⟩
    · exact ⟨a, Or.inl h⟩
    · exact ⟨a, Or.inr ⟨b, c⟩⟩
    · subst b; subst c; exact absurd a ha
theorem seenK_yes {cs : Nat → List Fq} {e k : Nat} (hk : k < (cs e).length) (ha : alN N e ((cs e)[k])) {e' : Nat} {y : Fq} : (seenK N cs e k e' y ∨ e' = e ∧ y = (cs e)[k]) ↔ seenK N cs e (k + 1) e' y := by
  unfold seenK
  rw [take_mem_succ hk]
  constructor
  · rintro (⟨a, h | ⟨b, c⟩⟩ | ⟨rfl, rfl⟩)
    · exact ⟨a, Or.inl h⟩
    · exact ⟨a, Or.inr ⟨b, Or.inl c⟩⟩
    · exact ⟨ha, Or.inr ⟨rfl, Or.inr rfl⟩⟩
  · rintro ⟨a, h | ⟨b, c | c⟩⟩
    · exact Or.inl ⟨a, Or.inl h⟩
    · exact Or.inl ⟨a, Or.inr ⟨b, c⟩⟩
    · exact Or.inr ⟨b, c⟩
theorem seenK_mem {cs : Nat → List Fq} {e k : Nat} {e' : Nat} {y : Fq} (h : seenK N cs e k e' y) : e' ≤ e ∧ y ∈ cs e' := by
  rcases h with ⟨-, ⟨b, c⟩ | ⟨rfl, c⟩⟩
  · exact ⟨by omega, c⟩
  · exact ⟨Nat.le_refl _, List.mem_of_mem_take c⟩
/-- the best is known when all edges have been seen -/
theorem bst_done {H : Nat → Fq → Int} {cs : Nat → List Fq} (hn : 0 < eN N) (hd : desc (eN N) (lenN N) (alN N) H cs) (hr : ∀ e c, e < eN N → c ∈ cs e → inE (lenN N e) c) (he0 : ∃ y, inE (lenN N 0) y ∧ alN N 0 y) (hb : bst N H σ (eN N) (seenK N cs (eN N) 0)) :
    ∃ e x, bstA σ e x (H e x) ∧ x ∈ cs e ∧ ctrP N H e x := by
  rcases hb with ⟨-, b⟩ | ⟨e, x, a, b, c, d⟩
  · obtain ⟨y, hy, ay⟩ := he0
    obtain ⟨c, hc, ac, -⟩ := hd 0 y hn hy ay
    exact absurd ⟨ac, Or.inl ⟨hn, hc⟩⟩ (b 0 c)
  · rcases c with ⟨al, ⟨c1, c2⟩ | ⟨-, c2⟩⟩
    · refine ⟨e, x, a, c2, ctrP_of hd hr ⟨c1, c2, al, fun e' y he hy ay => d e' y ⟨ay, Or.inl ⟨he, hy⟩⟩⟩⟩
    · rw [List.take_zero] at c2; cases c2
/-- the first end is always allowed -/
theorem end_al {e : Nat} (hN : okN N) (he : e < eN N) : inE (lenN N e) (0, 1) ∧ alN N e (0, 1) := by
  obtain ⟨a1, a2, a3, a4, a5⟩ := hN.2.2.2.2.1 e he
  refine ⟨⟨by simp, by simp, by simp only; unfold lenN; omega⟩, ?_⟩
  unfold alN
  rw [alw_iff]
  intro k hk _ h
  have := hN.2.2.2.2.2.2 k hk
  simp only at h; omega
theorem smC_okx {e : Nat} {cs : List Fq} (hN : okN N) (he : e < eN N) (h : smC (ed N e).2.2 cs) {x : Fq} (hx : x ∈ cs) : okx x ∧ x.1 ≤ (ed N e).2.2 * x.2 ∧ inE (ed N e).2.2 x := by
  obtain ⟨a1, a2, a3, a4, a5⟩ := hN.2.2.2.2.1 e he
  obtain ⟨h1, h2⟩ := h x hx
  have m := mul_rng (a := (ed N e).2.2) (b := x.2) (A := 50) (B := 198) (by omega) a5 (Int.le_of_lt h1.1) h2
  exact ⟨⟨h1.1, by omega, h1.2.1, by have := h1.2.2; omega⟩, h1.2.2, h1⟩
theorem hgt_rng {s e : Nat} {x : Fq} (hN : okN N) (hc : cnN N) (hw9 : okw9 (nN N) w) (he : e < eN N) (hx : okx x) (hxl : x.1 ≤ (ed N e).2.2 * x.2) : 0 ≤ hgt N w s e x ∧ hgt N w s e x ≤ 1272150000 :=
  hgF_rng (by omega) (fun i hi => by
    have := wa_rng hN hc hi he hx hxl
    exact mul_rng (A := 99) (B := 12850000) (hw9 i hi).1 (hw9 i hi).2 this.1 this.2)
theorem cos_rng {e : Nat} {x : Fq} (hN : okN N) (hc : cnN N) (hw9 : okw9 (nN N) w) (he : e < eN N) (hx : okx x) (hxl : x.1 ≤ (ed N e).2.2 * x.2) : 0 ≤ cos_ N w e x ∧ cos_ N w e x ≤ 10177200000 := by
  have h8 := hN.2.1
  have := csF_rng (v := fun i => w i * awy N i e x) (m := nN N) (B := 1272150000) (fun i hi => by
    have := wa_rng hN hc hi he hx hxl
    exact mul_rng (A := 99) (B := 12850000) (hw9 i hi).1 (hw9 i hi).2 this.1 this.2)
  unfold cos_; omega
theorem crl_get {cs : List Fq} {k : Nat} (hc : crl σ cs) (hk : k < cs.length) : mB σ 0 k = j64 cs[k].1 ∧ mB σ 1 k = j64 cs[k].2 := by
  have := hc.2 k hk
  rw [getD_at hk] at this
  exact this
theorem crl.kp {cs : List Fq} {τ : MS} {iS lS aS bS : List Nat} (h : crl σ cs) (hk : kp iS lS aS bS σ τ) (h3 : 3 ∉ iS := by decide) (h0 : 0 ∉ bS := by decide) (h1 : 1 ∉ bS := by decide) : crl τ cs :=
  ⟨by rw [hk.1 3 h3]; exact h.1, fun k hk' => by rw [hk.2.2.2 0 h0, hk.2.2.2 1 h1]; exact h.2 k hk'⟩
/-- what the loops over the edges keep -/
def cenI (N : Net) (w : Nat → Int) (s : Nat) (H : Nat → Fq → Int) (σ τ : MS) (cs : Nat → List Fq) (e : Nat) : Prop := kp [3, 4] [0, 1, 2] [] [0, 1] σ τ ∧ (∀ e', e' < e → coreC N w s e' (cs e')) ∧ bst N H τ e (seenK N cs e 0)
theorem cen_upd {cs : Nat → List Fq} {ds : List Fq} {e e' : Nat} {y : Fq} : seenK N (fun j => if j = e then ds else cs j) e 0 e' y ↔ seenK N cs e 0 e' y := by
  unfold seenK
  simp only [List.take_zero, List.not_mem_nil, and_false, or_false]
  constructor
  · rintro ⟨a, b, c⟩
    rw [if_neg (by omega)] at c; exact ⟨a, b, c⟩
  · rintro ⟨a, b, c⟩
    refine ⟨a, b, ?_⟩
    rw [if_neg (by omega)]; exact c
--BEGIN CEN
theorem M_centers_eq {s : Nat} (hI : lcI N w σ) (hc : cnN N) (hw9 : okw9 (nN N) w) (hn : 0 < eN N) (hs : s < 256) (hF : 160 < F) :
    Rt (M_centers F σ (i32 s)) (fun τ => kp [3, 4] [0, 1, 2] [] [0, 1] σ τ ∧ ∃ e x, bstA τ e x (hgt N w s e x) ∧ x.2 ≤ 198 ∧ ctrP N (hgt N w s) e x) := by
  have hN := hI.1.2
  have h12 := hN.2.2.2.1
  have hw0 := hw9.ok0
  unfold M_centers
  simp only [Option.bind_eq_bind, Option.bind_some, show (-1 : Int32) = i32 (-1) from rfl, i_c0]
  refine Rt.loop (ι := Nat) (fun e x τ => x = i32 e ∧ e ≤ eN N ∧ ∃ cs, cenI N w s (hgt N w s) σ τ cs e) (fun e => eN N - e) ?_ F 0 _ _ ⟨rfl, by omega, fun _ => [], kp.sI, fun e' h => by omega, Or.inl ⟨rfl, ?_⟩⟩ (by omega)
  rotate_left
  · rintro e y ⟨-, ⟨h, -⟩ | ⟨-, h⟩⟩
    · omega
    · cases h
  rintro n e _ τ ⟨rfl, he, cs, hk, hcs, hb⟩ ih
  have hIt := hI.kp hk
  unfold M_centers_7
  rw [M_edgeMany_eq hIt.1]
  simp (disch := omega) only [Option.bind_eq_bind, Option.bind_some, i_le, i_lt, i_eq]
  refine Rt.ite (fun h => ?_) (fun h => ?_)
  · obtain rfl : e = eN N := by omega
    obtain ⟨e, x, b1, b2, b3⟩ := bst_done hn (desc_hgt hN hw0 (fun e he => ⟨(hcs e he).1, (hcs e he).2.1⟩)) (fun e c he hc => (hcs e he).1.1 c hc) ⟨(0, 1), end_al hN hn⟩ hb
    exact Rt.some ⟨hk, e, x, b1, ((hcs e b3.1).2.2.2 x b2).2, b3⟩
  have he' : e < eN N := by omega
  obtain ⟨υ, ds, c1, c2, c3, c4, c5⟩ := M_laysCrossings_eq hIt (show 8 < F by omega) hw9 hs he'
  rw [c1]
  simp only [Option.bind_eq_bind, Option.bind_some, i_c0]
  have hku := kp.tr hk (c2.le)
  have hIu := hI.kp hku
  have hbu : bst N (hgt N w s) υ e (seenK N (fun j => if j = e then ds else cs j) e 0) := (hb.kp c2).same (Nat.le_refl _) (fun _ _ => cen_upd.symm)
  have hcu : ∀ e', e' < e + 1 → coreC N w s e' ((fun j => if j = e then ds else cs j) e') := by
    intro e' he2
    by_cases h1 : e' = e
    · subst h1; simp only [if_true]; exact c5
    · simp only [if_neg h1]; exact hcs e' (by omega)
  revert hbu hcu
  generalize hcs' : (fun j => if j = e then ds else cs j) = cs'
  have hds : cs' e = ds := by rw [← hcs']; simp
  intro hbu hcu
  clear hb hcs
  refine Rt.loop (ι := Nat) (fun k x τ => x = i32 k ∧ k ≤ ds.length ∧ kp [3, 4] [0, 1, 2] [] [0, 1] σ τ ∧ crl τ ds ∧ bst N (hgt N w s) τ e (seenK N cs' e k)) (fun k => ds.length - k) ?_ F 0 _ _ ⟨rfl, by omega, hku, c3, hbu⟩ (by omega)
  rintro n2 k _ φ ⟨rfl, hk1, hk2, hk3, hk4⟩ ih2
  have hIp := hI.kp hk2
  unfold M_centers_23
  rw [hk3.1]
  simp (disch := omega) only [i_le, i_lt, i_eq]
  refine Rt.ite (fun h2 => ?_) (fun h2 => ?_)
  · unfold M_centers_92
    simp only [i_c0, i_c1, i_c2, i_c3, i_c4, i_c5, i_c6, i_c8, i_c9, i_c10, i_c12, i_c16, i_c17, i_c18, i_c31, i_c32, i_c45, i_c48, i_c50, i_c54, i_c55, i_c57, i_c58, i_c59, i_c61, i_c64, i_c73, i_c118, i_c119, i_c120, i_c126, i_c365, i_c1000, i_cFAR, i_add, i_sub, i_mul, i_neg, Option.bind_eq_bind, Option.bind_some]
    exact ih (e + 1) _ _ ⟨rfl, by omega, cs', hk2, hcu, hk4.same (by omega) (fun _ _ => seenK_zero (by rw [hds]; omega))⟩ (by omega)
  have hk' : k < ds.length := by omega
  obtain ⟨g1, g2⟩ := crl_get hk3 hk'
  obtain ⟨o1, o2, o3⟩ := smC_okx hN he' c5.2.2.2 (List.getElem_mem hk')
  have hkc : k < (cs' e).length := by rw [hds]; exact hk'
  have hge : (cs' e)[k] = ds[k] := by simp only [hds]
  have nxt : ∀ ψ : MS, kp [3, 4] [0, 1, 2] [] [0, 1] σ ψ → crl ψ ds → bst N (hgt N w s) ψ e (seenK N cs' e (k + 1)) → Rt (M_centers_86 F (M_centers_7 F (i32 s) n) (M_centers_23 F (M_centers_7 F (i32 s) n) (i32 s) (i32 e) n2) (i32 s) (i32 e) (i32 k) ψ) (fun τ => kp [3, 4] [0, 1, 2] [] [0, 1] σ τ ∧ ∃ e x, bstA τ e x (hgt N w s e x) ∧ x.2 ≤ 198 ∧ ctrP N (hgt N w s) e x) := by
    intro ψ p1 p2 p3
    unfold M_centers_86
    simp only [i_c0, i_c1, i_c2, i_c3, i_c4, i_c5, i_c6, i_c8, i_c9, i_c10, i_c12, i_c16, i_c17, i_c18, i_c31, i_c32, i_c45, i_c48, i_c50, i_c54, i_c55, i_c57, i_c58, i_c59, i_c61, i_c64, i_c73, i_c118, i_c119, i_c120, i_c126, i_c365, i_c1000, i_cFAR, i_add, i_sub, i_mul, i_neg, Option.bind_eq_bind, Option.bind_some]
    exact ih2 (k + 1) _ _ ⟨rfl, by omega, p1, p2, p3⟩ (by omega)
  simp (disch := omega) only [rdL_i, Int.toNat_natCast, g1, g2, Option.bind_eq_bind, Option.bind_some, M_mayLie_eq hIp.1 he' o1 (show 8 < F by omega), i_c0]
  refine Rt.ite (fun h3 => ?_) (fun h3 => ?_)
  · exact nxt φ hk2 hk3 (hk4.same (Nat.le_refl _) (fun _ _ => seenK_no hkc (by rw [hge]; exact tr01_n h3)))
  · have h3' : alN N e ds[k] := tr01_y h3
    rw [M_heightAt_eq hIp.1 hIp.2.1 hIp.2.2 hw9 hc hs he' o1 o2 (by omega)]
    simp only [Option.bind_eq_bind, Option.bind_some]
    have hr := hgt_rng (s := s) hN hc hw9 he' o1 o2
    refine Rt.bindO (M_tries_eq (H := hgt N w s) (by omega) ⟨o1.1, o1.2.1, o1.2.2.1, o1.2.2.2, hr.1, by omega⟩ (fun e' y hy => ?_) hk4) (fun ψ hψ => ?_)
    · obtain ⟨q1, q2⟩ := seenK_mem hy
      obtain ⟨u1, u2, u3⟩ := smC_okx hN (by omega) (hcu e' (by omega)).2.2.2 q2
      have hr := hgt_rng (s := s) hN hc hw9 (show e' < eN N by omega) u1 u2
      exact ⟨u1.1, u1.2.1, u1.2.2.1, u1.2.2.2, hr.1, by omega⟩
    · exact nxt ψ (kp.tr hk2 hψ.1.le) (hk3.kp hψ.1) (hψ.2.same (Nat.le_refl _) (fun _ _ => by rw [← hge]; exact seenK_yes hkc (by rw [hge]; exact h3')))
--END CEN
theorem M_medians_eq (hI : lcI N w σ) (hc : cnN N) (hw9 : okw9 (nN N) w) (hn : 0 < eN N) (hF : 160 < F) :
    Rt (M_medians F σ) (fun τ => kp [3, 4] [0, 1, 2] [] [0, 1] σ τ ∧ ∃ e x, bstA τ e x (cos_ N w e x) ∧ x.2 ≤ 198 ∧ ctrP N (cos_ N w) e x) := by
  have hN := hI.1.2
  have h12 := hN.2.2.2.1
  have hw0 := hw9.ok0
  unfold M_medians
  simp only [Option.bind_eq_bind, Option.bind_some, show (-1 : Int32) = i32 (-1) from rfl, i_c0]
  refine Rt.loop (ι := Nat) (fun e x τ => x = i32 e ∧ e ≤ eN N ∧ ∃ cs, cenI N w (allN N) (cos_ N w) σ τ cs e) (fun e => eN N - e) ?_ F 0 _ _ ⟨rfl, by omega, fun _ => [], kp.sI, fun e' h => by omega, Or.inl ⟨rfl, ?_⟩⟩ (by omega)
  rotate_left
  · rintro e y ⟨-, ⟨h, -⟩ | ⟨-, h⟩⟩
    · omega
    · cases h
  rintro n e _ τ ⟨rfl, he, cs, hk, hcs, hb⟩ ih
  have hIt := hI.kp hk
  unfold M_medians_7
  rw [M_edgeMany_eq hIt.1]
  simp (disch := omega) only [Option.bind_eq_bind, Option.bind_some, i_le, i_lt, i_eq]
  refine Rt.ite (fun h => ?_) (fun h => ?_)
  · obtain rfl : e = eN N := by omega
    obtain ⟨e, x, b1, b2, b3⟩ := bst_done hn (desc_cos hw0 (fun e he => ⟨(hcs e he).1, fun i hi => (hcs e he).2.2.1 i (allN_bits.mpr hi)⟩)) (fun e c he hc => (hcs e he).1.1 c hc) ⟨(0, 1), end_al hN hn⟩ hb
    exact Rt.some ⟨hk, e, x, b1, ((hcs e b3.1).2.2.2 x b2).2, b3⟩
  have he' : e < eN N := by omega
  obtain ⟨υ, ds, c1, c2, c3, c4, c5⟩ := M_laysCrossings_eq hIt (show 8 < F by omega) hw9 (allN_lt hN) he'
  rw [M_many_eq hIt.1]
  simp only [Option.bind_eq_bind, Option.bind_some, i_c1, i_c31, i_all hN]
  rw [c1]
  simp only [Option.bind_eq_bind, Option.bind_some, i_c0]
  have hku := kp.tr hk (c2.le)
  have hIu := hI.kp hku
  have hbu : bst N (cos_ N w) υ e (seenK N (fun j => if j = e then ds else cs j) e 0) := (hb.kp c2).same (Nat.le_refl _) (fun _ _ => cen_upd.symm)
  have hcu : ∀ e', e' < e + 1 → coreC N w (allN N) e' ((fun j => if j = e then ds else cs j) e') := by
    intro e' he2
    by_cases h1 : e' = e
    · subst h1; simp only [if_true]; exact c5
    · simp only [if_neg h1]; exact hcs e' (by omega)
  revert hbu hcu
  generalize hcs' : (fun j => if j = e then ds else cs j) = cs'
  have hds : cs' e = ds := by rw [← hcs']; simp
  intro hbu hcu
  clear hb hcs
  refine Rt.loop (ι := Nat) (fun k x τ => x = i32 k ∧ k ≤ ds.length ∧ kp [3, 4] [0, 1, 2] [] [0, 1] σ τ ∧ crl τ ds ∧ bst N (cos_ N w) τ e (seenK N cs' e k)) (fun k => ds.length - k) ?_ F 0 _ _ ⟨rfl, by omega, hku, c3, hbu⟩ (by omega)
  rintro n2 k _ φ ⟨rfl, hk1, hk2, hk3, hk4⟩ ih2
  have hIp := hI.kp hk2
  unfold M_medians_30
  rw [hk3.1]
  simp (disch := omega) only [i_le, i_lt, i_eq]
  refine Rt.ite (fun h2 => ?_) (fun h2 => ?_)
  · unfold M_medians_98
    simp only [i_c0, i_c1, i_c2, i_c3, i_c4, i_c5, i_c6, i_c8, i_c9, i_c10, i_c12, i_c16, i_c17, i_c18, i_c31, i_c32, i_c45, i_c48, i_c50, i_c54, i_c55, i_c57, i_c58, i_c59, i_c61, i_c64, i_c73, i_c118, i_c119, i_c120, i_c126, i_c365, i_c1000, i_cFAR, i_add, i_sub, i_mul, i_neg, Option.bind_eq_bind, Option.bind_some]
    exact ih (e + 1) _ _ ⟨rfl, by omega, cs', hk2, hcu, hk4.same (by omega) (fun _ _ => seenK_zero (by rw [hds]; omega))⟩ (by omega)
  have hk' : k < ds.length := by omega
  obtain ⟨g1, g2⟩ := crl_get hk3 hk'
  obtain ⟨o1, o2, o3⟩ := smC_okx hN he' c5.2.2.2 (List.getElem_mem hk')
  have hkc : k < (cs' e).length := by rw [hds]; exact hk'
  have hge : (cs' e)[k] = ds[k] := by simp only [hds]
  have nxt : ∀ ψ : MS, kp [3, 4] [0, 1, 2] [] [0, 1] σ ψ → crl ψ ds → bst N (cos_ N w) ψ e (seenK N cs' e (k + 1)) → Rt (M_medians_92 F (M_medians_7 F n) (M_medians_30 F (M_medians_7 F n) (i32 e) n2) (i32 e) (i32 k) ψ) (fun τ => kp [3, 4] [0, 1, 2] [] [0, 1] σ τ ∧ ∃ e x, bstA τ e x (cos_ N w e x) ∧ x.2 ≤ 198 ∧ ctrP N (cos_ N w) e x) := by
    intro ψ p1 p2 p3
    unfold M_medians_92
    simp only [i_c0, i_c1, i_c2, i_c3, i_c4, i_c5, i_c6, i_c8, i_c9, i_c10, i_c12, i_c16, i_c17, i_c18, i_c31, i_c32, i_c45, i_c48, i_c50, i_c54, i_c55, i_c57, i_c58, i_c59, i_c61, i_c64, i_c73, i_c118, i_c119, i_c120, i_c126, i_c365, i_c1000, i_cFAR, i_add, i_sub, i_mul, i_neg, Option.bind_eq_bind, Option.bind_some]
    exact ih2 (k + 1) _ _ ⟨rfl, by omega, p1, p2, p3⟩ (by omega)
  simp (disch := omega) only [rdL_i, Int.toNat_natCast, g1, g2, Option.bind_eq_bind, Option.bind_some, M_mayLie_eq hIp.1 he' o1 (show 8 < F by omega), i_c0]
  refine Rt.ite (fun h3 => ?_) (fun h3 => ?_)
  · exact nxt φ hk2 hk3 (hk4.same (Nat.le_refl _) (fun _ _ => seenK_no hkc (by rw [hge]; exact tr01_n h3)))
  · have h3' : alN N e ds[k] := tr01_y h3
    rw [M_costAt_eq hIp.1 hIp.2.1 hIp.2.2 hw9 he' o1 (by omega)]
    simp only [Option.bind_eq_bind, Option.bind_some]
    have hr := cos_rng hN hc hw9 he' o1 o2
    refine Rt.bindO (M_tries_eq (H := cos_ N w) (by omega) ⟨o1.1, o1.2.1, o1.2.2.1, o1.2.2.2, hr.1, by omega⟩ (fun e' y hy => ?_) hk4) (fun ψ hψ => ?_)
    · obtain ⟨q1, q2⟩ := seenK_mem hy
      obtain ⟨u1, u2, u3⟩ := smC_okx hN (by omega) (hcu e' (by omega)).2.2.2 q2
      have hr := cos_rng hN hc hw9 (show e' < eN N by omega) u1 u2
      exact ⟨u1.1, u1.2.1, u1.2.2.1, u1.2.2.2, hr.1, by omega⟩
    · exact nxt ψ (kp.tr hk2 hψ.1.le) (hk3.kp hψ.1) (hψ.2.same (Nat.le_refl _) (fun _ _ => by rw [← hge]; exact seenK_yes hkc (by rw [hge]; exact h3')))
end ME
