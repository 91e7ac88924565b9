/-! DIVISIONS OF SETS (numbers as sets of their bits) -/
def sub (a s : Nat) : Prop := ∀ i, a.testBit i = true → s.testBit i = true
theorem sub_iff {a s : Nat} : sub a s ↔ a &&& s = a := by
  constructor
  · intro h
    apply Nat.eq_of_testBit_eq; intro i
    rw [Nat.testBit_and]
    cases h1 : a.testBit i with
    | false => rfl
    | true => rw [h i h1]; rfl
  · intro h i hi
    rw [← h, Nat.testBit_and] at hi
    exact (Bool.and_eq_true_iff.mp hi).2
theorem sub_refl (s : Nat) : sub s s := fun _ h => h
theorem sub_zero (s : Nat) : sub 0 s := fun i h => by rw [Nat.zero_testBit] at h; cases h
theorem sub_trans {a b c : Nat} (h : sub a b) (h2 : sub b c) : sub a c := fun i hi => h2 i (h i hi)
theorem sub_le {a s : Nat} (h : sub a s) : a ≤ s := by rw [← sub_iff.mp h]; exact Nat.and_le_right
theorem sub_eq_zero {a : Nat} (h : sub a 0) : a = 0 := Nat.le_zero.mp (sub_le h)
/-- what is left: s without a -/
theorem xr_bit {a s : Nat} (h : sub a s) (i : Nat) : (s ^^^ a).testBit i = (s.testBit i && !a.testBit i) := by
  rw [Nat.testBit_xor]
  cases h1 : a.testBit i with
  | false => simp
  | true => rw [h i h1]; rfl
theorem xr_sub {a s : Nat} (h : sub a s) : sub (s ^^^ a) s := fun i hi => by rw [xr_bit h] at hi; exact (Bool.and_eq_true_iff.mp hi).1
theorem xr_zero {a s : Nat} (h : s ^^^ a = 0) : a = s := by
  have : s ^^^ a ^^^ a = 0 ^^^ a := by rw [h]
  rw [Nat.xor_assoc, Nat.xor_self, Nat.xor_zero, Nat.zero_xor] at this
  exact this.symm
theorem xr_lt {a s : Nat} (h : sub a s) (h0 : a ≠ 0) : s ^^^ a < s := by
  have h1 := sub_le (xr_sub h)
  have h2 : s ^^^ a ≠ s := by
    intro e
    have : s ^^^ (s ^^^ a) = s ^^^ s := by rw [e]
    rw [← Nat.xor_assoc, Nat.xor_self, Nat.zero_xor] at this
    exact h0 this
  omega
theorem xr_swap (s a b : Nat) : s ^^^ a ^^^ b = s ^^^ b ^^^ a := by rw [Nat.xor_assoc, Nat.xor_comm a b, ← Nat.xor_assoc]
theorem sub_xr {a b s : Nat} (ha : sub a s) (hb : sub b (s ^^^ a)) : sub a (s ^^^ b) := by
  have hbs : sub b s := sub_trans hb (xr_sub ha)
  intro i hi
  rw [xr_bit hbs, ha i hi]
  cases h : b.testBit i with
  | false => rfl
  | true =>
    have := hb i h
    rw [xr_bit ha, hi] at this
    simp at this
/-- s is divided into k sets of A -/
def dv (A : Nat → Prop) : Nat → Nat → Prop
  | 0, s => s = 0
  | k + 1, s => ∃ a, sub a s ∧ A a ∧ dv A k (s ^^^ a)
theorem dv_zero {A : Nat → Prop} (h0 : A 0) (k : Nat) : dv A k 0 := by
  induction k with
  | zero => rfl
  | succ k ih => exact ⟨0, sub_refl 0, h0, ih⟩
theorem dv_one {A : Nat → Prop} {s : Nat} : dv A 1 s ↔ A s := by
  constructor
  · rintro ⟨a, h1, h2, h3⟩; rw [← xr_zero h3]; exact h2
  · intro h; exact ⟨s, sub_refl s, h, Nat.xor_self s⟩
theorem dv_mono {A B : Nat → Prop} (h : ∀ s, A s → B s) {k s : Nat} (hd : dv A k s) : dv B k s := by
  induction k generalizing s with
  | zero => exact hd
  | succ k ih => obtain ⟨a, h1, h2, h3⟩ := hd; exact ⟨a, h1, h a h2, ih h3⟩
/-- the group that holds a bit can be put first -/
theorem dv_first {A : Nat → Prop} {k s i : Nat} (hd : dv A (k + 1) s) (hi : s.testBit i = true) : ∃ a, sub a s ∧ a.testBit i = true ∧ A a ∧ dv A k (s ^^^ a) := by
  induction k generalizing s with
  | zero =>
    obtain ⟨a, h1, h2, h3⟩ := hd
    exact ⟨a, h1, by rw [xr_zero h3]; exact hi, h2, h3⟩
  | succ k ih =>
    obtain ⟨a, h1, h2, h3⟩ := hd
    by_cases hai : a.testBit i = true
    · exact ⟨a, h1, hai, h2, h3⟩
    · obtain ⟨b, b1, b2, b3, b4⟩ := ih h3 (by rw [xr_bit h1, hi]; simp at hai; simp [hai])
      exact ⟨b, sub_trans b1 (xr_sub h1), b2, b3, a, sub_xr h1 b1, h2, by rw [xr_swap]; exact b4⟩
theorem dv_two {A : Nat → Prop} {s : Nat} : dv A 2 s ↔ ∃ a, sub a s ∧ A a ∧ A (s ^^^ a) := by
  constructor
  · rintro ⟨a, h1, h2, h3⟩; exact ⟨a, h1, h2, dv_one.mp h3⟩
  · rintro ⟨a, h1, h2, h3⟩; exact ⟨a, h1, h2, dv_one.mpr h3⟩
/-- the next lesser subset -/
theorem sub_div {a s : Nat} (h : sub a s) : sub (a / 2) (s / 2) := fun i hi => by
  rw [Nat.testBit_div_two] at hi ⊢; exact h _ hi
theorem sub_mod {a s : Nat} (h : sub a s) : a % 2 ≤ s % 2 := by
  have := h 0
  simp only [Nat.testBit_zero, decide_eq_true_eq] at this
  omega
theorem pred_and {t u s : Nat} (ht : sub t s) (hu : sub u s) (h : u < t) : u ≤ (t - 1) &&& s := by
  induction t using Nat.strongRecOn generalizing u s with
  | ind t ih =>
    have e1 : ((t - 1) &&& s) = 2 * (((t - 1) / 2) &&& (s / 2)) + ((t - 1) &&& s) % 2 := by
      have := Nat.div_add_mod ((t - 1) &&& s) 2
      rw [Nat.and_div_two] at this; omega
    by_cases hp : t % 2 = 1
    · have e2 : (t - 1) / 2 = t / 2 := by omega
      have e3 : (t / 2) &&& (s / 2) = t / 2 := sub_iff.mp (sub_div ht)
      rw [e1, e2, e3]; omega
    · have e2 : (t - 1) / 2 = t / 2 - 1 := by omega
      have k1 : u / 2 < t / 2 := by omega
      have k2 := ih (t / 2) (by omega) (sub_div ht) (sub_div hu) k1
      have k3 := sub_mod hu
      have k4 : ((t - 1) &&& s) % 2 = s % 2 := by
        rw [Nat.and_mod_two_pow (n := 1) |>.trans rfl |> fun h => (by simpa using h : ((t - 1) &&& s) % 2 = (t - 1) % 2 &&& s % 2)]
        have : (t - 1) % 2 = 1 := by omega
        rw [this]
        have : s % 2 = 0 ∨ s % 2 = 1 := by omega
        rcases this with h | h <;> rw [h] <;> rfl
      rw [e1, e2, k4]; omega
theorem pred_lt {t s : Nat} (h : t ≠ 0) : (t - 1) &&& s < t := by
  have := @Nat.and_le_left (t - 1) s
  omega
theorem pred_sub (t s : Nat) : sub ((t - 1) &&& s) s := fun i hi => by rw [Nat.testBit_and] at hi; exact (Bool.and_eq_true_iff.mp hi).2
/-- how many groups are needed: what the table owes -/
def covT (A : Nat → Prop) (n : Nat) (c : Nat → Nat) : Prop := c 0 = 0 ∧ ∀ s, s ≠ 0 → s < 2 ^ n → (∀ a, a ≠ 0 → sub a s → A a → c s ≤ c (s ^^^ a) + 1) ∧ (c s = 9 ∨ ∃ a, a ≠ 0 ∧ sub a s ∧ A a ∧ c s = c (s ^^^ a) + 1)
theorem covT_least {A : Nat → Prop} {n : Nat} {c : Nat → Nat} (h : covT A n c) (k : Nat) : ∀ s, s < 2 ^ n → dv A k s → c s ≤ k := by
  induction k with
  | zero => intro s hs hd; rw [show s = 0 from hd, h.1]; exact Nat.le_refl _
  | succ k ih =>
    intro s hs ⟨a, h1, h2, h3⟩
    by_cases h0 : s = 0
    · rw [h0, h.1]; omega
    · by_cases ha : a = 0
      · subst ha; rw [Nat.xor_zero] at h3; have := ih s hs h3; omega
      · have := (h.2 s h0 hs).1 a ha h1 h2
        have := ih _ (Nat.lt_of_le_of_lt (sub_le (xr_sub h1)) hs) h3
        omega
theorem covT_le {A : Nat → Prop} {n : Nat} {c : Nat → Nat} (h : covT A n c) (h1 : ∀ i, i < n → A (2 ^ i)) (m : Nat) (hm : m ≤ n) : ∀ s, s < 2 ^ m → c s ≤ m := by
  induction m with
  | zero => intro s hs; rw [show s = 0 by simpa using hs, h.1]; exact Nat.le_refl _
  | succ m ih =>
    intro s hs
    by_cases hb : s.testBit m = true
    · have hsub : sub (2 ^ m) s := by
        intro i hi
        rw [Nat.testBit_two_pow] at hi
        simp only [decide_eq_true_eq] at hi
        subst hi; exact hb
      have hlt : s ^^^ 2 ^ m < 2 ^ m := by
        apply Nat.lt_pow_two_of_testBit
        intro i hi
        rw [xr_bit hsub]
        by_cases him : i = m
        · subst him; rw [Nat.testBit_two_pow_self]; simp
        · rw [Nat.testBit_lt_two_pow (Nat.lt_of_lt_of_le hs (Nat.pow_le_pow_right (by decide) (by omega)))]; rfl
      have h0 : s ≠ 0 := by intro z; rw [z, Nat.zero_testBit] at hb; cases hb
      have := (h.2 s h0 (Nat.lt_of_lt_of_le hs (Nat.pow_le_pow_right (by decide) hm))).1 (2 ^ m) (by exact Nat.ne_of_gt (Nat.two_pow_pos m)) hsub (h1 m (by omega))
      have := ih (by omega) _ hlt
      omega
    · have hlt : s < 2 ^ m := by
        apply Nat.lt_pow_two_of_testBit
        intro i hi
        by_cases him : i = m
        · subst him; simpa using hb
        · exact Nat.testBit_lt_two_pow (Nat.lt_of_lt_of_le hs (Nat.pow_le_pow_right (by decide) (by omega)))
      have := ih (by omega) _ hlt
      omega
theorem covT_dv {A : Nat → Prop} {n : Nat} {c : Nat → Nat} (h : covT A n c) (hn : n ≤ 8) (h1 : ∀ i, i < n → A (2 ^ i)) : ∀ s, s < 2 ^ n → dv A (c s) s := by
  intro s
  induction s using Nat.strongRecOn with
  | ind s ih =>
    intro hs
    by_cases h0 : s = 0
    · rw [h0, h.1]; rfl
    · rcases (h.2 s h0 hs).2 with h9 | ⟨a, a1, a2, a3, a4⟩
      · have := covT_le h h1 n (Nat.le_refl n) s hs; omega
      · rw [a4]
        exact ⟨a, a2, a3, ih _ (xr_lt a2 a1) (Nat.lt_of_le_of_lt (sub_le (xr_sub a2)) hs)⟩
