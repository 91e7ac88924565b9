/-! DISTANCES: all shortest ways, phase by phase -/
abbrev Mx : Type := Nat → Nat → Int
abbrev Ed : Type := Nat × Nat × Int
def fw1 (D : Mx) (v : Nat) : Mx := fun i j => min (D i j) (D i v + D v j)
def fwN (D : Mx) : Nat → Mx
  | 0 => D
  | k + 1 => fw1 (fwN D k) k
def dB : Mx := fun i j => if i = j then 0 else 100000
def dE (D : Mx) (e : Ed) : Mx := fun i j => if i = e.1 ∧ j = e.2.1 ∨ i = e.2.1 ∧ j = e.1 then e.2.2 else D i j
def d0 (es : List Ed) : Mx := es.foldl dE dB
def dst (n : Nat) (es : List Ed) : Mx := fwN (d0 es) n
/-- what the phases keep -/
def fwI (b : Int) (D : Mx) : Prop := (∀ i, D i i = 0) ∧ (∀ i j, 0 ≤ D i j) ∧ (∀ i j, D i j = D j i) ∧ ∀ i j, D i j = 100000 ∨ D i j ≤ b
theorem fw1_v {b : Int} {D : Mx} (h : fwI b D) (v i : Nat) : fw1 D v i v = D i v ∧ fw1 D v v i = D v i := by
  have h1 := h.1 v
  have h2 := h.2.1 v v
  constructor <;> (unfold fw1; rw [h1]; omega)
theorem fw1_I {b : Int} {D : Mx} (hb : 0 ≤ b) (h : fwI b D) (v : Nat) : fwI (2 * b) (fw1 D v) := by
  refine ⟨fun i => ?_, fun i j => ?_, fun i j => ?_, fun i j => ?_⟩
  · have h1 := h.1 i; have h2 := h.2.1 i v; have h3 := h.2.1 v i; unfold fw1; rw [h1]; omega
  · have h1 := h.2.1 i j; have h2 := h.2.1 i v; have h3 := h.2.1 v j; unfold fw1; omega
  · have h1 := h.2.2.1 i j; have h2 := h.2.2.1 i v; have h3 := h.2.2.1 v j; unfold fw1; rw [h1, h2, h3]; omega
  · have h1 := h.2.2.2 i j; have h2 := h.2.2.2 i v; have h3 := h.2.2.2 v j; have h4 := h.2.1 i v; have h5 := h.2.1 v j; unfold fw1; omega
theorem fwN_I {D : Mx} (h : fwI 50 D) (k : Nat) : fwI (50 * 2 ^ k) (fwN D k) := by
  induction k with
  | zero => exact h
  | succ k ih =>
    have hp : (0 : Int) ≤ 50 * 2 ^ k := Int.mul_nonneg (by decide) (Int.le_of_lt (Int.pow_pos (by decide)))
    have := fw1_I hp ih k
    rw [show (50 : Int) * 2 ^ (k + 1) = 2 * (50 * 2 ^ k) by rw [Int.pow_succ]; omega]
    exact this
theorem fwI_le {b c : Int} {D : Mx} (h : fwI b D) (hc : b ≤ c) : fwI c D := ⟨h.1, h.2.1, h.2.2.1, fun i j => by have := h.2.2.2 i j; omega⟩
theorem fwN_I8 {D : Mx} (h : fwI 50 D) {k : Nat} (hk : k ≤ 8) : fwI 12800 (fwN D k) := by
  refine fwI_le (fwN_I h k) ?_
  have : (2 : Int) ^ k ≤ 2 ^ 8 := by
    have := Nat.pow_le_pow_right (n := 2) (by decide) hk
    exact_mod_cast this
  omega
/-- ways by a node that has had its phase -/
theorem fwN_tri {D : Mx} (h : fwI 50 D) (k : Nat) : ∀ m, m < k → ∀ i j, fwN D k i j ≤ fwN D k i m + fwN D k m j := by
  induction k with
  | zero => intro m hm; omega
  | succ k ih =>
    intro m hm i j
    have hI := fwN_I h k
    have e1 := fw1_v hI k i
    have e2 := fw1_v hI k j
    by_cases hmk : m = k
    · subst hmk
      show fw1 _ _ i j ≤ fw1 _ _ i m + fw1 _ _ m j
      rw [e1.1, e2.2]; unfold fw1; omega
    · have hm' : m < k := by omega
      have t1 := ih m hm' i j
      have t2 := ih m hm' k j
      have t3 := ih m hm' i k
      have n1 := hI.2.1 k m
      have n2 := hI.2.1 m k
      show fw1 _ _ i j ≤ fw1 _ _ i m + fw1 _ _ m j
      unfold fw1; omega
theorem d0_I {es : List Ed} (h : ∀ e ∈ es, e.1 ≠ e.2.1 ∧ 1 ≤ e.2.2 ∧ e.2.2 ≤ 50) : fwI 50 (d0 es) := by
  have go : ∀ (es : List Ed) (D : Mx), (∀ e ∈ es, e.1 ≠ e.2.1 ∧ 1 ≤ e.2.2 ∧ e.2.2 ≤ 50) → fwI 50 D → fwI 50 (es.foldl dE D) := by
    intro es
    induction es with
    | nil => intro D _ h; exact h
    | cons e t ih =>
      intro D h hD
      refine ih _ (fun x hx => h x (List.mem_cons_of_mem _ hx)) ?_
      obtain ⟨a1, a2, a3⟩ := h e List.mem_cons_self
      refine ⟨fun i => ?_, fun i j => ?_, fun i j => ?_, fun i j => ?_⟩
      · unfold dE; rw [if_neg (by omega)]; exact hD.1 i
      · unfold dE; split
        · omega
        · exact hD.2.1 i j
      · unfold dE
        by_cases hc : i = e.1 ∧ j = e.2.1 ∨ i = e.2.1 ∧ j = e.1
        · rw [if_pos hc, if_pos (by omega)]
        · rw [if_neg hc, if_neg (by omega)]; exact hD.2.2.1 i j
      · unfold dE; split
        · right; omega
        · exact hD.2.2.2 i j
  refine go es dB h ⟨fun i => ?_, fun i j => ?_, fun i j => ?_, fun i j => ?_⟩
  · unfold dB; rw [if_pos rfl]
  · unfold dB; split <;> omega
  · unfold dB; by_cases h : i = j
    · rw [if_pos h, if_pos h.symm]
    · rw [if_neg h, if_neg (fun z => h z.symm)]
  · unfold dB; split
    · right; omega
    · left; rfl
/-- a node with a finite distance to another one has an edge -/
def inc (es : List Ed) (i : Nat) : Prop := ∃ e ∈ es, e.1 = i ∨ e.2.1 = i
theorem d0_inc (es : List Ed) (i j : Nat) (h : d0 es i j < 100000) : i = j ∨ inc es i := by
  have go : ∀ (es : List Ed) (D : Mx), es.foldl dE D i j < 100000 → D i j < 100000 ∨ inc es i := by
    intro es
    induction es with
    | nil => intro D h; exact Or.inl h
    | cons e t ih =>
      intro D h
      rcases ih _ h with h | ⟨x, hx, h⟩
      · unfold dE at h
        split at h
        · rename_i hc
          exact Or.inr ⟨e, List.mem_cons_self, by omega⟩
        · exact Or.inl h
      · exact Or.inr ⟨x, List.mem_cons_of_mem _ hx, h⟩
  rcases go es dB h with h | h
  · left; unfold dB at h; split at h
    · assumption
    · omega
  · exact Or.inr h
theorem fwN_inc {es : List Ed} (hI : fwI 50 (d0 es)) (k i j : Nat) (h : fwN (d0 es) k i j < 100000) : i = j ∨ inc es i := by
  induction k generalizing i j with
  | zero => exact d0_inc es i j h
  | succ k ih =>
    have hK := fwN_I hI k
    have n1 := hK.2.1 i k
    have n2 := hK.2.1 k j
    change fw1 _ _ i j < 100000 at h
    unfold fw1 at h
    by_cases h1 : fwN (d0 es) k i j < 100000
    · exact ih i j h1
    · rcases ih i k (by omega) with h2 | h2
      · subst h2; exact ih i j (by omega)
      · exact Or.inr h2
/-- all are connected just if the first one is connected with all -/
theorem dst_conn {n : Nat} {es : List Ed} (hn : 1 ≤ n) (hn8 : n ≤ 8) (h : ∀ e ∈ es, e.1 ≠ e.2.1 ∧ 1 ≤ e.2.2 ∧ e.2.2 ≤ 50) (hc : ∀ k, k < n → dst n es 0 k < 100000) (i j : Nat) (hi : i < n) (hj : j < n) : dst n es i j < 100000 ∧ dst n es i j ≤ 12800 := by
  have hI := fwN_I8 (d0_I h) hn8
  have t := fwN_tri (d0_I h) n 0 (by omega) i j
  have a1 := hc i hi
  have a2 := hc j hj
  have b1 := hI.2.2.2 0 i
  have b2 := hI.2.2.2 0 j
  have b3 := hI.2.2.2 i j
  have s := hI.2.2.1 i 0
  unfold dst at *
  omega
/-- in the midst of a phase: the places ahead of k (row by row) have been done -/
def fwMid (D : Mx) (v n k : Nat) : Mx := fun i j => if i * n + j < k then fw1 D v i j else D i j
theorem fwMid_row {b : Int} {D : Mx} (h : fwI b D) (v n k i : Nat) : fwMid D v n k i v = D i v ∧ fwMid D v n k v i = D v i := by
  unfold fwMid; constructor
  · split
    · exact (fw1_v h v i).1
    · rfl
  · split
    · exact (fw1_v h v i).2
    · rfl
