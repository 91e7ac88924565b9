/-! POINTS OF AN EDGE: distances, heights, costs; reducing -/
theorem mul_rng {a b A B : Int} (h0 : 0 ≤ a) (h1 : a ≤ A) (h2 : 0 ≤ b) (h3 : b ≤ B) : 0 ≤ a * b ∧ a * b ≤ A * B :=
  ⟨Int.mul_nonneg h0 h2, Int.le_trans (Int.mul_le_mul_of_nonneg_right h1 h2) (Int.mul_le_mul_of_nonneg_left h3 (Int.le_trans h0 h1))⟩
/-- the distance of a node and a place, times its denominator -/
def awy (N : Net) (i e : Nat) (x : Fq) : Int := min (dN N i (ed N e).1 * x.2 + x.1) ((dN N i (ed N e).2.1 + (ed N e).2.2) * x.2 - x.1)
def okx (x : Fq) : Prop := 0 < x.2 ∧ x.2 ≤ 1000 ∧ 0 ≤ x.1 ∧ x.1 ≤ 50000
def hgF (v : Nat → Int) (s : Nat) : Nat → Int
  | 0 => 0
  | i + 1 => max (hgF v s i) (if s.testBit i = true then v i else 0)
def csF (v : Nat → Int) : Nat → Int
  | 0 => 0
  | i + 1 => csF v i + v i
/-- the height of a set, the cost -/
def hgt (N : Net) (w : Nat → Int) (s e : Nat) (x : Fq) : Int := hgF (fun i => w i * awy N i e x) s (nN N)
def cos_ (N : Net) (w : Nat → Int) (e : Nat) (x : Fq) : Int := csF (fun i => w i * awy N i e x) (nN N)
/-- the weights, laid -/
def wts (m : Nat) (f : Nat → Int32) (w : Nat → Int) : Prop := ∀ i, i < m → f i = i32 (w i)
def okw9 (m : Nat) (w : Nat → Int) : Prop := ∀ i, i < m → 0 ≤ w i ∧ w i ≤ 99
section MP
variable {σ : MS} {N : Net} {F : Nat} {w : Nat → Int}
theorem M_rising_eq {i e : Nat} {p q : Int} (hN : mN σ N) (hf : far (nN N) (mA σ 4) (dN N)) (hi : i < nN N) (he : e < eN N) : M_rising σ (i32 i) (i32 e) (j64 p) (j64 q) = some (j64 (dN N i (ed N e).1 * q + p)) := by
  have h8 := hN.2.2.1
  obtain ⟨a1, a2, a3, a4, a5⟩ := hN.2.2.2.2.2.1 e he
  have hI := okN_D hN.2
  have b1 := hI.2.1 i (ed N e).1
  have b2 := hI.2.2.2 i (ed N e).1
  have g := far_mid hf hi a1
  unfold M_rising
  rw [i_c0, M_of_0 hN he]
  simp (disch := omega) only [i_c0, i_c1, i_c2, i_c3, i_c4, i_c5, i_c6, i_c8, i_c9, i_c10, i_c12, i_c16, i_c17, i_c18, i_c31, i_c32, i_c45, i_c48, i_c50, i_c54, i_c55, i_c57, i_c58, i_c59, i_c61, i_c64, i_c73, i_c118, i_c119, i_c120, i_c126, i_c365, i_c1000, i_cFAR, i_add, i_sub, i_mul, i_neg, Option.bind_eq_bind, Option.bind_some, rdI_i, g, i_long, j_add, j_sub, j_mul, j_neg]
  rw [Int.mul_comm q]
theorem M_falling_eq {i e : Nat} {p q : Int} (hN : mN σ N) (hf : far (nN N) (mA σ 4) (dN N)) (hi : i < nN N) (he : e < eN N) : M_falling σ (i32 i) (i32 e) (j64 p) (j64 q) = some (j64 ((dN N i (ed N e).2.1 + (ed N e).2.2) * q - p)) := by
  have h8 := hN.2.2.1
  obtain ⟨a1, a2, a3, a4, a5⟩ := hN.2.2.2.2.2.1 e he
  have hI := okN_D hN.2
  have b1 := hI.2.1 i (ed N e).2.1
  have b2 := hI.2.2.2 i (ed N e).2.1
  have g := far_mid hf hi a2
  unfold M_falling
  rw [i_c1, i_c2, M_of_1 hN he, M_of_2 hN he]
  simp (disch := omega) only [i_c0, i_c1, i_c2, i_c3, i_c4, i_c5, i_c6, i_c8, i_c9, i_c10, i_c12, i_c16, i_c17, i_c18, i_c31, i_c32, i_c45, i_c48, i_c50, i_c54, i_c55, i_c57, i_c58, i_c59, i_c61, i_c64, i_c73, i_c118, i_c119, i_c120, i_c126, i_c365, i_c1000, i_cFAR, i_add, i_sub, i_mul, i_neg, Option.bind_eq_bind, Option.bind_some, rdI_i, g, i_long, j_add, j_sub, j_mul, j_neg]
  rw [Int.mul_comm q]
theorem awy_rng {i e : Nat} {x : Fq} (hN : okN N) (hi : i < nN N) (he : e < eN N) (hx : okx x) :
    0 ≤ dN N i (ed N e).1 * x.2 + x.1 ∧ dN N i (ed N e).1 * x.2 + x.1 ≤ 100050000 ∧ -50000 ≤ (dN N i (ed N e).2.1 + (ed N e).2.2) * x.2 - x.1 ∧ (dN N i (ed N e).2.1 + (ed N e).2.2) * x.2 - x.1 ≤ 100050000 := by
  obtain ⟨a1, a2, a3, a4, a5⟩ := hN.2.2.2.2.1 e he
  have hI := okN_D hN
  have b1 := hI.2.1 i (ed N e).1
  have b2 := hI.2.2.2 i (ed N e).1
  have c1 := hI.2.1 i (ed N e).2.1
  have c2 := hI.2.2.2 i (ed N e).2.1
  obtain ⟨x1, x2, x3, x4⟩ := hx
  have m1 := mul_rng (a := dN N i (ed N e).1) (b := x.2) (A := 100000) (B := 1000) b1 (by omega) (by omega) x2
  have m2 := mul_rng (a := dN N i (ed N e).2.1 + (ed N e).2.2) (b := x.2) (A := 100050) (B := 1000) (by omega) (by omega) (by omega) x2
  omega
theorem M_away_eq {i e : Nat} {x : Fq} (hN : mN σ N) (hf : far (nN N) (mA σ 4) (dN N)) (hi : i < nN N) (he : e < eN N) (hx : okx x) : M_away σ (i32 i) (i32 e) (j64 x.1) (j64 x.2) = some (j64 (awy N i e x)) := by
  have r := awy_rng hN.2 hi he hx
  unfold M_away
  rw [M_rising_eq hN hf hi he, M_falling_eq hN hf hi he]
  simp (disch := omega) only [Option.bind_eq_bind, Option.bind_some, j_le, j_lt, j_eq]
  unfold awy
  by_cases h : (dN N i (ed N e).2.1 + (ed N e).2.2) * x.2 - x.1 ≤ dN N i (ed N e).1 * x.2 + x.1
  · rw [if_pos h, Int.min_eq_right h]
  · rw [if_neg h, Int.min_eq_left (by omega)]
theorem M_has_eq {s k : Nat} (hs : s < 256) (hk : k < 8) : M_has (i32 s) (i32 k) = some (i32 (bt s k)) := by
  unfold M_has
  simp only [i_c0, i_c1, i_c2, i_c3, i_c4, i_c5, i_c6, i_c8, i_c9, i_c10, i_c12, i_c16, i_c17, i_c18, i_c31, i_c32, i_c45, i_c48, i_c50, i_c54, i_c55, i_c57, i_c58, i_c59, i_c61, i_c64, i_c73, i_c118, i_c119, i_c120, i_c126, i_c365, i_c1000, i_cFAR, i_has hs hk]
  unfold bt
  by_cases h : s.testBit k = true
  · rw [if_pos h]; rfl
  · rw [if_neg h]; rfl
theorem wa_rng {i e : Nat} {x : Fq} (hN : okN N) (hc : cnN N) (hi : i < nN N) (he : e < eN N) (hx : okx x) (hxl : x.1 ≤ (ed N e).2.2 * x.2) : 0 ≤ awy N i e x ∧ awy N i e x ≤ 12850000 := by
  obtain ⟨a1, a2, a3, a4, a5⟩ := hN.2.2.2.2.1 e he
  have hI := okN_D hN
  have b1 := hI.2.1 i (ed N e).1
  have b2 := dst_conn hN.1 hN.2.1 (okN_es hN) hc i (ed N e).1 hi a1
  have c1 := hI.2.1 i (ed N e).2.1
  obtain ⟨x1, x2, x3, x4⟩ := hx
  have m1 := mul_rng (a := dN N i (ed N e).1) (b := x.2) (A := 12800) (B := 1000) b1 b2.2 (by omega) x2
  have m2 := mul_rng (a := dN N i (ed N e).2.1) (b := x.2) (A := dN N i (ed N e).2.1) (B := 1000) c1 (Int.le_refl _) (by omega) x2
  unfold awy
  rw [Int.add_mul]
  omega
theorem hgF_rng {v : Nat → Int} {s m : Nat} {B : Int} (hB : 0 ≤ B) (h : ∀ i, i < m → 0 ≤ v i ∧ v i ≤ B) : 0 ≤ hgF v s m ∧ hgF v s m ≤ B := by
  induction m with
  | zero => exact ⟨Int.le_refl _, hB⟩
  | succ m ih =>
    have i1 := ih (fun i hi => h i (by omega))
    have i2 := h m (by omega)
    unfold hgF
    split <;> omega
theorem csF_rng {v : Nat → Int} {m : Nat} {B : Int} (h : ∀ i, i < m → 0 ≤ v i ∧ v i ≤ B) : 0 ≤ csF v m ∧ csF v m ≤ m * B := by
  induction m with
  | zero => simp [csF]
  | succ m ih =>
    have i1 := ih (fun i hi => h i (by omega))
    have i2 := h m (by omega)
    unfold csF
    rw [show ((m + 1 : Nat) : Int) * B = m * B + B by push_cast; rw [Int.add_mul, Int.one_mul]]
    omega
theorem M_heightAt_6_eq {s e : Nat} {x : Fq} (hN : mN σ N) (hf : far (nN N) (mA σ 4) (dN N)) (hw : wts (nN N) (mA σ 5) w) (hw9 : okw9 (nN N) w) (hc : cnN N) (hs : s < 256) (he : e < eN N) (hx : okx x) (hxl : x.1 ≤ (ed N e).2.2 * x.2) (d : Nat) :
    ∀ (k n : Nat), k + d = nN N → d < n → M_heightAt_6 F σ (i32 s) (i32 e) (j64 x.1) (j64 x.2) n (j64 (hgF (fun i => w i * awy N i e x) s k)) (i32 k) = some (j64 (hgt N w s e x)) := by
  have h8 := hN.2.2.1
  have vr : ∀ i, i < nN N → 0 ≤ w i * awy N i e x ∧ w i * awy N i e x ≤ 1272150000 := by
    intro i hi
    have := wa_rng hN.2 hc hi he hx hxl
    exact mul_rng (A := 99) (B := 12850000) (hw9 i hi).1 (hw9 i hi).2 this.1 this.2
  induction d with
  | zero =>
    intro k n hk hn
    obtain ⟨n, rfl⟩ : ∃ n', n = n' + 1 := ⟨n - 1, by omega⟩
    unfold M_heightAt_6
    rw [M_many_eq hN]
    simp (disch := omega) only [i_c0, i_c1, i_c2, i_c3, i_c4, i_c5, i_c6, i_c8, i_c9, i_c10, i_c12, i_c16, i_c17, i_c18, i_c31, i_c32, i_c45, i_c48, i_c50, i_c54, i_c55, i_c57, i_c58, i_c59, i_c61, i_c64, i_c73, i_c118, i_c119, i_c120, i_c126, i_c365, i_c1000, i_cFAR, Option.bind_eq_bind, Option.bind_some, i_le, i_lt, i_eq]
    rw [if_pos (by omega)]
    obtain rfl : k = nN N := by omega
    rfl
  | succ d ih =>
    intro k n hk hn
    obtain ⟨n, rfl⟩ : ∃ n', n = n' + 1 := ⟨n - 1, by omega⟩
    have hr := hgF_rng (v := fun i => w i * awy N i e x) (s := s) (m := k) (B := 1272150000) (by omega) (fun i hi => vr i (by omega))
    have vk := vr k (by omega)
    have hk9 := hw9 k (by omega)
    have key : ∀ y : Int, y = (if s.testBit k = true then w k * awy N k e x else 0) → M_heightAt_47 F (M_heightAt_6 F σ (i32 s) (i32 e) (j64 x.1) (j64 x.2) n) σ (i32 s) (i32 e) (j64 x.1) (j64 x.2) (j64 (hgF (fun i => w i * awy N i e x) s k)) (i32 k) (j64 y) = some (j64 (hgt N w s e x)) := by
      intro y hy
      have hy0 : 0 ≤ y ∧ y ≤ 1272150000 := by rw [hy]; split <;> omega
      have e1 : hgF (fun i => w i * awy N i e x) s (k + 1) = max (hgF (fun i => w i * awy N i e x) s k) y := by rw [hy]; rfl
      unfold M_heightAt_47 M_heightAt_64
      simp (disch := omega) only [i_c0, i_c1, i_c2, i_c3, i_c4, i_c5, i_c6, i_c8, i_c9, i_c10, i_c12, i_c16, i_c17, i_c18, i_c31, i_c32, i_c45, i_c48, i_c50, i_c54, i_c55, i_c57, i_c58, i_c59, i_c61, i_c64, i_c73, i_c118, i_c119, i_c120, i_c126, i_c365, i_c1000, i_cFAR, i_add, i_sub, i_mul, i_neg, Option.bind_eq_bind, Option.bind_some, j_le, j_lt, j_eq]
      have := ih (k + 1) n (by omega) (by omega)
      rw [e1] at this
      by_cases h : y ≤ hgF (fun i => w i * awy N i e x) s k
      · rw [if_pos h]; rw [Int.max_eq_left h] at this; exact this
      · rw [if_neg h]; rw [Int.max_eq_right (by omega)] at this; exact this
    unfold M_heightAt_6
    rw [M_many_eq hN, M_has_eq hs (by omega)]
    simp (disch := omega) only [i_c0, i_c1, i_c2, i_c3, i_c4, i_c5, i_c6, i_c8, i_c9, i_c10, i_c12, i_c16, i_c17, i_c18, i_c31, i_c32, i_c45, i_c48, i_c50, i_c54, i_c55, i_c57, i_c58, i_c59, i_c61, i_c64, i_c73, i_c118, i_c119, i_c120, i_c126, i_c365, i_c1000, i_cFAR, Option.bind_eq_bind, Option.bind_some, i_le, i_lt, i_eq, rdI_i, Int.toNat_natCast, hw k (by omega), M_away_eq hN hf (show k < nN N by omega) he hx, i_long, j_c0, j_c1, j_c2, j_add, j_sub, j_mul, j_neg]
    rw [if_neg (by omega)]
    unfold bt
    by_cases hb : s.testBit k = true
    · rw [if_pos hb, if_neg (by simp [i32])]; exact key _ (by rw [if_pos hb])
    · rw [if_neg hb, if_pos rfl]; exact key _ (by rw [if_neg hb])
theorem M_heightAt_eq {s e : Nat} {x : Fq} (hN : mN σ N) (hf : far (nN N) (mA σ 4) (dN N)) (hw : wts (nN N) (mA σ 5) w) (hw9 : okw9 (nN N) w) (hc : cnN N) (hs : s < 256) (he : e < eN N) (hx : okx x) (hxl : x.1 ≤ (ed N e).2.2 * x.2) (hF : 8 < F) :
    M_heightAt F σ (i32 s) (i32 e) (j64 x.1) (j64 x.2) = some (j64 (hgt N w s e x)) := by
  have h8 := hN.2.2.1
  exact M_heightAt_6_eq hN hf hw hw9 hc hs he hx hxl (nN N) 0 F (by omega) (by omega)
theorem M_costAt_6_eq {e : Nat} {x : Fq} (hN : mN σ N) (hf : far (nN N) (mA σ 4) (dN N)) (hw : wts (nN N) (mA σ 5) w) (hw9 : okw9 (nN N) w) (he : e < eN N) (hx : okx x) (d : Nat) :
    ∀ (k n : Nat), k + d = nN N → d < n → M_costAt_6 F σ (i32 e) (j64 x.1) (j64 x.2) n (j64 (csF (fun i => w i * awy N i e x) k)) (i32 k) = some (j64 (cos_ N w e x)) := by
  have h8 := hN.2.2.1
  induction d with
  | zero =>
    intro k n hk hn
    obtain ⟨n, rfl⟩ : ∃ n', n = n' + 1 := ⟨n - 1, by omega⟩
    unfold M_costAt_6
    rw [M_many_eq hN]
    simp (disch := omega) only [i_c0, i_c1, i_c2, i_c3, i_c4, i_c5, i_c6, i_c8, i_c9, i_c10, i_c12, i_c16, i_c17, i_c18, i_c31, i_c32, i_c45, i_c48, i_c50, i_c54, i_c55, i_c57, i_c58, i_c59, i_c61, i_c64, i_c73, i_c118, i_c119, i_c120, i_c126, i_c365, i_c1000, i_cFAR, Option.bind_eq_bind, Option.bind_some, i_le, i_lt, i_eq]
    rw [if_pos (by omega)]
    obtain rfl : k = nN N := by omega
    rfl
  | succ d ih =>
    intro k n hk hn
    obtain ⟨n, rfl⟩ : ∃ n', n = n' + 1 := ⟨n - 1, by omega⟩
    have hk9 := hw9 k (by omega)
    unfold M_costAt_6
    rw [M_many_eq hN]
    simp (disch := omega) only [i_c0, i_c1, i_c2, i_c3, i_c4, i_c5, i_c6, i_c8, i_c9, i_c10, i_c12, i_c16, i_c17, i_c18, i_c31, i_c32, i_c45, i_c48, i_c50, i_c54, i_c55, i_c57, i_c58, i_c59, i_c61, i_c64, i_c73, i_c118, i_c119, i_c120, i_c126, i_c365, i_c1000, i_cFAR, Option.bind_eq_bind, Option.bind_some, i_le, i_lt, i_eq, rdI_i, Int.toNat_natCast, hw k (by omega), M_away_eq hN hf (show k < nN N by omega) he hx, i_long, j_c0, j_c1, j_c2, j_add, j_sub, j_mul, j_neg, i_add, i_sub, i_mul, i_neg]
    rw [if_neg (by omega)]
    exact ih (k + 1) n (by omega) (by omega)
theorem M_costAt_eq {e : Nat} {x : Fq} (hN : mN σ N) (hf : far (nN N) (mA σ 4) (dN N)) (hw : wts (nN N) (mA σ 5) w) (hw9 : okw9 (nN N) w) (he : e < eN N) (hx : okx x) (hF : 8 < F) :
    M_costAt F σ (i32 e) (j64 x.1) (j64 x.2) = some (j64 (cos_ N w e x)) := by
  have h8 := hN.2.2.1
  exact M_costAt_6_eq hN hf hw hw9 he hx (nN N) 0 F (by omega) (by omega)
/-- the stretches of an edge -/
def sts (N : Net) (e : Nat) : List Fq := (N.2.2.filter (fun s => s.1 == e)).map (fun s => (s.2.1, s.2.2))
theorem alw_iff {e : Nat} {x : Fq} : alw (sts N e) x ↔ ∀ k, k < sN N → (sd N k).1 = e → ¬ ((sd N k).2.1 * x.2 < x.1 ∧ x.1 < (sd N k).2.2 * x.2) := by
  constructor
  · intro h k hk he
    refine h _ (List.mem_map.mpr ⟨sd N k, List.mem_filter.mpr ⟨?_, by simp [he]⟩, rfl⟩)
    unfold sd; rw [List.getD_eq_getElem?_getD, List.getElem?_eq_getElem hk]; exact List.getElem_mem hk
  · intro h s hs
    obtain ⟨t, ht, rfl⟩ := List.mem_map.mp hs
    obtain ⟨h1, h2⟩ := List.mem_filter.mp ht
    obtain ⟨k, hk, rfl⟩ := List.mem_iff_getElem.mp h1
    have e1 : sd N k = N.2.2[k] := by unfold sd; rw [List.getD_eq_getElem?_getD, List.getElem?_eq_getElem hk]; rfl
    have := h k hk (by rw [e1]; simpa using h2)
    rw [e1] at this; exact this
theorem M_mayLie_6_eq {e : Nat} {x : Fq} (hN : mN σ N) (he : e < eN N) (hx : okx x) (d : Nat) : ∀ (k n : Nat) (c : Bool), k + d = sN N → d < n → (c = true ↔ ∀ j, j < k → (sd N j).1 = e → ¬ ((sd N j).2.1 * x.2 < x.1 ∧ x.1 < (sd N j).2.2 * x.2)) →
    M_mayLie_6 F σ (i32 e) (j64 x.1) (j64 x.2) n (i32 (if c then 1 else 0)) (i32 k) = some (i32 (tr01 (alw (sts N e) x))) := by
  have h6 := hN.2.2.2.2.2.2.1
  have h12 := hN.2.2.2.2.1
  induction d with
  | zero =>
    intro k n c hk hn hc
    obtain ⟨n, rfl⟩ : ∃ n', n = n' + 1 := ⟨n - 1, by omega⟩
    unfold M_mayLie_6
    rw [M_stretchMany_eq hN]
    simp (disch := omega) only [i_c0, i_c1, i_c2, i_c3, i_c4, i_c5, i_c6, i_c8, i_c9, i_c10, i_c12, i_c16, i_c17, i_c18, i_c31, i_c32, i_c45, i_c48, i_c50, i_c54, i_c55, i_c57, i_c58, i_c59, i_c61, i_c64, i_c73, i_c118, i_c119, i_c120, i_c126, i_c365, i_c1000, i_cFAR, Option.bind_eq_bind, Option.bind_some, i_le, i_lt, i_eq]
    rw [if_pos (by omega)]
    obtain rfl : k = sN N := by omega
    rw [← alw_iff] at hc
    cases c with
    | false => rw [tr01_neg (fun z => by cases hc.mpr z)]; rfl
    | true => rw [tr01_pos (hc.mp rfl)]; rfl
  | succ d ih =>
    intro k n c hk hn hc
    obtain ⟨n, rfl⟩ : ∃ n', n = n' + 1 := ⟨n - 1, by omega⟩
    have hks : k < sN N := by omega
    obtain ⟨a1, a2, a3, a4⟩ := hN.2.2.2.2.2.2.2 k hks
    obtain ⟨b1, b2, b3, b4, b5⟩ := hN.2.2.2.2.2.1 _ a1
    obtain ⟨x1, x2, x3, x4⟩ := hx
    have m1 := mul_rng (a := (sd N k).2.1) (b := x.2) (A := 50) (B := 1000) a2 (by omega) (by omega) x2
    have m2 := mul_rng (a := (sd N k).2.2) (b := x.2) (A := 50) (B := 1000) (by omega) (by omega) (by omega) x2
    rw [Int.mul_comm] at m1 m2
    have step : ∀ c' : Bool, (c' = true ↔ c = true ∧ ((sd N k).1 = e → ¬ ((sd N k).2.1 * x.2 < x.1 ∧ x.1 < (sd N k).2.2 * x.2))) → M_mayLie_68 F (M_mayLie_6 F σ (i32 e) (j64 x.1) (j64 x.2) n) σ (i32 e) (j64 x.1) (j64 x.2) (i32 k) (i32 (if c' then 1 else 0)) = some (i32 (tr01 (alw (sts N e) x))) := by
      intro c' hc'
      unfold M_mayLie_68
      simp only [i_c0, i_c1, i_c2, i_c3, i_c4, i_c5, i_c6, i_c8, i_c9, i_c10, i_c12, i_c16, i_c17, i_c18, i_c31, i_c32, i_c45, i_c48, i_c50, i_c54, i_c55, i_c57, i_c58, i_c59, i_c61, i_c64, i_c73, i_c118, i_c119, i_c120, i_c126, i_c365, i_c1000, i_cFAR, i_add, i_sub, i_mul, i_neg, Option.bind_eq_bind, Option.bind_some]
      refine ih (k + 1) n c' (by omega) (by omega) ?_
      rw [hc', hc]
      constructor
      · rintro ⟨h1, h2⟩ j hj
        by_cases e1 : j = k
        · rw [e1]; exact h2
        · exact h1 j (by omega)
      · intro h; exact ⟨fun j hj => h j (by omega), h k (by omega)⟩
    unfold M_mayLie_6
    rw [M_stretchMany_eq hN]
    simp only [i_c0, i_c1, i_c2, i_c3, i_c4, i_c5, i_c6, i_c8, i_c9, i_c10, i_c12, i_c16, i_c17, i_c18, i_c31, i_c32, i_c45, i_c48, i_c50, i_c54, i_c55, i_c57, i_c58, i_c59, i_c61, i_c64, i_c73, i_c118, i_c119, i_c120, i_c126, i_c365, i_c1000, i_cFAR]
    rw [M_at_0 hN hks, M_at_1 hN hks, M_at_2 hN hks]
    simp (disch := omega) only [Option.bind_eq_bind, Option.bind_some, i_le, i_lt, i_eq, i_long, j_add, j_sub, j_mul, j_neg, j_le, j_lt, j_eq]
    rw [if_neg (by omega)]
    unfold M_mayLie_63 M_mayLie_67
    simp only [i_c0, i_c1, i_c2, i_c3, i_c4, i_c5, i_c6, i_c8, i_c9, i_c10, i_c12, i_c16, i_c17, i_c18, i_c31, i_c32, i_c45, i_c48, i_c50, i_c54, i_c55, i_c57, i_c58, i_c59, i_c61, i_c64, i_c73, i_c118, i_c119, i_c120, i_c126, i_c365, i_c1000, i_cFAR]
    rw [Int.mul_comm x.2, Int.mul_comm x.2]
    cases c with
    | false =>
      rw [if_pos (by rfl)]; exact step false (by simp)
    | true =>
      rw [if_neg (by simp [i32])]
      by_cases h1 : ((sd N k).1 : Int) = e
      · rw [if_pos h1]
        have h1' : (sd N k).1 = e := by omega
        by_cases h2 : x.1 ≤ (sd N k).2.1 * x.2
        · rw [if_pos h2]; exact step true (by simp [h1']; omega)
        · rw [if_neg h2]
          by_cases h3 : x.1 < (sd N k).2.2 * x.2
          · rw [if_pos h3]; exact step false (by simp [h1']; omega)
          · rw [if_neg h3]; exact step true (by simp [h1']; omega)
      · rw [if_neg h1]
        exact step true (by simp; intro z; omega)
theorem M_mayLie_eq {e : Nat} {x : Fq} (hN : mN σ N) (he : e < eN N) (hx : okx x) (hF : 8 < F) : M_mayLie F σ (i32 e) (j64 x.1) (j64 x.2) = some (i32 (tr01 (alw (sts N e) x))) := by
  have h6 := hN.2.2.2.2.2.2.1
  exact M_mayLie_6_eq hN he hx (sN N) 0 F true (by omega) (by omega) (by simp)
/-- the weights by a parameter -/
def wS (N : Net) (s : Int) (i : Nat) : Int := wN N i + s * tN N i
theorem wS_ok (h : okN N) {s : Int} (h0 : 0 ≤ s) (h1 : s ≤ 10) : okw9 (nN N) (wS N s) := by
  intro i hi
  obtain ⟨a1, a2, a3, a4⟩ := h.2.2.1 i hi
  have := mul_rng h0 h1 a3 a4
  unfold wS; omega
theorem M_weighs_2_eq (s : Int) (d : Nat) : ∀ (k n : Nat) (σ : MS), mN σ N → k + d = 8 → d < n → (∀ i, i < k → i < nN N → mA σ 5 i = i32 (wS N s i)) → ∃ τ, M_weighs_2 F (i32 s) n (i32 k) σ = some τ ∧ kp [] [] [5] [] σ τ ∧ wts (nN N) (mA τ 5) (wS N s) := by
  induction d with
  | zero =>
    intro k n σ hN hk hn h
    obtain ⟨n, rfl⟩ : ∃ n', n = n' + 1 := ⟨n - 1, by omega⟩
    have h8 := hN.2.2.1
    refine ⟨σ, ?_, kp.rf, fun i hi => h i (by omega) hi⟩
    unfold M_weighs_2
    simp (disch := omega) only [i_c0, i_c1, i_c2, i_c3, i_c4, i_c5, i_c6, i_c8, i_c9, i_c10, i_c12, i_c16, i_c17, i_c18, i_c31, i_c32, i_c45, i_c48, i_c50, i_c54, i_c55, i_c57, i_c58, i_c59, i_c61, i_c64, i_c73, i_c118, i_c119, i_c120, i_c126, i_c365, i_c1000, i_cFAR, i_le, i_lt, i_eq]
    rw [if_pos (by omega)]
  | succ d ih =>
    intro k n σ hN hk hn h
    obtain ⟨n, rfl⟩ : ∃ n', n = n' + 1 := ⟨n - 1, by omega⟩
    have e1 : (1 + (k : Int)).toNat = 1 + k := by omega
    have e2 : (9 + (k : Int)).toNat = 9 + k := by omega
    obtain ⟨τ, h1, h2, h3⟩ := ih (k + 1) n (sA σ 5 (upd (mA σ 5) k (mA σ 0 (1 + k) + i32 s * mA σ 0 (9 + k)))) (hN.kp (kp.sA (aS := [5]) (iS := []) (lS := []) (bS := []))) (by omega) (by omega) (fun i hi hin => by
      simp only [mA_sA, if_true, upd_at]
      by_cases e : i = k
      · rw [if_pos e, e, (hN.1.2.1 k (by omega)).1, (hN.1.2.1 k (by omega)).2, i_mul, i_add]; rfl
      · rw [if_neg e]; exact h i (by omega) hin)
    refine ⟨τ, ?_, kp.tr kp.sA h2, h3⟩
    unfold M_weighs_2
    simp (disch := omega) only [i_c0, i_c1, i_c2, i_c3, i_c4, i_c5, i_c6, i_c8, i_c9, i_c10, i_c12, i_c16, i_c17, i_c18, i_c31, i_c32, i_c45, i_c48, i_c50, i_c54, i_c55, i_c57, i_c58, i_c59, i_c61, i_c64, i_c73, i_c118, i_c119, i_c120, i_c126, i_c365, i_c1000, i_cFAR, i_le, i_lt, i_eq, i_add, i_sub, i_mul, i_neg, Option.bind_eq_bind, Option.bind_some, rdI_i, stA_i, e1, e2, Int.toNat_natCast]
    rw [if_neg (by omega)]
    exact h1
theorem M_weighs_eq (s : Int) (hN : mN σ N) (hF : 8 < F) : ∃ τ, M_weighs F σ (i32 s) = some τ ∧ kp [] [] [5] [] σ τ ∧ wts (nN N) (mA τ 5) (wS N s) :=
  M_weighs_2_eq s 8 0 F σ hN rfl hF (fun i hi => by omega)
/-- the greatest common divisor -/
theorem M_divisor_6_eq : ∀ (n x y : Nat), (x : Int) < 9223372036854775808 → (y : Int) < 9223372036854775808 → y < n → M_divisor_6 F n (j64 x) (j64 y) = some (j64 (Nat.gcd x y)) := by
  intro n
  induction n with
  | zero => intro x y _ _ h; omega
  | succ n ih =>
    intro x y hx hy hn
    unfold M_divisor_6
    simp (disch := omega) only [j_c0, j_c1, j_c2, j_le, j_lt, j_eq, Option.bind_eq_bind, Option.bind_some]
    by_cases h : (y : Int) = 0
    · rw [if_pos h]
      obtain rfl : y = 0 := by omega
      rw [Nat.gcd_zero_right]
    · rw [if_neg h, if_neg h, j_div (by omega) hx (by omega) hy, j_mul, j_sub]
      have e : (x : Int) - (x : Int) / (y : Int) * (y : Int) = ((x % y : Nat) : Int) := by
        rw [show ((x % y : Nat) : Int) = (x : Int) % (y : Int) from rfl, Int.emod_def, Int.mul_comm]
      have hm : x % y < y := Nat.mod_lt _ (by omega)
      rw [e, ih y (x % y) hy (by omega) (by omega)]
      rw [Nat.gcd_comm x y, Nat.gcd_rec y x, Nat.gcd_comm]
/-- the reduced parts of a fraction -/
def rdc (p q : Int) (part : Int) : Int := if part = 0 then p / (Int.gcd p q : Int) else q / (Int.gcd p q : Int)
theorem M_reduced_eq {p q part : Int} (hp : 0 ≤ p) (hp2 : p < 9223372036854775808) (hq : 0 < q) (hq2 : q < 9223372036854775808) (h0 : 0 ≤ part) (h1 : part ≤ 1) (hF : q.toNat < F) : M_reduced F (j64 p) (j64 q) (i32 part) = some (i32 (rdc p q part)) := by
  obtain ⟨a, rfl⟩ : ∃ a : Nat, p = a := ⟨p.toNat, by omega⟩
  obtain ⟨b, rfl⟩ : ∃ b : Nat, q = b := ⟨q.toNat, by omega⟩
  have hg : Int.gcd (a : Int) (b : Int) = Nat.gcd a b := rfl
  have hb : 0 < b := by omega
  have g1 : 0 < Nat.gcd a b := Nat.gcd_pos_of_pos_right a hb
  have g2 : Nat.gcd a b ≤ b := Nat.gcd_le_right a hb
  unfold M_reduced M_divisor
  rw [M_divisor_6_eq F a b hp2 hq2 (by omega)]
  unfold M_reduced_17 rdc
  rw [hg]
  simp (disch := omega) only [i_c0, i_c1, i_c2, i_c3, i_c4, i_c5, i_c6, i_c8, i_c9, i_c10, i_c12, i_c16, i_c17, i_c18, i_c31, i_c32, i_c45, i_c48, i_c50, i_c54, i_c55, i_c57, i_c58, i_c59, i_c61, i_c64, i_c73, i_c118, i_c119, i_c120, i_c126, i_c365, i_c1000, i_cFAR, j_c0, j_c1, j_c2, Option.bind_eq_bind, Option.bind_some, i_le, i_lt, i_eq, j_le, j_lt, j_eq, j_div, j_int]
  by_cases h : part = 0
  · rw [if_pos h, if_neg (by omega), if_pos h]
  · rw [if_neg h, if_neg (by omega), if_neg h]
end MP
