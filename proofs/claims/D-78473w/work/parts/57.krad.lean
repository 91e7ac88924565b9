/-! RADII OF SETS, SEVERAL CENTERS: the plain law -/
theorem i_and2 (a b : Nat) : i32 (a : Int) &&& i32 (b : Int) = i32 ((a &&& b : Nat) : Int) := by
  apply Int32.toBitVec.inj
  unfold i32
  simp only [Int32.toBitVec_and, Int32.toBitVec_ofInt, BitVec.ofInt_natCast]
  apply BitVec.eq_of_getLsbD_eq
  intro i hi
  simp [BitVec.getLsbD_ofNat, hi, Nat.testBit_and]
theorem i_or2 (a b : Nat) : i32 (a : Int) ||| i32 (b : Int) = i32 ((a ||| b : Nat) : Int) := by
  apply Int32.toBitVec.inj
  unfold i32
  simp only [Int32.toBitVec_or, Int32.toBitVec_ofInt, BitVec.ofInt_natCast]
  apply BitVec.eq_of_getLsbD_eq
  intro i hi
  simp [BitVec.getLsbD_ofNat, hi, Nat.testBit_or]
theorem i_xor2 (a b : Nat) : i32 (a : Int) ^^^ i32 (b : Int) = i32 ((a ^^^ b : Nat) : Int) := by
  apply Int32.toBitVec.inj
  unfold i32
  simp only [Int32.toBitVec_xor, Int32.toBitVec_ofInt, BitVec.ofInt_natCast]
  apply BitVec.eq_of_getLsbD_eq
  intro i hi
  simp [BitVec.getLsbD_ofNat, hi, Nat.testBit_xor]
/-- a without s -/
def andn (a s : Nat) : Nat := a &&& (a ^^^ s)
theorem andn_bit (a s i : Nat) : (andn a s).testBit i = (a.testBit i && !s.testBit i) := by
  unfold andn
  rw [Nat.testBit_and, Nat.testBit_xor]
  cases a.testBit i <;> cases s.testBit i <;> rfl
theorem i_andn (a s : Nat) : i32 (a : Int) &&& (i32 (s : Int) ^^^ i32 (-1)) = i32 (andn a s : Int) := by
  apply Int32.toBitVec.inj
  unfold i32
  simp only [Int32.toBitVec_and, Int32.toBitVec_xor, Int32.toBitVec_ofInt, BitVec.ofInt_natCast]
  rw [show BitVec.ofInt 32 (-1) = BitVec.allOnes 32 by decide]
  apply BitVec.eq_of_getLsbD_eq
  intro i hi
  rw [BitVec.getLsbD_and, BitVec.getLsbD_xor, BitVec.getLsbD_allOnes, BitVec.getLsbD_ofNat, BitVec.getLsbD_ofNat, BitVec.getLsbD_ofNat, andn_bit]
  simp only [hi, decide_true, Bool.true_and]
  cases a.testBit i <;> cases s.testBit i <;> rfl
theorem andn_zero {a s : Nat} : andn a s = 0 ↔ sub a s := by
  constructor
  · intro h i hi
    have := andn_bit a s i
    rw [h, Nat.zero_testBit, hi] at this
    simpa using this.symm
  · intro h
    apply Nat.eq_of_testBit_eq
    intro i
    rw [andn_bit, Nat.zero_testBit]
    cases h1 : a.testBit i with
    | false => rfl
    | true => rw [h i h1]; rfl
theorem andn_sub {a s : Nat} (h : sub a s) : andn s a = s ^^^ a := by
  apply Nat.eq_of_testBit_eq
  intro i
  rw [andn_bit, xr_bit h]
theorem andn_le (a s : Nat) : andn a s ≤ a := Nat.and_le_left
theorem sub_all {a n : Nat} (h : a < 2 ^ n) : sub a (2 ^ n - 1) := by
  intro i hi
  rw [Nat.testBit_two_pow_sub_one]
  simp only [decide_eq_true_eq]
  apply Classical.byContradiction
  intro hn
  rw [Nat.testBit_lt_two_pow (Nat.lt_of_lt_of_le h (Nat.pow_le_pow_right (by decide) (Nat.not_lt.mp hn)))] at hi
  cases hi
theorem sub_lt {a s n : Nat} (h : sub a s) (hs : s < 2 ^ n) : a < 2 ^ n := Nat.lt_of_le_of_lt (sub_le h) hs
theorem fle_congl {a b x : Fq} (ha : 0 < a.2) (hb : 0 < b.2) (hx : 0 < x.2) (e : feq a b) : fle a x ↔ fle b x :=
  ⟨fun h => fle_trans hb ha hx (fle_of_feq (feq_symm e)) h, fun h => fle_trans ha hb hx (fle_of_feq e) h⟩
theorem fle_congr {a b x : Fq} (ha : 0 < a.2) (hb : 0 < b.2) (hx : 0 < x.2) (e : feq a b) : fle x a ↔ fle x b :=
  ⟨fun h => fle_trans hx ha hb h (fle_of_feq e), fun h => fle_trans hx hb ha h (fle_of_feq (feq_symm e))⟩
/-- the radius of a set -/
def isRad (N : Net) (w : Nat → Int) (s : Nat) (r : Fq) : Prop := ∃ e x, ctrP N (hgt N w s) e x ∧ r = (hgt N w s e x, x.2)
theorem isRad_uniq {N : Net} {w : Nat → Int} {s : Nat} {r r' : Fq} (h : isRad N w s r) (h' : isRad N w s r') : feq r r' := by
  obtain ⟨e, x, c, rfl⟩ := h
  obtain ⟨e', x', c', rfl⟩ := h'
  exact (ctrP_uniq c c').2.2
theorem isRad_pos {N : Net} {w : Nat → Int} {s : Nat} {r : Fq} (h : isRad N w s r) : 0 < r.2 ∧ 0 ≤ r.1 := by
  obtain ⟨e, x, c, rfl⟩ := h
  exact ⟨c.2.1.1, (hgF_spec _ _ _).1⟩
noncomputable def radF (N : Net) (w : Nat → Int) (s : Nat) : Fq := @dite Fq (∃ r, isRad N w s r) (Classical.propDecidable _) (fun h => Classical.choose h) (fun _ => (0, 1))
theorem radF_pos (N : Net) (w : Nat → Int) (s : Nat) : 0 < (radF N w s).2 ∧ 0 ≤ (radF N w s).1 := by
  unfold radF
  split
  · rename_i h; exact isRad_pos (Classical.choose_spec h)
  · exact ⟨by decide, by decide⟩
theorem isRad_F {N : Net} {w : Nat → Int} {s : Nat} {r : Fq} (h : isRad N w s r) : feq r (radF N w s) := by
  unfold radF
  rw [dif_pos ⟨r, h⟩]
  exact isRad_uniq h (Classical.choose_spec (⟨r, h⟩ : ∃ r, isRad N w s r))
/-- the sets with a radius of at most x -/
def atM (r : Nat → Fq) (x : Fq) (a : Nat) : Prop := fle (r a) x
/-- t is the radius of k centers for s -/
def isK (r : Nat → Fq) (k s : Nat) (t : Fq) : Prop := 0 < t.2 ∧ ∀ x, 0 < x.2 → (fle t x ↔ dv (atM r x) k s)
theorem isK_uniq {r : Nat → Fq} {k s : Nat} {t t' : Fq} (h : isK r k s t) (h' : isK r k s t') : feq t t' :=
  feq_of_fle ((h.2 t' h'.1).mpr ((h'.2 t' h'.1).mp (fle_refl _))) ((h'.2 t h.1).mpr ((h.2 t h.1).mp (fle_refl _)))
theorem isK_feq {r : Nat → Fq} {k s : Nat} {t t' : Fq} (h : isK r k s t) (ht : 0 < t'.2) (e : feq t t') : isK r k s t' :=
  ⟨ht, fun x hx => (fle_congl h.1 ht hx e).symm.trans (h.2 x hx)⟩
theorem isK_one {r : Nat → Fq} {s : Nat} (hp : 0 < (r s).2) : isK r 1 s (r s) := ⟨hp, fun x _ => (dv_one (A := atM r x) (s := s)).symm⟩
noncomputable def kRad (r : Nat → Fq) (k s : Nat) : Fq := @dite Fq (∃ t, isK r k s t) (Classical.propDecidable _) (fun h => Classical.choose h) (fun _ => (0, 1))
theorem kRad_of {r : Nat → Fq} {k s : Nat} {t : Fq} (h : isK r k s t) : feq t (kRad r k s) ∧ isK r k s (kRad r k s) := by
  unfold kRad
  rw [dif_pos ⟨t, h⟩]
  exact ⟨isK_uniq h (Classical.choose_spec (⟨t, h⟩ : ∃ t, isK r k s t)), Classical.choose_spec (⟨t, h⟩ : ∃ t, isK r k s t)⟩
theorem atM_mono {r : Nat → Fq} {x y : Fq} (hp : ∀ a, 0 < (r a).2) (hx : 0 < x.2) (hy : 0 < y.2) (h : fle x y) (a : Nat) (ha : atM r x a) : atM r y a := fle_trans (hp a) hx hy ha h
/-- two centers: found by going through the parts -/
def two1 (r : Nat → Fq) (s k : Nat) (t : Option Fq) : Prop := match t with
  | none => ∀ a, a < k → ¬ sub a s
  | some t => 0 < t.2 ∧ dv (atM r t) 2 s ∧ ∀ a, a < k → sub a s → fle t (r a) ∨ fle t (r (s ^^^ a))
theorem two1_done {r : Nat → Fq} {s : Nat} {t : Option Fq} (hp : ∀ a, 0 < (r a).2) (h : two1 r s (s + 1) t) : ∃ t', t = some t' ∧ isK r 2 s t' := by
  match t, h with
  | none, h => exact absurd (sub_refl s) (h s (by omega))
  | some t, ⟨h1, h2, h3⟩ =>
    refine ⟨t, rfl, h1, fun x hx => ⟨fun hf => dv_mono (fun a ha => atM_mono hp h1 hx hf a ha) h2, fun hd => ?_⟩⟩
    obtain ⟨a, a1, a2, a3⟩ := dv_two.mp hd
    rcases h3 a (by have := sub_le a1; omega) a1 with h4 | h4
    · exact fle_trans h1 (hp a) hx h4 a2
    · exact fle_trans h1 (hp _) hx h4 a3
theorem two1_skip {r : Nat → Fq} {s k : Nat} {t : Option Fq} (h : two1 r s k t) (hk : sub k s → ∃ t', t = some t' ∧ (fle t' (r k) ∨ fle t' (r (s ^^^ k)))) : two1 r s (k + 1) t := by
  match t, h with
  | none, h =>
    intro a ha hs
    by_cases e : a = k
    · subst e; obtain ⟨t', ht, -⟩ := hk hs; cases ht
    · exact h a (by omega) hs
  | some t, ⟨h1, h2, h3⟩ =>
    refine ⟨h1, h2, fun a ha hs => ?_⟩
    by_cases e : a = k
    · subst e; obtain ⟨t', ht, h4⟩ := hk hs; cases ht; exact h4
    · exact h3 a (by omega) hs
theorem two1_take {r : Nat → Fq} {s k : Nat} {t : Option Fq} {v : Fq} (hp : ∀ a, 0 < (r a).2) (h : two1 r s k t) (hk : sub k s) (hv : 0 < v.2) (h1 : fle (r k) v) (h2 : fle (r (s ^^^ k)) v) (h3 : fle v (r k) ∨ fle v (r (s ^^^ k))) (h4 : ∀ t', t = some t' → fle v t') : two1 r s (k + 1) (some v) := by
  refine ⟨hv, dv_two.mpr ⟨k, hk, h1, h2⟩, fun a ha hs => ?_⟩
  by_cases e : a = k
  · subst e; exact h3
  · match t, h with
    | none, h => exact absurd hs (h a (by omega))
    | some t, ⟨g1, g2, g3⟩ =>
      rcases g3 a (by omega) hs with g | g
      · exact Or.inl (fle_trans hv g1 (hp a) (h4 t rfl) g)
      · exact Or.inr (fle_trans hv g1 (hp _) (h4 t rfl) g)
/-- three centers: a first group, two centers for the rest -/
theorem isK_three {r : Nat → Fq} {s : Nat} {two : Nat → Fq} {b : Fq} (hp : ∀ a, 0 < (r a).2) (ht : ∀ a, sub a s → isK r 2 (s ^^^ a) (two a)) (hb : 0 < b.2) (h1 : dv (atM r b) 3 s) (h2 : ∀ a, sub a s → fle b (r a) ∨ fle b (two a)) : isK r 3 s b := by
  refine ⟨hb, fun x hx => ⟨fun hf => dv_mono (fun a ha => atM_mono hp hb hx hf a ha) h1, ?_⟩⟩
  rintro ⟨a, a1, a2, a3⟩
  rcases h2 a a1 with h | h
  · exact fle_trans hb (hp a) hx h a2
  · exact fle_trans hb (ht a a1).1 hx h (((ht a a1).2 x hx).mpr a3)
theorem dv_more {A : Nat → Prop} (h0 : A 0) {k s : Nat} (h : dv A k s) : dv A (k + 1) s := ⟨0, sub_zero s, h0, by rw [Nat.xor_zero]; exact h⟩
/-- the widest group decides -/
theorem dv_max {r : Nat → Fq} {x : Fq} (hp : ∀ a, 0 < (r a).2) (hx : 0 < x.2) (k s : Nat) (h : dv (atM r x) (k + 1) s) : ∃ g, sub g s ∧ fle (r g) x ∧ dv (atM r (r g)) (k + 1) s := by
  induction k generalizing s with
  | zero => exact ⟨s, sub_refl s, dv_one.mp h, dv_one.mpr (fle_refl _)⟩
  | succ k ih =>
    obtain ⟨a, a1, a2, a3⟩ := h
    obtain ⟨g, g1, g2, g3⟩ := ih _ a3
    rcases fle_total (r a) (r g) with h | h
    · exact ⟨g, sub_trans g1 (xr_sub a1), g2, a, a1, h, g3⟩
    · exact ⟨a, a1, a2, a, a1, fle_refl _, dv_mono (fun b hb => atM_mono hp (hp g) (hp a) h b hb) g3⟩
/-- the chosen group: the greatest that leaves enough for the others -/
def gOk (A : Nat → Prop) (s k a : Nat) : Prop := sub a s ∧ A a ∧ dv A k (s ^^^ a)
def gre (A : Nat → Prop) (s k a : Nat) : Prop := gOk A s k a ∧ ∀ b, gOk A s k b → b ≤ a
theorem gre_uniq {A : Nat → Prop} {s k a b : Nat} (h : gre A s k a) (h' : gre A s k b) : a = b := Nat.le_antisymm (h'.2 a h.1) (h.2 b h'.1)
/-- the j-th group, of those that are left -/
def grI (A : Nat → Prop) (k : Nat) : Nat → Nat → Nat → Nat → Prop
  | 0, j, s, g => gre A s (k - 1 - j) g
  | i + 1, j, s, g => ∃ a, gre A s (k - 1 - j) a ∧ grI A k i (j + 1) (s ^^^ a) g
theorem grI_uniq {A : Nat → Prop} {k i j s g g' : Nat} (h : grI A k i j s g) (h' : grI A k i j s g') : g = g' := by
  induction i generalizing j s with
  | zero => exact gre_uniq h h'
  | succ i ih =>
    obtain ⟨a, a1, a2⟩ := h
    obtain ⟨b, b1, b2⟩ := h'
    cases gre_uniq a1 b1
    exact ih a2 b2
/-- as many groups as are needed -/
def lst (A : Nat → Prop) (s k : Nat) : Prop := dv A k s ∧ ∀ j, dv A j s → k ≤ j
theorem lst_uniq {A : Nat → Prop} {s k j : Nat} (h : lst A s k) (h' : lst A s j) : k = j := Nat.le_antisymm (h.2 j h'.1) (h'.2 k h.1)
theorem covT_lst {A : Nat → Prop} {n : Nat} {c : Nat → Nat} (h : covT A n c) (hn : n ≤ 8) (h1 : ∀ i, i < n → A (2 ^ i)) {s : Nat} (hs : s < 2 ^ n) : lst A s (c s) := ⟨covT_dv h hn h1 s hs, fun j hj => covT_least h j s hs hj⟩
/-- a node alone: its radius is 0 -/
theorem hgt_zero {N : Net} {w : Nat → Int} {e : Nat} {x : Fq} : hgt N w 0 e x = 0 := by
  unfold hgt
  generalize nN N = m
  induction m with
  | zero => rfl
  | succ m ih => simp only [hgF, ih, Nat.zero_testBit]; simp
theorem hgF_single {v : Nat → Int} {i m : Nat} (h : v i = 0) : hgF v (2 ^ i) m = 0 := by
  induction m with
  | zero => rfl
  | succ m ih =>
    simp only [hgF, ih]
    rw [Nat.testBit_two_pow]
    by_cases e : i = m
    · subst e; simp [h]
    · simp [e]
theorem isRad_le {N : Net} {w : Nat → Int} {s e : Nat} {x r : Fq} (h : isRad N w s r) (he : e < eN N) (hx : inE (ed N e).2.2 x) (ha : alw (sts N e) x) (hz : hgt N w s e x = 0) : r.1 = 0 := by
  have hr := isRad_pos h
  obtain ⟨e', y, c, rfl⟩ := h
  have := c.2.2.2 e x he hx ha
  unfold bq at this
  rw [hz] at this
  simp only at hr
  have hx1 := hx.1
  rcases this with h | ⟨h, -⟩
  · unfold flt at h; simp only [Int.zero_mul] at h
    have := Int.mul_nonneg hr.2 (Int.le_of_lt hx1)
    omega
  · unfold feq at h; simp only [Int.zero_mul] at h
    rcases Int.mul_eq_zero.mp h with z | z
    · exact z
    · omega
theorem end_al2 {N : Net} {e : Nat} (hN : okN N) (he : e < eN N) : inE (lenN N e) (lenN N e, 1) ∧ alN N e (lenN N e, 1) := by
  obtain ⟨a1, a2, a3, a4, a5⟩ := hN.2.2.2.2.1 e he
  refine ⟨⟨by simp, by simp only; unfold lenN; omega, by simp⟩, ?_⟩
  unfold alN
  rw [alw_iff]
  intro k hk hke h
  have := hN.2.2.2.2.2.2 k hk
  rw [hke] at this
  simp only [Int.mul_one] at h
  unfold lenN at h
  omega
theorem rad_zero {N : Net} {w : Nat → Int} {r : Fq} (h : isRad N w 0 r) : r.1 = 0 := by
  obtain ⟨e, x, c, rfl⟩ := h
  exact hgt_zero
theorem rad_single {N : Net} {w : Nat → Int} {i : Nat} {r : Fq} (hN : okN N) (hc : cnN N) (hn : 0 < eN N) (hi : i < nN N) (h : isRad N w (2 ^ i) r) : r.1 = 0 := by
  obtain ⟨a1, a2, a3, a4, a5⟩ := hN.2.2.2.2.1 0 hn
  have hI := okN_D hN
  obtain ⟨j, hj, hij⟩ : ∃ j, j < nN N ∧ j ≠ i := by
    by_cases h : (ed N 0).1 = i
    · exact ⟨(ed N 0).2.1, a2, by omega⟩
    · exact ⟨(ed N 0).1, a1, h⟩
  have hd := (dst_conn hN.1 hN.2.1 (okN_es hN) hc i j hi hj).1
  have hinc : inc N.2.1 i := by
    rcases fwN_inc (okN_d0 hN) (nN N) i j hd with h | h
    · exact absurd h.symm hij
    · exact h
  obtain ⟨e, he, hei⟩ := hinc
  obtain ⟨k, hk, rfl⟩ := List.mem_iff_getElem.mp he
  have ek : ed N k = N.2.1[k] := getD_at hk
  have hk' : k < eN N := hk
  rcases hei with hei | hei
  · obtain ⟨p1, p2⟩ := end_al hN hk'
    refine isRad_le h hk' p1 p2 (hgF_single ?_)
    have : awy N i k (0, 1) = 0 := by
      have z := hI.1 i
      have q1 := hI.2.1 i (ed N k).2.1
      have q2 := hN.2.2.2.2.1 k hk'
      unfold awy
      rw [ek] at *
      rw [hei, z]
      simp only
      omega
    rw [this, Int.mul_zero]
  · obtain ⟨p1, p2⟩ := end_al2 hN hk'
    refine isRad_le h hk' p1 p2 (hgF_single ?_)
    have : awy N i k (lenN N k, 1) = 0 := by
      have z := hI.1 i
      have q1 := hI.2.1 i (ed N k).1
      have q2 := hN.2.2.2.2.1 k hk'
      unfold awy lenN
      rw [ek] at *
      rw [hei, z]
      simp only
      omega
    rw [this, Int.mul_zero]
