/-! FRACTIONS, LINES, HEIGHTS: the plain law of centers (no program in sight) -/
abbrev Fq : Type := Int × Int
def fle (x y : Fq) : Prop := x.1 * y.2 ≤ y.1 * x.2
def flt (x y : Fq) : Prop := x.1 * y.2 < y.1 * x.2
def feq (x y : Fq) : Prop := x.1 * y.2 = y.1 * x.2
theorem fle_refl (x : Fq) : fle x x := Int.le_refl _
theorem feq_refl (x : Fq) : feq x x := rfl
theorem feq_symm {x y : Fq} (h : feq x y) : feq y x := Eq.symm h
theorem fle_total (x y : Fq) : fle x y ∨ fle y x := Int.le_total _ _
theorem fle_of_flt {x y : Fq} (h : flt x y) : fle x y := Int.le_of_lt h
theorem fle_of_feq {x y : Fq} (h : feq x y) : fle x y := Int.le_of_eq h
theorem feq_of_fle {x y : Fq} (h : fle x y) (h2 : fle y x) : feq x y := Int.le_antisymm h h2
theorem not_fle {x y : Fq} : ¬ fle x y ↔ flt y x := Int.not_le
theorem not_flt {x y : Fq} : ¬ flt x y ↔ fle y x := Int.not_lt
theorem flt_irrefl (x : Fq) : ¬ flt x x := Int.lt_irrefl _
theorem flt_or_feq {x y : Fq} (h : fle x y) : flt x y ∨ feq x y := Int.lt_or_eq_of_le h
theorem fle_trans {a b c : Fq} (ha : 0 < a.2) (hb : 0 < b.2) (hc : 0 < c.2) (h : fle a b) (h2 : fle b c) : fle a c := by
  unfold fle at *
  have e1 := Int.mul_le_mul_of_nonneg_right h (Int.le_of_lt hc)
  have e2 := Int.mul_le_mul_of_nonneg_right h2 (Int.le_of_lt ha)
  have e3 : a.1 * c.2 * b.2 ≤ c.1 * a.2 * b.2 := by grind
  exact Int.le_of_mul_le_mul_right e3 hb
theorem flt_of_flt_of_fle {a b c : Fq} (ha : 0 < a.2) (hb : 0 < b.2) (hc : 0 < c.2) (h : flt a b) (h2 : fle b c) : flt a c := by
  unfold flt fle at *
  have e1 := Int.mul_lt_mul_of_pos_right h hc
  have e2 := Int.mul_le_mul_of_nonneg_right h2 (Int.le_of_lt ha)
  have e3 : a.1 * c.2 * b.2 < c.1 * a.2 * b.2 := by grind
  exact Int.lt_of_mul_lt_mul_right e3 (Int.le_of_lt hb)
theorem flt_of_fle_of_flt {a b c : Fq} (ha : 0 < a.2) (hb : 0 < b.2) (hc : 0 < c.2) (h : fle a b) (h2 : flt b c) : flt a c := by
  unfold flt fle at *
  have e1 := Int.mul_le_mul_of_nonneg_right h (Int.le_of_lt hc)
  have e2 := Int.mul_lt_mul_of_pos_right h2 ha
  have e3 : a.1 * c.2 * b.2 < c.1 * a.2 * b.2 := by grind
  exact Int.lt_of_mul_lt_mul_right e3 (Int.le_of_lt hb)
theorem flt_trans {a b c : Fq} (ha : 0 < a.2) (hb : 0 < b.2) (hc : 0 < c.2) (h : flt a b) (h2 : flt b c) : flt a c := flt_of_flt_of_fle ha hb hc h (fle_of_flt h2)
theorem feq_trans {a b c : Fq} (ha : 0 < a.2) (hb : 0 < b.2) (hc : 0 < c.2) (h : feq a b) (h2 : feq b c) : feq a c :=
  feq_of_fle (fle_trans ha hb hc (fle_of_feq h) (fle_of_feq h2)) (fle_trans hc hb ha (fle_of_feq (feq_symm h2)) (fle_of_feq (feq_symm h)))
/-- a line: (slope, value at 0); its value at a fraction, times the denominator -/
def lnv (l : Fq) (x : Fq) : Int := l.2 * x.2 + l.1 * x.1
theorem lnv_sub (l : Fq) (x y : Fq) : lnv l y * x.2 - lnv l x * y.2 = l.1 * (y.1 * x.2 - x.1 * y.2) := by unfold lnv; grind
theorem lnv_feq {l x y : Fq} (h : feq x y) : lnv l x * y.2 = lnv l y * x.2 := by
  have e := lnv_sub l x y; unfold feq at h; rw [h, Int.sub_self, Int.mul_zero] at e; omega
/-- where two lines meet -/
def crs (l m : Fq) : Fq := if 0 < l.1 - m.1 then (m.2 - l.2, l.1 - m.1) else (-(m.2 - l.2), -(l.1 - m.1))
theorem crs_pos {l m : Fq} (h : l.1 ≠ m.1) : 0 < (crs l m).2 := by
  unfold crs; split
  · assumption
  · simp only; omega
/-- if m is below l at x and above it at c, the crossing lies from x on, ahead of c -/
theorem crs_between {l m x c : Fq} (hx : 0 < x.2) (hc : 0 < c.2) (h1 : lnv m x ≤ lnv l x) (h2 : lnv l c < lnv m c) :
    l.1 ≠ m.1 ∧ (fle (crs l m) x ∧ flt c (crs l m) ∨ fle x (crs l m) ∧ flt (crs l m) c) := by
  have e1 : (m.2 - l.2) * x.2 ≤ (l.1 - m.1) * x.1 := by unfold lnv at h1; grind
  have e2 : (l.1 - m.1) * c.1 < (m.2 - l.2) * c.2 := by unfold lnv at h2; grind
  by_cases hz : l.1 = m.1
  · exfalso
    rw [hz, Int.sub_self, Int.zero_mul] at e1 e2
    have h3 : m.2 - l.2 ≤ 0 := by
      apply Int.not_lt.mp; intro h4
      have := Int.mul_pos h4 hx; omega
    have h5 := Int.mul_le_mul_of_nonneg_right h3 (Int.le_of_lt hc)
    omega
  refine ⟨hz, ?_⟩
  unfold crs fle flt
  by_cases hp : 0 < l.1 - m.1
  · left; rw [if_pos hp]; simp only
    exact ⟨by rw [Int.mul_comm x.1]; exact e1, by rw [Int.mul_comm c.1]; exact e2⟩
  · right; rw [if_neg hp]; simp only
    exact ⟨by rw [Int.mul_neg, Int.neg_mul, Int.mul_comm x.1]; omega, by rw [Int.mul_neg, Int.neg_mul, Int.mul_comm c.1]; omega⟩
/-- a node's two lines (up from the first end, down to the second) -/
abbrev Lns : Type := Nat → Fq × Fq
def nf (L : Lns) (i : Nat) (x : Fq) : Int := min (lnv (L i).1 x) (lnv (L i).2 x)
theorem nf_le1 (L : Lns) (i : Nat) (x : Fq) : nf L i x ≤ lnv (L i).1 x := Int.min_le_left _ _
theorem nf_le2 (L : Lns) (i : Nat) (x : Fq) : nf L i x ≤ lnv (L i).2 x := Int.min_le_right _ _
/-- one of the node's lines -/
def isLn (L : Lns) (i : Nat) (l : Fq) : Prop := l = (L i).1 ∨ l = (L i).2
theorem nf_le {L : Lns} {i : Nat} {l : Fq} (h : isLn L i l) (x : Fq) : nf L i x ≤ lnv l x := by
  rcases h with rfl | rfl
  · exact nf_le1 _ _ _
  · exact nf_le2 _ _ _
theorem nf_ln (L : Lns) (i : Nat) (x : Fq) : ∃ l, isLn L i l ∧ nf L i x = lnv l x := by
  unfold nf
  by_cases h : lnv (L i).1 x ≤ lnv (L i).2 x
  · exact ⟨_, Or.inl rfl, by rw [Int.min_eq_left h]⟩
  · exact ⟨_, Or.inr rfl, by rw [Int.min_eq_right (by omega)]⟩
theorem nf_feq {L : Lns} {i : Nat} {x y : Fq} (hx : 0 < x.2) (hy : 0 < y.2) (h : feq x y) : nf L i x * y.2 = nf L i y * x.2 := by
  obtain ⟨l, hl, e⟩ := nf_ln L i x
  obtain ⟨m, hm, e2⟩ := nf_ln L i y
  apply Int.le_antisymm
  · rw [e2, ← lnv_feq h]; exact Int.mul_le_mul_of_nonneg_right (nf_le hm x) (Int.le_of_lt hy)
  · rw [e, lnv_feq h]; exact Int.mul_le_mul_of_nonneg_right (nf_le hl y) (Int.le_of_lt hx)
/-- the height of the set T at x -/
def isH (T : Nat → Prop) (L : Lns) (x : Fq) (h : Int) : Prop := 0 ≤ h ∧ (∀ i, T i → nf L i x ≤ h) ∧ (h = 0 ∨ ∃ i, T i ∧ nf L i x = h)
theorem isH_le {T : Nat → Prop} {L : Lns} {x : Fq} {h b : Int} (H : isH T L x h) (hb : 0 ≤ b) (k : ∀ i, T i → nf L i x ≤ b) : h ≤ b := by
  rcases H.2.2 with e | ⟨i, hi, e⟩
  · omega
  · have := k i hi; omega
theorem isH_feq {T : Nat → Prop} {L : Lns} {x y : Fq} {h h' : Int} (hx : 0 < x.2) (hy : 0 < y.2) (e : feq x y) (H : isH T L x h) (H' : isH T L y h') : h * y.2 = h' * x.2 := by
  have go : ∀ {x y : Fq} {h h' : Int}, 0 < x.2 → 0 < y.2 → feq x y → isH T L x h → isH T L y h' → h * y.2 ≤ h' * x.2 := by
    intro x y h h' hx hy e H H'
    rcases H.2.2 with z | ⟨i, hi, z⟩
    · rw [z, Int.zero_mul]; exact Int.mul_nonneg H'.1 (Int.le_of_lt hx)
    · rw [← z, nf_feq hx hy e]; exact Int.mul_le_mul_of_nonneg_right (H'.2.1 i hi) (Int.le_of_lt hx)
  exact Int.le_antisymm (go hx hy e H H') (go hy hx (feq_symm e) H' H)
/-- a fraction within an edge -/
def inE (len : Int) (x : Fq) : Prop := 0 < x.2 ∧ 0 ≤ x.1 ∧ x.1 ≤ len * x.2
/-- a fraction that the list holds, but for reducing -/
def hasF (cs : List Fq) (y : Fq) : Prop := ∃ c ∈ cs, feq c y
/-- outside of all forbidden stretches -/
def alw (sts : List Fq) (x : Fq) : Prop := ∀ s ∈ sts, ¬ (s.1 * x.2 < x.1 ∧ x.1 < s.2 * x.2)
theorem alw_feq {sts : List Fq} {x y : Fq} (hx : 0 < x.2) (hy : 0 < y.2) (e : feq x y) (h : alw sts x) : alw sts y := by
  intro s hs ⟨h1, h2⟩
  refine h s hs ⟨?_, ?_⟩
  · have := flt_of_flt_of_fle (a := (s.1, 1)) (b := y) (c := x) Int.one_pos hy hx (by unfold flt; simp only; omega) (fle_of_feq (feq_symm e))
    unfold flt at this; simp only at this; omega
  · have := flt_of_fle_of_flt (a := x) (b := y) (c := (s.2, 1)) hx hy Int.one_pos (fle_of_feq e) (by unfold flt; simp only; omega)
    unfold flt at this; simp only at this; omega
theorem nbL (cs : List Fq) (x : Fq) (hx : 0 < x.2) (hp : ∀ c ∈ cs, 0 < c.2) (h : ∃ c ∈ cs, fle c x) : ∃ c ∈ cs, fle c x ∧ ∀ d ∈ cs, fle d x → fle d c := by
  induction cs with
  | nil => obtain ⟨c, hc, -⟩ := h; cases hc
  | cons a t ih =>
    by_cases ht : ∃ c ∈ t, fle c x
    · obtain ⟨c, hc, h1, h2⟩ := ih (fun c hc => hp c (List.mem_cons_of_mem _ hc)) ht
      by_cases ha : fle a x ∧ fle c a
      · refine ⟨a, List.mem_cons_self, ha.1, fun d hd hdx => ?_⟩
        rcases List.mem_cons.mp hd with rfl | hd
        · exact fle_refl _
        · exact fle_trans (hp d (List.mem_cons_of_mem _ hd)) (hp c (List.mem_cons_of_mem _ hc)) (hp a List.mem_cons_self) (h2 d hd hdx) ha.2
      · refine ⟨c, List.mem_cons_of_mem _ hc, h1, fun d hd hdx => ?_⟩
        rcases List.mem_cons.mp hd with rfl | hd
        · rcases fle_total d c with h3 | h3
          · exact h3
          · exact absurd ⟨hdx, h3⟩ ha
        · exact h2 d hd hdx
    · obtain ⟨c, hc, h1⟩ := h
      rcases List.mem_cons.mp hc with rfl | hc
      · refine ⟨c, List.mem_cons_self, h1, fun d hd hdx => ?_⟩
        rcases List.mem_cons.mp hd with rfl | hd
        · exact fle_refl _
        · exact absurd ⟨d, hd, hdx⟩ ht
      · exact absurd ⟨c, hc, h1⟩ ht
theorem nbR (cs : List Fq) (x : Fq) (hx : 0 < x.2) (hp : ∀ c ∈ cs, 0 < c.2) (h : ∃ c ∈ cs, fle x c) : ∃ c ∈ cs, fle x c ∧ ∀ d ∈ cs, fle x d → fle c d := by
  induction cs with
  | nil => obtain ⟨c, hc, -⟩ := h; cases hc
  | cons a t ih =>
    by_cases ht : ∃ c ∈ t, fle x c
    · obtain ⟨c, hc, h1, h2⟩ := ih (fun c hc => hp c (List.mem_cons_of_mem _ hc)) ht
      by_cases ha : fle x a ∧ fle a c
      · refine ⟨a, List.mem_cons_self, ha.1, fun d hd hdx => ?_⟩
        rcases List.mem_cons.mp hd with rfl | hd
        · exact fle_refl _
        · exact fle_trans (hp a List.mem_cons_self) (hp c (List.mem_cons_of_mem _ hc)) (hp d (List.mem_cons_of_mem _ hd)) ha.2 (h2 d hd hdx)
      · refine ⟨c, List.mem_cons_of_mem _ hc, h1, fun d hd hdx => ?_⟩
        rcases List.mem_cons.mp hd with rfl | hd
        · rcases fle_total c d with h3 | h3
          · exact h3
          · exact absurd ⟨hdx, h3⟩ ha
        · exact h2 d hd hdx
    · obtain ⟨c, hc, h1⟩ := h
      rcases List.mem_cons.mp hc with rfl | hc
      · refine ⟨c, List.mem_cons_self, h1, fun d hd hdx => ?_⟩
        rcases List.mem_cons.mp hd with rfl | hd
        · exact fle_refl _
        · exact absurd ⟨d, hd, hdx⟩ ht
      · exact absurd ⟨c, hc, h1⟩ ht
/-- what a list of places of an edge owes: ends, stretches' ends, all of them within the edge -/
def cdB (len : Int) (sts cs : List Fq) : Prop := (∀ c ∈ cs, inE len c) ∧ hasF cs (0, 1) ∧ hasF cs (len, 1) ∧ ∀ s ∈ sts, hasF cs (s.1, 1) ∧ hasF cs (s.2, 1)
/-- the crossings of lines of different nodes of T -/
def cdX (T : Nat → Prop) (L : Lns) (len : Int) (cs : List Fq) : Prop := ∀ i j l m, T i → T j → i ≠ j → isLn L i l → isLn L j m → l.1 ≠ m.1 → inE len (crs l m) → hasF cs (crs l m)
/-- the crossings of a node's own lines, if they are not flat -/
def cdO (T : Nat → Prop) (L : Lns) (len : Int) (cs : List Fq) : Prop := ∀ i, T i → (L i).1.1 ≠ (L i).2.1 → inE len (crs (L i).1 (L i).2) → hasF cs (crs (L i).1 (L i).2)
/-- x lies between two neighbouring places -/
def nbs (cs : List Fq) (c x d : Fq) : Prop := c ∈ cs ∧ d ∈ cs ∧ flt c x ∧ flt x d ∧ ∀ y, 0 < y.2 → hasF cs y → fle y c ∨ fle d y
theorem nbs_of {len : Int} {sts cs : List Fq} {x : Fq} (hB : cdB len sts cs) (hx : inE len x) (hn : ¬ hasF cs x) : ∃ c d, nbs cs c x d := by
  have hp : ∀ c ∈ cs, 0 < c.2 := fun c hc => (hB.1 c hc).1
  obtain ⟨c0, hc0, e0⟩ := hB.2.1
  obtain ⟨d0, hd0, e1⟩ := hB.2.2.1
  obtain ⟨c, hc, h1, h2⟩ := nbL cs x hx.1 hp ⟨c0, hc0, fle_trans (hp c0 hc0) (b := (0, 1)) Int.one_pos hx.1 (fle_of_feq e0) (by unfold fle; simp only; have := hx.2.1; omega)⟩
  obtain ⟨d, hd, h3, h4⟩ := nbR cs x hx.1 hp ⟨d0, hd0, fle_trans hx.1 (b := (len, 1)) Int.one_pos (hp d0 hd0) (by unfold fle; simp only; have := hx.2.2; omega) (fle_of_feq (feq_symm e1))⟩
  refine ⟨c, d, hc, hd, ?_, ?_, ?_⟩
  · rcases flt_or_feq h1 with h | h
    · exact h
    · exact absurd ⟨c, hc, h⟩ hn
  · rcases flt_or_feq h3 with h | h
    · exact h
    · exact absurd ⟨d, hd, feq_symm h⟩ hn
  · rintro y hy ⟨z, hz, ez⟩
    rcases fle_total z x with h | h
    · exact Or.inl (fle_trans hy (hp z hz) (hp c hc) (fle_of_feq (feq_symm ez)) (h2 z hz h))
    · exact Or.inr (fle_trans (hp d hd) (hp z hz) hy (h4 z hz h) (fle_of_feq ez))
theorem inE_btw {len : Int} {c x y : Fq} (hc : inE len c) (hx : inE len x) (hy : 0 < y.2) (h1 : fle c y) (h2 : fle y x) : inE len y := by
  refine ⟨hy, ?_, ?_⟩
  · have := fle_trans (a := (0, 1)) (b := c) (c := y) Int.one_pos hc.1 hy (by unfold fle; simp only; have := hc.2.1; omega) h1
    unfold fle at this; simp only at this; omega
  · have := fle_trans (a := y) (b := x) (c := (len, 1)) hy hx.1 Int.one_pos h2 (by unfold fle; simp only; have := hx.2.2; omega)
    unfold fle at this; simp only at this; omega
/-- no crossing between: a line that is not above l at x is not above it at a neighbour -/
theorem noCross {len : Int} {sts cs : List Fq} {c x d e l m : Fq} (hB : cdB len sts cs) (hx : inE len x) (hn : nbs cs c x d) (he : e = c ∨ e = d)
    (hc : l.1 ≠ m.1 → inE len (crs l m) → hasF cs (crs l m)) (h : lnv m x ≤ lnv l x) : lnv m e ≤ lnv l e := by
  apply Int.not_lt.mp
  intro hlt
  have pc : inE len c := hB.1 c hn.1
  have pd : inE len d := hB.1 d hn.2.1
  have pe : inE len e := by rcases he with rfl | rfl <;> assumption
  obtain ⟨hne, hh⟩ := crs_between hx.1 pe.1 h hlt
  have py := crs_pos hne
  rcases hh with ⟨h1, h2⟩ | ⟨h1, h2⟩
  · have hy : hasF cs (crs l m) := hc hne (inE_btw pe hx py (fle_of_flt h2) h1)
    have hex := flt_of_flt_of_fle pe.1 py hx.1 h2 h1
    rcases he with rfl | rfl
    · rcases hn.2.2.2.2 _ py hy with h3 | h3
      · exact flt_irrefl _ (flt_of_flt_of_fle pe.1 py pe.1 h2 h3)
      · exact flt_irrefl _ (flt_of_fle_of_flt hx.1 pd.1 hx.1 (fle_of_flt hn.2.2.2.1) (flt_of_fle_of_flt pd.1 py hx.1 h3 (by
          rcases flt_or_feq h1 with h4 | h4
          · exact h4
          · exact absurd (flt_of_flt_of_fle hx.1 pd.1 hx.1 hn.2.2.2.1 (fle_trans pd.1 py hx.1 h3 h1)) (flt_irrefl _))))
    · exact flt_irrefl _ (flt_trans pe.1 hx.1 pe.1 hex hn.2.2.2.1)
  · have hy : hasF cs (crs l m) := hc hne (inE_btw hx pe py h1 (fle_of_flt h2))
    have hxe := flt_of_fle_of_flt hx.1 py pe.1 h1 h2
    rcases he with rfl | rfl
    · exact flt_irrefl _ (flt_trans hx.1 pe.1 hx.1 hxe hn.2.2.1)
    · rcases hn.2.2.2.2 _ py hy with h3 | h3
      · exact flt_irrefl _ (flt_of_flt_of_fle pc.1 hx.1 pc.1 hn.2.2.1 (fle_trans hx.1 py pc.1 h1 h3))
      · exact flt_irrefl _ (flt_of_flt_of_fle py pe.1 py h2 h3)
theorem alw_nb {len : Int} {sts cs : List Fq} {c x d e : Fq} (hB : cdB len sts cs) (hx : inE len x) (hn : nbs cs c x d) (he : e = c ∨ e = d) (ha : alw sts x) : alw sts e := by
  intro s hs ⟨h1, h2⟩
  have pc : inE len c := hB.1 c hn.1
  have pd : inE len d := hB.1 d hn.2.1
  obtain ⟨s1, s2⟩ := hB.2.2.2 s hs
  have one : ∀ a : Int, (0 : Int) < ((a, 1) : Fq).2 := fun _ => Int.one_pos
  rcases he with rfl | rfl
  · -- s.1 < c < s.2
    have k2 : flt e (s.2, 1) := by unfold flt; simp only; omega
    have k1 : flt (s.1, 1) e := by unfold flt; simp only; omega
    rcases hn.2.2.2.2 _ (one _) s2 with h3 | h3
    · exact flt_irrefl _ (flt_of_flt_of_fle pc.1 (one _) pc.1 k2 h3)
    · have k3 := flt_of_flt_of_fle hx.1 pd.1 (one s.2) hn.2.2.2.1 h3
      have k4 := flt_trans (one s.1) pc.1 hx.1 k1 hn.2.2.1
      refine ha s hs ⟨?_, ?_⟩
      · unfold flt at k4; simp only at k4; omega
      · unfold flt at k3; simp only at k3; omega
  · have k2 : flt e (s.2, 1) := by unfold flt; simp only; omega
    have k1 : flt (s.1, 1) e := by unfold flt; simp only; omega
    rcases hn.2.2.2.2 _ (one _) s1 with h3 | h3
    · have k3 := flt_trans hx.1 pd.1 (one s.2) hn.2.2.2.1 k2
      have k4 := flt_of_fle_of_flt (one s.1) pc.1 hx.1 h3 hn.2.2.1
      refine ha s hs ⟨?_, ?_⟩
      · unfold flt at k4; simp only at k4; omega
      · unfold flt at k3; simp only at k3; omega
    · exact flt_irrefl _ (flt_of_flt_of_fle (one _) pd.1 (one _) k1 h3)
/-- from any place one comes down to a listed one that is lower, or as low and not behind -/
theorem descH {T : Nat → Prop} {L : Lns} {len : Int} {sts cs : List Fq} {x : Fq} {h : Int} (hB : cdB len sts cs) (hX : cdX T L len cs) (h0 : ∀ i y, T i → inE len y → 0 ≤ nf L i y)
    (hx : inE len x) (ha : alw sts x) (hh : isH T L x h) : ∃ c ∈ cs, alw sts c ∧ ∀ h', isH T L c h' → h' * x.2 < h * c.2 ∨ (h' * x.2 = h * c.2 ∨ h' * x.2 < h * c.2) ∧ fle c x := by
  by_cases hc : hasF cs x
  · obtain ⟨c, hc, e⟩ := hc
    have pc := hB.1 c hc
    exact ⟨c, hc, alw_feq hx.1 pc.1 (feq_symm e) ha, fun h' H' => Or.inr ⟨Or.inl (isH_feq pc.1 hx.1 e H' hh), fle_of_feq e⟩⟩
  obtain ⟨c, d, hn⟩ := nbs_of hB hx hc
  have pc : inE len c := hB.1 c hn.1
  have pd : inE len d := hB.1 d hn.2.1
  by_cases hE : ∃ i, T i ∧ nf L i x = h
  · obtain ⟨i, hi, ei⟩ := hE
    obtain ⟨l, hl, el⟩ := nf_ln L i x
    have key : ∀ e, e = c ∨ e = d → ∀ h', isH T L e h' → h' ≤ lnv l e := by
      intro e he h' H'
      have pe : inE len e := by rcases he with rfl | rfl <;> assumption
      refine isH_le H' (Int.le_trans (h0 i e hi pe) (nf_le hl e)) (fun j hj => ?_)
      by_cases hij : i = j
      · subst hij; exact nf_le hl e
      · obtain ⟨m, hm, em⟩ := nf_ln L j x
        have hm2 : lnv m x ≤ lnv l x := by rw [← em, ← el, ei]; exact hh.2.1 j hj
        exact Int.le_trans (nf_le hm e) (noCross hB hx hn he (hX i j l m hi hj hij hl hm) hm2)
    have hlx : lnv l x = h := by rw [← el, ei]
    by_cases hs : 0 ≤ l.1
    · refine ⟨c, hn.1, alw_nb hB hx hn (Or.inl rfl) ha, fun h' H' => Or.inr ⟨?_, fle_of_flt hn.2.2.1⟩⟩
      have k1 := Int.mul_le_mul_of_nonneg_right (key c (Or.inl rfl) h' H') (Int.le_of_lt hx.1)
      have k2 := lnv_sub l x c
      have k3 : l.1 * (c.1 * x.2 - x.1 * c.2) ≤ 0 := by
        have := hn.2.2.1; unfold flt at this
        exact Int.mul_nonpos_of_nonneg_of_nonpos hs (by omega)
      rw [hlx] at k2
      omega
    · refine ⟨d, hn.2.1, alw_nb hB hx hn (Or.inr rfl) ha, fun h' H' => Or.inl ?_⟩
      have k1 := Int.mul_le_mul_of_nonneg_right (key d (Or.inr rfl) h' H') (Int.le_of_lt hx.1)
      have k2 := lnv_sub l x d
      have k3 : l.1 * (d.1 * x.2 - x.1 * d.2) < 0 := by
        have := hn.2.2.2.1; unfold flt at this
        exact Int.mul_neg_of_neg_of_pos (by omega) (by omega)
      rw [hlx] at k2
      omega
  · have hT : ∀ i, ¬ T i := by
      intro i hi
      rcases hh.2.2 with z | z
      · exact hE ⟨i, hi, by have := hh.2.1 i hi; have := h0 i x hi hx; omega⟩
      · exact hE z
    refine ⟨c, hn.1, alw_nb hB hx hn (Or.inl rfl) ha, fun h' H' => Or.inr ⟨?_, fle_of_flt hn.2.2.1⟩⟩
    have z1 : h' = 0 := by rcases H'.2.2 with z | ⟨i, hi, -⟩; exact z; exact absurd hi (hT i)
    have z2 : h = 0 := by rcases hh.2.2 with z | ⟨i, hi, -⟩; exact z; exact absurd hi (hT i)
    rw [z1, z2]; simp
