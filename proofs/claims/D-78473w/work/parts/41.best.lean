/-! COSTS, BEST PLACES, SLOPES -/
theorem crs_comm {l m : Fq} (h : l.1 ≠ m.1) : crs l m = crs m l := by
  unfold crs
  by_cases hp : 0 < l.1 - m.1
  · rw [if_pos hp, if_neg (by omega)]; exact Prod.ext (by simp only; omega) (by simp only; omega)
  · rw [if_neg hp, if_pos (by omega)]; exact Prod.ext (by simp only; omega) (by simp only; omega)
/-- the sum of the nodes' values -/
def cst (L : Lns) : Nat → Fq → Int
  | 0, _ => 0
  | n + 1, x => cst L n x + nf L n x
theorem nf_mix {L : Lns} {i : Nat} {len : Int} {sts cs : List Fq} {c x d : Fq} (hB : cdB len sts cs) (hx : inE len x) (hn : nbs cs c x d)
    (hO : (L i).1.1 ≠ (L i).2.1 → inE len (crs (L i).1 (L i).2) → hasF cs (crs (L i).1 (L i).2)) :
    nf L i c * (d.1 * x.2 - x.1 * d.2) + nf L i d * (x.1 * c.2 - c.1 * x.2) = nf L i x * (d.1 * c.2 - c.1 * d.2) := by
  have mix : ∀ l : Fq, lnv l c * (d.1 * x.2 - x.1 * d.2) + lnv l d * (x.1 * c.2 - c.1 * x.2) = lnv l x * (d.1 * c.2 - c.1 * d.2) := by
    intro l; unfold lnv; grind
  by_cases h : lnv (L i).1 x ≤ lnv (L i).2 x
  · have k : ∀ e, e = c ∨ e = d → lnv (L i).1 e ≤ lnv (L i).2 e := fun e he =>
      noCross hB hx hn he (fun h1 h2 => by rw [crs_comm h1] at h2 ⊢; exact hO (Ne.symm h1) h2) h
    unfold nf
    rw [Int.min_eq_left h, Int.min_eq_left (k c (Or.inl rfl)), Int.min_eq_left (k d (Or.inr rfl))]
    exact mix _
  · have k : ∀ e, e = c ∨ e = d → lnv (L i).2 e ≤ lnv (L i).1 e := fun e he => noCross hB hx hn he hO (by omega)
    unfold nf
    rw [Int.min_eq_right (show lnv (L i).2 x ≤ lnv (L i).1 x by omega), Int.min_eq_right (k c (Or.inl rfl)), Int.min_eq_right (k d (Or.inr rfl))]
    exact mix _
theorem cst_mix {L : Lns} {n : Nat} {len : Int} {sts cs : List Fq} {c x d : Fq} (hB : cdB len sts cs) (hx : inE len x) (hn : nbs cs c x d) (hO : cdO (fun i => i < n) L len cs) :
    cst L n c * (d.1 * x.2 - x.1 * d.2) + cst L n d * (x.1 * c.2 - c.1 * x.2) = cst L n x * (d.1 * c.2 - c.1 * d.2) := by
  induction n with
  | zero => simp [cst]
  | succ n ih =>
    have h1 := ih (fun i hi => hO i (by omega))
    have h2 := nf_mix hB hx hn (hO n (by omega))
    simp only [cst, Int.add_mul]
    omega
theorem cst_feq {L : Lns} {n : Nat} {x y : Fq} (hx : 0 < x.2) (hy : 0 < y.2) (h : feq x y) : cst L n x * y.2 = cst L n y * x.2 := by
  induction n with
  | zero => simp [cst]
  | succ n ih => simp only [cst, Int.add_mul, ih, nf_feq hx hy h]
theorem descC {L : Lns} {n : Nat} {len : Int} {sts cs : List Fq} {x : Fq} (hB : cdB len sts cs) (hO : cdO (fun i => i < n) L len cs) (hx : inE len x) (ha : alw sts x) :
    ∃ c ∈ cs, alw sts c ∧ (cst L n c * x.2 < cst L n x * c.2 ∨ cst L n c * x.2 = cst L n x * c.2 ∧ fle c x) := by
  by_cases hc : hasF cs x
  · obtain ⟨c, hc, e⟩ := hc
    have pc := hB.1 c hc
    exact ⟨c, hc, alw_feq hx.1 pc.1 (feq_symm e) ha, Or.inr ⟨cst_feq pc.1 hx.1 e, fle_of_feq e⟩⟩
  obtain ⟨c, d, hn⟩ := nbs_of hB hx hc
  have pc : inE len c := hB.1 c hn.1
  have pd : inE len d := hB.1 d hn.2.1
  have m := cst_mix hB hx hn hO
  have pA : 0 < d.1 * x.2 - x.1 * d.2 := by have := hn.2.2.2.1; unfold flt at this; omega
  have pB : 0 < x.1 * c.2 - c.1 * x.2 := by have := hn.2.2.1; unfold flt at this; omega
  by_cases h1 : cst L n c * x.2 ≤ cst L n x * c.2
  · refine ⟨c, hn.1, alw_nb hB hx hn (Or.inl rfl) ha, ?_⟩
    rcases Int.lt_or_eq_of_le h1 with h | h
    · exact Or.inl h
    · exact Or.inr ⟨h, fle_of_flt hn.2.2.1⟩
  · refine ⟨d, hn.2.1, alw_nb hB hx hn (Or.inr rfl) ha, Or.inl ?_⟩
    apply Int.not_le.mp
    intro h2
    have k1 := Int.mul_lt_mul_of_pos_right (Int.not_le.mp h1) pA
    have k2 := Int.mul_le_mul_of_nonneg_right h2 (Int.le_of_lt pB)
    have k3 : (cst L n c * (d.1 * x.2 - x.1 * d.2) + cst L n d * (x.1 * c.2 - c.1 * x.2)) * x.2 = cst L n x * (d.1 * c.2 - c.1 * d.2) * x.2 := by rw [m]
    have k4 : cst L n x * c.2 * (d.1 * x.2 - x.1 * d.2) + cst L n x * d.2 * (x.1 * c.2 - c.1 * x.2) = cst L n x * (d.1 * c.2 - c.1 * d.2) * x.2 := by grind
    have k5 : cst L n c * x.2 * (d.1 * x.2 - x.1 * d.2) + cst L n d * x.2 * (x.1 * c.2 - c.1 * x.2) = (cst L n c * (d.1 * x.2 - x.1 * d.2) + cst L n d * (x.1 * c.2 - c.1 * x.2)) * x.2 := by grind
    omega
/-- (e, x) is at least as good as (e', y): lower, or as low and not behind -/
def bq (H : Nat → Fq → Int) (e : Nat) (x : Fq) (e' : Nat) (y : Fq) : Prop := flt (H e x, x.2) (H e' y, y.2) ∨ feq (H e x, x.2) (H e' y, y.2) ∧ (e < e' ∨ e = e' ∧ fle x y)
theorem bq_trans {H : Nat → Fq → Int} {a b c : Nat} {x y z : Fq} (hx : 0 < x.2) (hy : 0 < y.2) (hz : 0 < z.2) (h : bq H a x b y) (h2 : bq H b y c z) : bq H a x c z := by
  rcases h with h | ⟨h, k⟩
  · rcases h2 with h2 | ⟨h2, -⟩
    · exact Or.inl (flt_trans (b := (H b y, y.2)) hx hy hz h h2)
    · exact Or.inl (flt_of_flt_of_fle (b := (H b y, y.2)) hx hy hz h (fle_of_feq h2))
  · rcases h2 with h2 | ⟨h2, k2⟩
    · exact Or.inl (flt_of_fle_of_flt (b := (H b y, y.2)) hx hy hz (fle_of_feq h) h2)
    · refine Or.inr ⟨feq_trans (b := (H b y, y.2)) hx hy hz h h2, ?_⟩
      rcases k with k | ⟨k, k'⟩ <;> rcases k2 with k2 | ⟨k2, k2'⟩
      · left; omega
      · left; omega
      · left; omega
      · right; exact ⟨by omega, fle_trans hx hy hz k' k2'⟩
theorem bq_anti {H : Nat → Fq → Int} {a b : Nat} {x y : Fq} (hx : 0 < x.2) (hy : 0 < y.2) (h : bq H a x b y) (h2 : bq H b y a x) : a = b ∧ feq x y ∧ feq (H a x, x.2) (H b y, y.2) := by
  rcases h with h | ⟨h, k⟩
  · exfalso
    rcases h2 with h2 | ⟨h2, -⟩
    · exact flt_irrefl _ (flt_trans (a := (H a x, x.2)) (b := (H b y, y.2)) (c := (H a x, x.2)) hx hy hx h h2)
    · exact flt_irrefl _ (flt_of_flt_of_fle (a := (H a x, x.2)) (b := (H b y, y.2)) (c := (H a x, x.2)) hx hy hx h (fle_of_feq h2))
  · rcases h2 with h2 | ⟨h2, k2⟩
    · exact absurd (flt_of_fle_of_flt (a := (H a x, x.2)) (b := (H b y, y.2)) (c := (H a x, x.2)) hx hy hx (fle_of_feq h) h2) (flt_irrefl _)
    · rcases k with k | ⟨k, k'⟩
      · exfalso; rcases k2 with k2 | ⟨k2, -⟩ <;> omega
      · rcases k2 with k2 | ⟨-, k2'⟩
        · exfalso; omega
        · exact ⟨k, feq_of_fle k' k2', h⟩
/-- the best of listed places -/
def isBest (ne : Nat) (al : Nat → Fq → Prop) (H : Nat → Fq → Int) (cs : Nat → List Fq) (e : Nat) (x : Fq) : Prop := e < ne ∧ x ∈ cs e ∧ al e x ∧ ∀ e' y, e' < ne → y ∈ cs e' → al e' y → bq H e x e' y
/-- from any allowed place one comes to a listed one that is as good -/
def desc (ne : Nat) (len : Nat → Int) (al : Nat → Fq → Prop) (H : Nat → Fq → Int) (cs : Nat → List Fq) : Prop := ∀ e x, e < ne → inE (len e) x → al e x → ∃ c ∈ cs e, al e c ∧ bq H e c e x
theorem best_same {ne : Nat} {len : Nat → Int} {al : Nat → Fq → Prop} {H : Nat → Fq → Int} {cs cs' : Nat → List Fq} (h1 : desc ne len al H cs) (h2 : desc ne len al H cs')
    (r1 : ∀ e c, e < ne → c ∈ cs e → inE (len e) c) (r2 : ∀ e c, e < ne → c ∈ cs' e → inE (len e) c) {e e' : Nat} {x y : Fq} (b1 : isBest ne al H cs e x) (b2 : isBest ne al H cs' e' y) :
    e = e' ∧ feq x y ∧ feq (H e x, x.2) (H e' y, y.2) := by
  have px := r1 e x b1.1 b1.2.1
  have py := r2 e' y b2.1 b2.2.1
  obtain ⟨c, hc, ac, kc⟩ := h2 e x b1.1 px b1.2.2.1
  obtain ⟨d, hd, ad, kd⟩ := h1 e' y b2.1 py b2.2.2.1
  have pc := r2 e c b1.1 hc
  have pd := r1 e' d b2.1 hd
  have k1 := bq_trans py.1 pc.1 px.1 (b2.2.2.2 e c b1.1 hc ac) kc
  have k2 := bq_trans px.1 pd.1 py.1 (b1.2.2.2 e' d b2.1 hd ad) kd
  exact bq_anti px.1 py.1 k2 k1
/-! slopes -/
theorem isH_uniq {T : Nat → Prop} {L : Lns} {x : Fq} {h h' : Int} (H : isH T L x h) (H' : isH T L x h') : h = h' := Int.le_antisymm (isH_le H H'.1 H'.2.1) (isH_le H' H.1 H.2.1)
def btw (x y z : Fq) : Prop := flt x z ∧ flt z y ∨ flt y z ∧ flt z x
theorem crs_strict {l m x c : Fq} (hx : 0 < x.2) (hc : 0 < c.2) (h1 : lnv m x < lnv l x) (h2 : lnv l c < lnv m c) : l.1 ≠ m.1 ∧ btw x c (crs l m) := by
  obtain ⟨hne, h⟩ := crs_between hx hc (Int.le_of_lt h1) h2
  obtain ⟨-, h'⟩ := crs_between hc hx (Int.le_of_lt h2) h1
  rw [crs_comm (Ne.symm hne)] at h'
  have py := crs_pos hne
  refine ⟨hne, ?_⟩
  rcases h with ⟨a1, a2⟩ | ⟨a1, a2⟩
  · rcases h' with ⟨b1, b2⟩ | ⟨b1, b2⟩
    · exact absurd (flt_of_flt_of_fle hc py hc a2 b1) (flt_irrefl _)
    · exact Or.inr ⟨a2, b2⟩
  · rcases h' with ⟨b1, b2⟩ | ⟨b1, b2⟩
    · exact Or.inl ⟨b2, a2⟩
    · exact absurd (flt_of_flt_of_fle py hc py a2 b1) (flt_irrefl _)
def noB (T : Nat → Prop) (L : Lns) (x y : Fq) : Prop := ∀ i j l m, T i → T j → isLn L i l → isLn L j m → l.1 ≠ m.1 → ¬ btw x y (crs l m)
theorem noB_line {T : Nat → Prop} {L : Lns} {x y l m : Fq} {i j : Nat} (hx : 0 < x.2) (hy : 0 < y.2) (hb : noB T L x y) (hi : T i) (hj : T j) (hl : isLn L i l) (hm : isLn L j m) (h : lnv m x < lnv l x) : lnv m y ≤ lnv l y := by
  apply Int.not_lt.mp
  intro h2
  obtain ⟨hne, k⟩ := crs_strict hx hy h h2
  exact hb i j l m hi hj hl hm hne k
theorem tieR {x y l m : Fq} (hx : 0 < x.2) (h : lnv m x = lnv l x) (hs : m.1 ≤ l.1) (hxy : fle x y) : lnv m y ≤ lnv l y := by
  have e1 := lnv_sub m x y
  have e2 := lnv_sub l x y
  rw [h] at e1
  have k := Int.mul_le_mul_of_nonneg_right hs (show 0 ≤ y.1 * x.2 - x.1 * y.2 by unfold fle at hxy; omega)
  exact Int.le_of_mul_le_mul_right (by omega : lnv m y * x.2 ≤ lnv l y * x.2) hx
theorem tieL {x y l m : Fq} (hx : 0 < x.2) (h : lnv m x = lnv l x) (hs : l.1 ≤ m.1) (hxy : fle y x) : lnv m y ≤ lnv l y := by
  have e1 := lnv_sub m x y
  have e2 := lnv_sub l x y
  rw [h] at e1
  have k := Int.mul_le_mul_of_nonneg_right hs (show 0 ≤ x.1 * y.2 - y.1 * x.2 by unfold fle at hxy; omega)
  have k1 : m.1 * (y.1 * x.2 - x.1 * y.2) = -(m.1 * (x.1 * y.2 - y.1 * x.2)) := by grind
  have k2 : l.1 * (y.1 * x.2 - x.1 * y.2) = -(l.1 * (x.1 * y.2 - y.1 * x.2)) := by grind
  exact Int.le_of_mul_le_mul_right (by omega : lnv m y * x.2 ≤ lnv l y * x.2) hx
/-- the line that is lower behind x, and the one ahead of it -/
def rsl (L : Lns) (i : Nat) (x : Fq) : Fq := if lnv (L i).1 x < lnv (L i).2 x then (L i).1 else (L i).2
def lsl (L : Lns) (i : Nat) (x : Fq) : Fq := if lnv (L i).1 x ≤ lnv (L i).2 x then (L i).1 else (L i).2
theorem rsl_ln (L : Lns) (i : Nat) (x : Fq) : isLn L i (rsl L i x) ∧ lnv (rsl L i x) x = nf L i x := by
  unfold rsl nf; split
  · exact ⟨Or.inl rfl, by rw [Int.min_eq_left (by omega)]⟩
  · exact ⟨Or.inr rfl, by rw [Int.min_eq_right (by omega)]⟩
theorem lsl_ln (L : Lns) (i : Nat) (x : Fq) : isLn L i (lsl L i x) ∧ lnv (lsl L i x) x = nf L i x := by
  unfold lsl nf; split
  · exact ⟨Or.inl rfl, by rw [Int.min_eq_left (by omega)]⟩
  · exact ⟨Or.inr rfl, by rw [Int.min_eq_right (by omega)]⟩
def slR (T : Nat → Prop) (L : Lns) (x : Fq) (s : Int) : Prop := ∃ h, isH T L x h ∧ (∃ i, T i ∧ nf L i x = h ∧ s = (rsl L i x).1) ∧ ∀ j, T j → nf L j x = h → (rsl L j x).1 ≤ s
def slL (T : Nat → Prop) (L : Lns) (x : Fq) (s : Int) : Prop := ∃ h, isH T L x h ∧ (∃ i, T i ∧ nf L i x = h ∧ s = (lsl L i x).1) ∧ ∀ j, T j → nf L j x = h → s ≤ (lsl L j x).1
theorem slopeR {T : Nat → Prop} {L : Lns} {x y : Fq} {s h h' : Int} (hx : 0 < x.2) (hy : 0 < y.2) (hw : ∀ i, T i → (L i).2.1 ≤ (L i).1.1) (h0 : ∀ i, T i → 0 ≤ nf L i y) (hs : slR T L x s) (hxy : fle x y) (hb : noB T L x y)
    (H : isH T L x h) (H' : isH T L y h') : h' * x.2 - h * y.2 = s * (y.1 * x.2 - x.1 * y.2) := by
  obtain ⟨h1, H1, ⟨i, hi, ei, rfl⟩, hmax⟩ := hs
  cases isH_uniq H H1
  obtain ⟨kl, ke⟩ := rsl_ln L i x
  have own : nf L i y = lnv (rsl L i x) y := by
    apply Int.le_antisymm (nf_le kl y)
    unfold rsl at *
    split at kl
    · rename_i hlt
      rw [if_pos hlt] at ke ⊢
      unfold nf; rw [Int.min_eq_left]; · exact Int.le_refl _
      exact noB_line hx hy hb hi hi (Or.inr rfl) (Or.inl rfl) hlt
    · rename_i hge
      rw [if_neg hge] at ke ⊢
      unfold nf; rw [Int.min_eq_right]; · exact Int.le_refl _
      rcases Int.lt_or_eq_of_le (Int.not_lt.mp hge) with h2 | h2
      · exact noB_line hx hy hb hi hi (Or.inl rfl) (Or.inr rfl) h2
      · exact tieR hx h2 (hw i hi) hxy
  have HH : isH T L y (lnv (rsl L i x) y) := by
    refine ⟨by rw [← own]; exact h0 i hi, fun j hj => ?_, Or.inr ⟨i, hi, own⟩⟩
    obtain ⟨ml, me⟩ := rsl_ln L j x
    refine Int.le_trans (nf_le ml y) ?_
    rcases Int.lt_or_eq_of_le (H.2.1 j hj) with h2 | h2
    · exact noB_line hx hy hb hi hj kl ml (by rw [me, ke, ei]; exact h2)
    · exact tieR hx (by rw [me, ke, ei, h2]) (hmax j hj h2) hxy
  cases isH_uniq H' HH
  have := lnv_sub (rsl L i x) x y
  rw [ke, ei] at this
  exact this
theorem slopeL {T : Nat → Prop} {L : Lns} {x y : Fq} {s h h' : Int} (hx : 0 < x.2) (hy : 0 < y.2) (hw : ∀ i, T i → (L i).2.1 ≤ (L i).1.1) (h0 : ∀ i, T i → 0 ≤ nf L i y) (hs : slL T L x s) (hxy : fle y x) (hb : noB T L x y)
    (H : isH T L x h) (H' : isH T L y h') : h' * x.2 - h * y.2 = s * (y.1 * x.2 - x.1 * y.2) := by
  obtain ⟨h1, H1, ⟨i, hi, ei, rfl⟩, hmax⟩ := hs
  cases isH_uniq H H1
  obtain ⟨kl, ke⟩ := lsl_ln L i x
  have own : nf L i y = lnv (lsl L i x) y := by
    apply Int.le_antisymm (nf_le kl y)
    unfold lsl at *
    split at kl
    · rename_i hlt
      rw [if_pos hlt] at ke ⊢
      unfold nf; rw [Int.min_eq_left]; · exact Int.le_refl _
      rcases Int.lt_or_eq_of_le hlt with h2 | h2
      · exact noB_line hx hy hb hi hi (Or.inr rfl) (Or.inl rfl) h2
      · exact tieL hx h2 (hw i hi) hxy
    · rename_i hge
      rw [if_neg hge] at ke ⊢
      unfold nf; rw [Int.min_eq_right]; · exact Int.le_refl _
      exact noB_line hx hy hb hi hi (Or.inl rfl) (Or.inr rfl) (by omega)
  have HH : isH T L y (lnv (lsl L i x) y) := by
    refine ⟨by rw [← own]; exact h0 i hi, fun j hj => ?_, Or.inr ⟨i, hi, own⟩⟩
    obtain ⟨ml, me⟩ := lsl_ln L j x
    refine Int.le_trans (nf_le ml y) ?_
    rcases Int.lt_or_eq_of_le (H.2.1 j hj) with h2 | h2
    · exact noB_line hx hy hb hi hj kl ml (by rw [me, ke, ei]; exact h2)
    · exact tieL hx (by rw [me, ke, ei, h2]) (hmax j hj h2) hxy
  cases isH_uniq H' HH
  have := lnv_sub (lsl L i x) x y
  rw [ke, ei] at this
  exact this
/-- lines that are equal at x and not parallel cross there -/
theorem crs_at {l m x : Fq} (hne : l.1 ≠ m.1) (h : lnv l x = lnv m x) : feq (crs l m) x := by
  unfold crs feq; unfold lnv at h
  split
  · simp only; grind
  · simp only; grind
theorem crs_feq_in {len : Int} {x y : Fq} (hx : inE len x) (hy : 0 < y.2) (e : feq y x) : inE len y := inE_btw hx hx hy (fle_of_feq (feq_symm e)) (fle_of_feq e)
/-- beside the listed places nothing turns -/
theorem flatX {T : Nat → Prop} {L : Lns} {len : Int} {cs : List Fq} {x : Fq} {s s' : Int} (hcs : ∀ c ∈ cs, inE len c) (hX : cdX T L len cs) (hO : cdO T L len cs) (hx : inE len x) (hn : ¬ hasF cs x) (h1 : slR T L x s) (h2 : slL T L x s') : s = s' := by
  obtain ⟨h, H, ⟨i, hi, ei, rfl⟩, -⟩ := h1
  obtain ⟨h', H', ⟨j, hj, ej, rfl⟩, -⟩ := h2
  cases isH_uniq H H'
  obtain ⟨a1, a2⟩ := rsl_ln L i x
  obtain ⟨b1, b2⟩ := lsl_ln L j x
  apply Classical.byContradiction
  intro hne
  have e := crs_at (x := x) hne (by rw [a2, b2, ei, ej])
  have py := crs_pos hne
  have hin := crs_feq_in hx py e
  have hh : hasF cs (crs (rsl L i x) (lsl L j x)) := by
    by_cases hij : i = j
    · subst hij
      rcases a1 with a1 | a1 <;> rcases b1 with b1 | b1
      · exact absurd (by rw [a1, b1]) hne
      · rw [a1, b1] at hne hin ⊢; exact hO i hi hne hin
      · rw [a1, b1] at hne hin ⊢; rw [crs_comm hne] at hin ⊢; exact hO i hi (Ne.symm hne) hin
      · exact absurd (by rw [a1, b1]) hne
    · exact hX i j _ _ hi hj hij a1 b1 hne hin
  obtain ⟨c, hc, ec⟩ := hh
  exact hn ⟨c, hc, feq_trans (hcs c hc).1 py hx.1 ec e⟩
/-- three neighbours lie on one line just if the slopes are the same -/
theorem turn_iff {a b c : Fq} {ha hb hc s s' : Int} (pa : 0 < a.2) (pb : 0 < b.2) (pc : 0 < c.2) (hab : flt a b) (hbc : flt b c) (e1 : ha * b.2 - hb * a.2 = s' * (a.1 * b.2 - b.1 * a.2)) (e2 : hc * b.2 - hb * c.2 = s * (c.1 * b.2 - b.1 * c.2)) :
    (hb * a.2 * c.2 - ha * b.2 * c.2) * (c.1 * a.2 * b.2 - b.1 * a.2 * c.2) = (hc * a.2 * b.2 - hb * a.2 * c.2) * (b.1 * a.2 * c.2 - a.1 * b.2 * c.2) ↔ s = s' := by
  have w1 : 0 < b.1 * a.2 - a.1 * b.2 := by unfold flt at hab; omega
  have w2 : 0 < c.1 * b.2 - b.1 * c.2 := by unfold flt at hbc; omega
  have f1 : hb * a.2 * c.2 - ha * b.2 * c.2 = s' * (b.1 * a.2 - a.1 * b.2) * c.2 := by
    have : hb * a.2 - ha * b.2 = s' * (b.1 * a.2 - a.1 * b.2) := by grind
    grind
  have f2 : hc * a.2 * b.2 - hb * a.2 * c.2 = s * (c.1 * b.2 - b.1 * c.2) * a.2 := by grind
  have f3 : c.1 * a.2 * b.2 - b.1 * a.2 * c.2 = (c.1 * b.2 - b.1 * c.2) * a.2 := by grind
  have f4 : b.1 * a.2 * c.2 - a.1 * b.2 * c.2 = (b.1 * a.2 - a.1 * b.2) * c.2 := by grind
  rw [f1, f2, f3, f4]
  have pos : 0 < (b.1 * a.2 - a.1 * b.2) * c.2 * ((c.1 * b.2 - b.1 * c.2) * a.2) := Int.mul_pos (Int.mul_pos w1 pc) (Int.mul_pos w2 pa)
  have g1 : s' * (b.1 * a.2 - a.1 * b.2) * c.2 * ((c.1 * b.2 - b.1 * c.2) * a.2) = s' * ((b.1 * a.2 - a.1 * b.2) * c.2 * ((c.1 * b.2 - b.1 * c.2) * a.2)) := by grind
  have g2 : s * (c.1 * b.2 - b.1 * c.2) * a.2 * ((b.1 * a.2 - a.1 * b.2) * c.2) = s * ((b.1 * a.2 - a.1 * b.2) * c.2 * ((c.1 * b.2 - b.1 * c.2) * a.2)) := by grind
  rw [g1, g2]
  constructor
  · intro h; exact (Int.eq_of_mul_eq_mul_right (Int.ne_of_gt pos) h).symm
  · rintro rfl; rfl
