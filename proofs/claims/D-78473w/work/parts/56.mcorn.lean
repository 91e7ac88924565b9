/-! CORNERS: the plain law, and the model's -/
theorem lnv_lt_feq {l m x y : Fq} (hx : 0 < x.2) (hy : 0 < y.2) (e : feq x y) : lnv l x < lnv m x ↔ lnv l y < lnv m y := by
  have e1 := lnv_feq (l := l) e
  have e2 := lnv_feq (l := m) e
  constructor
  · intro h
    have := Int.mul_lt_mul_of_pos_right h hy
    exact Int.lt_of_mul_lt_mul_right (show lnv l y * x.2 < lnv m y * x.2 by omega) (Int.le_of_lt hx)
  · intro h
    have := Int.mul_lt_mul_of_pos_right h hx
    exact Int.lt_of_mul_lt_mul_right (show lnv l x * y.2 < lnv m x * y.2 by omega) (Int.le_of_lt hy)
theorem rsl_feq {L : Lns} {i : Nat} {x y : Fq} (hx : 0 < x.2) (hy : 0 < y.2) (e : feq x y) : rsl L i x = rsl L i y := by
  unfold rsl
  by_cases h : lnv (L i).1 x < lnv (L i).2 x
  · rw [if_pos h, if_pos ((lnv_lt_feq hx hy e).mp h)]
  · rw [if_neg h, if_neg (fun z => h ((lnv_lt_feq hx hy e).mpr z))]
theorem lsl_feq {L : Lns} {i : Nat} {x y : Fq} (hx : 0 < x.2) (hy : 0 < y.2) (e : feq x y) : lsl L i x = lsl L i y := by
  have k := lnv_lt_feq (l := (L i).2) (m := (L i).1) hx hy e
  unfold lsl
  by_cases h : lnv (L i).1 x ≤ lnv (L i).2 x
  · rw [if_pos h, if_pos (Int.not_lt.mp (fun z => absurd (k.mpr z) (Int.not_lt.mpr h)))]
  · rw [if_neg h, if_neg (fun z => h (Int.not_lt.mp (fun y => absurd (k.mp y) (Int.not_lt.mpr z))))]
theorem act_feq {T : Nat → Prop} {L : Lns} {x y : Fq} {h h' : Int} {i : Nat} (hx : 0 < x.2) (hy : 0 < y.2) (e : feq x y) (H : isH T L x h) (H' : isH T L y h') (ha : nf L i x = h) : nf L i y = h' := by
  have e1 := isH_feq hx hy e H H'
  have e2 := nf_feq (L := L) (i := i) hx hy e
  rw [ha, e1] at e2
  exact (Int.eq_of_mul_eq_mul_right (Int.ne_of_gt hx) e2).symm
theorem slR_feq {T : Nat → Prop} {L : Lns} {x y : Fq} {s h' : Int} (hx : 0 < x.2) (hy : 0 < y.2) (e : feq x y) (H' : isH T L y h') (hs : slR T L x s) : slR T L y s := by
  obtain ⟨h, H, ⟨i, hi, ei, es⟩, hmax⟩ := hs
  refine ⟨h', H', ⟨i, hi, act_feq hx hy e H H' ei, by rw [es, rsl_feq hx hy e]⟩, fun j hj ej => ?_⟩
  rw [← rsl_feq hx hy e]
  exact hmax j hj (act_feq hy hx (feq_symm e) H' H ej)
theorem slL_feq {T : Nat → Prop} {L : Lns} {x y : Fq} {s h' : Int} (hx : 0 < x.2) (hy : 0 < y.2) (e : feq x y) (H' : isH T L y h') (hs : slL T L x s) : slL T L y s := by
  obtain ⟨h, H, ⟨i, hi, ei, es⟩, hmax⟩ := hs
  refine ⟨h', H', ⟨i, hi, act_feq hx hy e H H' ei, by rw [es, lsl_feq hx hy e]⟩, fun j hj ej => ?_⟩
  rw [← lsl_feq hx hy e]
  exact hmax j hj (act_feq hy hx (feq_symm e) H' H ej)
theorem slR_uniq {T : Nat → Prop} {L : Lns} {x : Fq} {s s' : Int} (h : slR T L x s) (h' : slR T L x s') : s = s' := by
  obtain ⟨a, A, ⟨i, hi, ei, rfl⟩, m⟩ := h
  obtain ⟨a', A', ⟨j, hj, ej, rfl⟩, m'⟩ := h'
  cases isH_uniq A A'
  exact Int.le_antisymm (m' i hi ei) (m j hj ej)
theorem slL_uniq {T : Nat → Prop} {L : Lns} {x : Fq} {s s' : Int} (h : slL T L x s) (h' : slL T L x s') : s = s' := by
  obtain ⟨a, A, ⟨i, hi, ei, rfl⟩, m⟩ := h
  obtain ⟨a', A', ⟨j, hj, ej, rfl⟩, m'⟩ := h'
  cases isH_uniq A A'
  exact Int.le_antisymm (m j hj ej) (m' i hi ei)
/-- a corner of the height of all nodes -/
def turnP (N : Net) (w : Nat → Int) (e : Nat) (x : Fq) : Prop := ∃ s s', slR (bits N (allN N)) (Lw N w e) x s ∧ slL (bits N (allN N)) (Lw N w e) x s' ∧ s ≠ s'
def isCor (N : Net) (w : Nat → Int) (e : Nat) (x : Fq) : Prop := inE (lenN N e) x ∧ (x.1 = 0 ∨ x.1 = lenN N e * x.2 ∨ turnP N w e x)
theorem isCor_feq {N : Net} {w : Nat → Int} {e : Nat} {x y : Fq} (hw : okw0 (nN N) w) (hy : 0 < y.2) (h : feq x y) (hx : isCor N w e x) : isCor N w e y := by
  obtain ⟨h1, h2⟩ := hx
  refine ⟨crs_feq_in h1 hy (feq_symm h), ?_⟩
  have px := h1.1
  rcases h2 with h2 | h2 | ⟨s, s', a, b, c⟩
  · left
    unfold feq at h; rw [h2, Int.zero_mul] at h
    rcases Int.mul_eq_zero.mp h.symm with z | z <;> omega
  · right; left
    unfold feq at h; rw [h2] at h
    have : lenN N e * y.2 * x.2 = y.1 * x.2 := by rw [← h]; grind
    exact (Int.eq_of_mul_eq_mul_right (Int.ne_of_gt px) this).symm
  · right; right
    exact ⟨s, s', slR_feq px hy h (hgt_isH hw) a, slL_feq px hy h (hgt_isH hw) b, c⟩
/-- all corners are listed -/
theorem isCor_has {N : Net} {w : Nat → Int} {e : Nat} {cs : List Fq} {x : Fq} (hB : cdB (lenN N e) (sts N e) cs) (hX : cdX (bits N (allN N)) (Lw N w e) (lenN N e) cs) (hO : cdO (bits N (allN N)) (Lw N w e) (lenN N e) cs) (hx : isCor N w e x) : hasF cs x := by
  obtain ⟨h1, h2⟩ := hx
  have px := h1.1
  rcases h2 with h2 | h2 | ⟨s, s', a, b, c⟩
  · obtain ⟨d, hd, ed⟩ := hB.2.1
    exact ⟨d, hd, feq_trans (hB.1 d hd).1 (b := (0, 1)) Int.one_pos px ed (by unfold feq; simp only; omega)⟩
  · obtain ⟨d, hd, ed⟩ := hB.2.2.1
    exact ⟨d, hd, feq_trans (hB.1 d hd).1 (b := (lenN N e, 1)) Int.one_pos px ed (by unfold feq; simp only; omega)⟩
  · apply Classical.byContradiction
    intro hn
    exact c (flatX hB.1 hX hO h1 hn a b)
def aft (p : Option Fq) (y : Fq) : Prop := match p with
  | none => True
  | some p => flt p y
/-- the next corner behind a place, if there is one -/
def nxC (N : Net) (w : Nat → Int) (e : Nat) (p r : Option Fq) : Prop := match r with
  | none => ∀ y, isCor N w e y → ¬ aft p y
  | some x => isCor N w e x ∧ aft p x ∧ ∀ y, isCor N w e y → aft p y → fle x y
def oeq (p q : Option Fq) : Prop := match p, q with
  | none, none => True
  | some x, some y => feq x y
  | _, _ => False
def opos (p : Option Fq) : Prop := match p with
  | none => True
  | some x => 0 < x.2
theorem aft_oeq {p q : Option Fq} {y : Fq} (hp : opos p) (hq : opos q) (hy : 0 < y.2) (h : oeq p q) (ha : aft p y) : aft q y := by
  match p, q, h with
  | none, none, _ => exact ha
  | some x, some z, h => exact flt_of_fle_of_flt (b := x) hq hp hy (fle_of_feq (feq_symm h)) ha
theorem oeq_symm {p q : Option Fq} (h : oeq p q) : oeq q p := by
  match p, q, h with
  | none, none, _ => exact trivial
  | some x, some z, h => exact feq_symm h
theorem nxC_pos {N : Net} {w : Nat → Int} {e : Nat} {p r : Option Fq} (h : nxC N w e p r) : opos r := by
  match r, h with
  | none, _ => exact trivial
  | some x, h => exact h.1.1.1
theorem nxC_uniq {N : Net} {w : Nat → Int} {e : Nat} {p q r r' : Option Fq} (hp : opos p) (hq : opos q) (h : oeq p q) (h1 : nxC N w e p r) (h2 : nxC N w e q r') : oeq r r' := by
  match r, r', h1, h2 with
  | none, none, _, _ => exact trivial
  | none, some y, h1, h2 => exact absurd (aft_oeq hq hp h2.1.1.1 (oeq_symm h) h2.2.1) (h1 y h2.1)
  | some x, none, h1, h2 => exact absurd (aft_oeq hp hq h1.1.1.1 h h1.2.1) (h2 x h1.1)
  | some x, some y, h1, h2 => exact feq_of_fle (h1.2.2 y h2.1 (aft_oeq hq hp h2.1.1.1 (oeq_symm h) h2.2.1)) (h2.2.2 x h1.1 (aft_oeq hp hq h1.1.1.1 h h1.2.1))
/-- the i-th corner -/
def corI (N : Net) (w : Nat → Int) (e : Nat) : Nat → Option Fq → Prop
  | 0, r => nxC N w e none r
  | i + 1, r => (∃ p, corI N w e i (some p) ∧ nxC N w e (some p) r) ∨ corI N w e i none ∧ r = none
theorem corI_pos {N : Net} {w : Nat → Int} {e i : Nat} {r : Option Fq} (h : corI N w e i r) : opos r := by
  match i, h with
  | 0, h => exact nxC_pos h
  | i + 1, .inl ⟨p, _, h⟩ => exact nxC_pos h
  | i + 1, .inr ⟨_, h⟩ => rw [h]; exact trivial
theorem corI_uniq {N : Net} {w : Nat → Int} {e i : Nat} {r r' : Option Fq} (h : corI N w e i r) (h' : corI N w e i r') : oeq r r' := by
  induction i generalizing r r' with
  | zero => exact nxC_uniq (p := none) (q := none) trivial trivial trivial h h'
  | succ i ih =>
    rcases h with ⟨p, a, b⟩ | ⟨a, b⟩ <;> rcases h' with ⟨p', a', b'⟩ | ⟨a', b'⟩
    · exact nxC_uniq (corI_pos a) (corI_pos a') (ih a a') b b'
    · exact (ih a a').elim
    · exact (ih a a').elim
    · rw [b, b']; exact trivial
section MK
variable {σ : MS} {N : Net} {F : Nat} {w : Nat → Int}
theorem M_isRight_eq {e k : Nat} {cs : List Fq} (hN : mN σ N) (he : e < eN N) (hc : crl σ cs) (hk : k < cs.length) (hk2 : cs.length ≤ 134) (hs : smC (ed N e).2.2 cs) :
    M_isRight σ (i32 e) (i32 k) (i32 1) = some (i32 (tr01 (¬ cs[k].1 = lenN N e * cs[k].2))) ∧ M_isRight σ (i32 e) (i32 k) (i32 0) = some (i32 (tr01 (¬ cs[k].1 = 0))) := by
  obtain ⟨a1, a2, a3, a4, a5⟩ := hN.2.2.2.2.2.1 e he
  obtain ⟨g1, g2⟩ := crl_get hc hk
  obtain ⟨o1, o2, o3⟩ := smC_okx hN.2 he hs (List.getElem_mem hk)
  obtain ⟨x1, x2, x3, x4⟩ := o1
  have m := mul_rng (a := (ed N e).2.2) (b := cs[k].2) (A := 50) (B := 1000) (by omega) a5 (by omega) x2
  unfold M_isRight
  simp only [i_c0, i_c1, i_c2, i_c3, i_c4, i_c5, i_c6, i_c8, i_c9, i_c10, i_c12, i_c16, i_c17, i_c18, i_c31, i_c32, i_c45, i_c48, i_c50, i_c54, i_c55, i_c57, i_c58, i_c59, i_c61, i_c64, i_c73, i_c118, i_c119, i_c120, i_c126, i_c365, i_c1000, i_cFAR]
  rw [M_of_2 hN he]
  simp (disch := omega) only [rdL_i, Int.toNat_natCast, g1, g2, Option.bind_eq_bind, Option.bind_some, i_le, i_lt, i_eq, i_long, j_c0, j_c1, j_c2, j_add, j_sub, j_mul, j_neg, j_le, j_lt, j_eq]
  rw [Int.mul_comm cs[k].2]
  simp (disch := omega) only [j_le, j_lt, j_eq]
  constructor
  · rw [if_neg (by decide)]
    unfold lenN
    by_cases h : (ed N e).2.2 * cs[k].2 ≤ cs[k].1
    · rw [if_pos h, tr01_neg (fun z => z (by omega))]
    · rw [if_neg h, tr01_pos (by omega)]
  · rw [if_pos (by decide)]
    by_cases h : cs[k].1 ≤ 0
    · rw [if_pos h, tr01_neg (fun z => z (by omega))]
    · rw [if_neg h, tr01_pos (by omega)]
/-- the slope of a node behind a place, ahead of it -/
def slB (N : Net) (w : Nat → Int) (e i : Nat) (x : Fq) (r : Bool) : Int := if r then (rsl (Lw N w e) i x).1 else (lsl (Lw N w e) i x).1
/-- better for the slope: greater behind, lesser ahead -/
def slq (r : Bool) (a b : Int) : Prop := if r then a ≤ b else b ≤ a
theorem slq_rf (r : Bool) (a : Int) : slq r a a := by unfold slq; split <;> exact Int.le_refl _
theorem slq_tr {r : Bool} {a b c : Int} (h : slq r a b) (h2 : slq r b c) : slq r a c := by
  cases r
  · exact Int.le_trans h2 h
  · exact Int.le_trans h h2
theorem Lw_lt {e i : Nat} {x : Fq} (hw : 0 < w i) : (lnv (Lw N w e i).1 x < lnv (Lw N w e i).2 x ↔ dN N i (ed N e).1 * x.2 + x.1 < (dN N i (ed N e).2.1 + (ed N e).2.2) * x.2 - x.1) := by
  have e1 : lnv (Lw N w e i).1 x = w i * (dN N i (ed N e).1 * x.2 + x.1) := by unfold Lw lnv; simp only; grind
  have e2 : lnv (Lw N w e i).2 x = w i * ((dN N i (ed N e).2.1 + (ed N e).2.2) * x.2 - x.1) := by unfold Lw lnv; simp only; grind
  rw [e1, e2]
  constructor
  · exact fun h => Int.lt_of_mul_lt_mul_left h (Int.le_of_lt hw)
  · exact fun h => Int.mul_lt_mul_of_pos_left h hw
theorem Lw_le {e i : Nat} {x : Fq} (hw : 0 < w i) : (lnv (Lw N w e i).1 x ≤ lnv (Lw N w e i).2 x ↔ dN N i (ed N e).1 * x.2 + x.1 ≤ (dN N i (ed N e).2.1 + (ed N e).2.2) * x.2 - x.1) := by
  have e1 : lnv (Lw N w e i).1 x = w i * (dN N i (ed N e).1 * x.2 + x.1) := by unfold Lw lnv; simp only; grind
  have e2 : lnv (Lw N w e i).2 x = w i * ((dN N i (ed N e).2.1 + (ed N e).2.2) * x.2 - x.1) := by unfold Lw lnv; simp only; grind
  rw [e1, e2]
  constructor
  · exact fun h => Int.le_of_mul_le_mul_left h hw
  · exact fun h => Int.mul_le_mul_of_nonneg_left h (Int.le_of_lt hw)
theorem slB_R {e i : Nat} {x : Fq} (hw : 0 ≤ w i) : slB N w e i x true = if (dN N i (ed N e).2.1 + (ed N e).2.2) * x.2 - x.1 ≤ dN N i (ed N e).1 * x.2 + x.1 then -w i else w i := by
  unfold slB rsl
  rw [if_pos rfl]
  by_cases h0 : w i = 0
  · have : (Lw N w e i).1.1 = 0 ∧ (Lw N w e i).2.1 = 0 := by unfold Lw; simp only; omega
    rw [h0]
    split <;> (split <;> omega)
  · have k := Lw_lt (N := N) (w := w) (e := e) (i := i) (x := x) (by omega)
    by_cases h : dN N i (ed N e).1 * x.2 + x.1 < (dN N i (ed N e).2.1 + (ed N e).2.2) * x.2 - x.1
    · rw [if_pos (k.mpr h), if_neg (by omega)]; rfl
    · rw [if_neg (fun z => h (k.mp z)), if_pos (by omega)]; rfl
theorem slB_L {e i : Nat} {x : Fq} (hw : 0 ≤ w i) : slB N w e i x false = if (dN N i (ed N e).2.1 + (ed N e).2.2) * x.2 - x.1 < dN N i (ed N e).1 * x.2 + x.1 then -w i else w i := by
  unfold slB lsl
  rw [if_neg (by decide)]
  by_cases h0 : w i = 0
  · have : (Lw N w e i).1.1 = 0 ∧ (Lw N w e i).2.1 = 0 := by unfold Lw; simp only; omega
    rw [h0]
    split <;> (split <;> omega)
  · have k := Lw_le (N := N) (w := w) (e := e) (i := i) (x := x) (by omega)
    by_cases h : dN N i (ed N e).1 * x.2 + x.1 ≤ (dN N i (ed N e).2.1 + (ed N e).2.2) * x.2 - x.1
    · rw [if_pos (k.mpr h), if_neg (by omega)]; rfl
    · rw [if_neg (fun z => h (k.mp z)), if_pos (by omega)]; rfl
/-- the loop's finding -/
def slF (N : Net) (w : Nat → Int) (e : Nat) (x : Fq) (h : Int) (r : Bool) (k : Nat) (s f : Int) : Prop := (f = 1 ∧ s = 0 ∧ ∀ i, i < k → w i * awy N i e x ≠ h) ∨
  (f = 0 ∧ ∃ i, i < k ∧ w i * awy N i e x = h ∧ s = slB N w e i x r ∧ ∀ j, j < k → w j * awy N j e x = h → slq r (slB N w e j x r) s)
theorem slB_rng {e i : Nat} {x : Fq} {r : Bool} (hw : 0 ≤ w i) (hw2 : w i ≤ 99) : -99 ≤ slB N w e i x r ∧ slB N w e i x r ≤ 99 := by
  cases r with
  | true => rw [slB_R hw]; split <;> omega
  | false => rw [slB_L hw]; split <;> omega
theorem slF_rng {e k : Nat} {x : Fq} {h s f : Int} {r : Bool} (hw9 : okw9 (nN N) w) (hk : k ≤ nN N) (hs : slF N w e x h r k s f) : -99 ≤ s ∧ s ≤ 99 ∧ 0 ≤ f ∧ f ≤ 1 := by
  rcases hs with ⟨a, b, -⟩ | ⟨a, i, b, -, d, -⟩
  · omega
  · have := hw9 i (by omega)
    have := slB_rng (N := N) (e := e) (x := x) (r := r) this.1 this.2
    omega
theorem slF_skip {e k : Nat} {x : Fq} {h s f : Int} {r : Bool} (hs : slF N w e x h r k s f) (hk : w k * awy N k e x ≠ h) : slF N w e x h r (k + 1) s f := by
  rcases hs with ⟨a, b, c⟩ | ⟨a, i, b, c, d, g⟩
  · exact Or.inl ⟨a, b, fun i hi => by
      by_cases eq : i = k
      · rw [eq]; exact hk
      · exact c i (by omega)⟩
  · exact Or.inr ⟨a, i, by omega, c, d, fun j hj ej => by
      by_cases eq : j = k
      · rw [eq] at ej; exact absurd ej hk
      · exact g j (by omega) ej⟩
theorem slF_take {e k : Nat} {x : Fq} {h s f : Int} {r : Bool} (hs : slF N w e x h r k s f) (hk : w k * awy N k e x = h) (hb : f = 1 ∨ slq r s (slB N w e k x r)) : slF N w e x h r (k + 1) (slB N w e k x r) 0 := by
  refine Or.inr ⟨rfl, k, by omega, hk, rfl, fun j hj ej => ?_⟩
  by_cases eq : j = k
  · rw [eq]; exact slq_rf _ _
  · rcases hs with ⟨a, b, c⟩ | ⟨a, i, b, c, d, g⟩
    · exact absurd ej (c j (by omega))
    · rcases hb with hb | hb
      · omega
      · exact slq_tr (g j (by omega) ej) hb
theorem slF_keep {e k : Nat} {x : Fq} {h s f : Int} {r : Bool} (hs : slF N w e x h r k s f) (hf : f = 0) (hb : slq r (slB N w e k x r) s) : slF N w e x h r (k + 1) s 0 := by
  rcases hs with ⟨a, b, c⟩ | ⟨a, i, b, c, d, g⟩
  · omega
  · exact Or.inr ⟨rfl, i, by omega, c, d, fun j hj ej => by
      by_cases eq : j = k
      · rw [eq]; exact hb
      · exact g j (by omega) ej⟩
theorem M_slopeAt_eq {e : Nat} {x : Fq} (hI : lcI N w σ) (hw9 : okw9 (nN N) w) (hc : cnN N) (he : e < eN N) (hx : okx x) (hxl : x.1 ≤ (ed N e).2.2 * x.2) (hF : 8 < F) (r : Bool) :
    Rt (M_slopeAt F σ (i32 e) (j64 x.1) (j64 x.2) (i32 (if r then 1 else 0))) (fun v => ∃ s, v = j64 s ∧ -99 ≤ s ∧ s ≤ 99 ∧ slF N w e x (hgt N w (allN N) e x) r (nN N) s 0) := by
  have hN := hI.1.2
  have h8 := hN.2.1
  have hr := hgt_rng (s := allN N) hN hc hw9 he hx hxl
  unfold M_slopeAt
  rw [M_many_eq hI.1]
  simp only [Option.bind_eq_bind, Option.bind_some, i_c1, i_c31, i_all hN]
  rw [M_heightAt_eq hI.1 hI.2.1 hI.2.2 hw9 hc (allN_lt hN) he hx hxl hF]
  simp only [Option.bind_eq_bind, Option.bind_some, i_c1, i_c0, j_c0]
  refine Rt.loop3 (ι := Nat) (fun k a b c => c = i32 k ∧ k ≤ nN N ∧ ∃ s f, a = j64 s ∧ b = i32 f ∧ slF N w e x (hgt N w (allN N) e x) r k s f) (fun k => nN N - k) ?_ F 0 _ _ _ ⟨rfl, by omega, 0, 1, rfl, rfl, Or.inl ⟨rfl, rfl, fun i hi => by omega⟩⟩ (by omega)
  rintro n k _ _ _ ⟨rfl, hk, s, f, rfl, rfl, hs⟩ ih
  have sr := slF_rng hw9 hk hs
  unfold M_slopeAt_27
  rw [M_many_eq hI.1]
  simp (disch := omega) only [Option.bind_eq_bind, Option.bind_some, i_le, i_lt, i_eq]
  refine Rt.ite (fun h => ?_) (fun h => ?_)
  · obtain rfl : k = nN N := by omega
    refine Rt.some ⟨s, rfl, sr.1, sr.2.1, ?_⟩
    rcases hs with ⟨a, b, c⟩ | hs
    · exfalso
      obtain ⟨h1, h2, h3⟩ := hgF_spec (fun i => w i * awy N i e x) (allN N) (nN N)
      rcases h3 with h3 | ⟨i, hi, -, h3⟩
      · have hb := allN_bits (N := N) (i := 0)
        have := h2 0 (by have := hN.1; omega) (hb.mpr (by have := hN.1; omega)).2
        have w0 := hw9 0 (by have := hN.1; omega)
        have aw := wa_rng hN hc (show 0 < nN N by have := hN.1; omega) he hx hxl
        have := Int.mul_nonneg w0.1 aw.1
        refine c 0 (by have := hN.1; omega) ?_
        unfold hgt
        omega
      · exact c i hi h3
    · exact Or.inr ⟨rfl, hs.2⟩
  have hkn : k < nN N := by omega
  have w9 := hw9 k hkn
  have aw := wa_rng hN hc hkn he hx hxl
  have vr := mul_rng (A := 99) (B := 12850000) w9.1 w9.2 aw.1 aw.2
  have ar := awy_rng hN hkn he hx
  simp (disch := omega) only [rdI_i, Int.toNat_natCast, hI.2.2 k hkn, Option.bind_eq_bind, Option.bind_some, M_away_eq hI.1 hI.2.1 hkn he hx, M_rising_eq hI.1 hI.2.1 hkn he, M_falling_eq hI.1 hI.2.1 hkn he, i_long, j_add, j_sub, j_mul, j_neg, j_le, j_lt, j_eq]
  have nxt : ∀ s' f' : Int, slF N w e x (hgt N w (allN N) e x) r (k + 1) s' f' → Rt (M_slopeAt_189 F (M_slopeAt_27 F σ (i32 e) (j64 x.1) (j64 x.2) (i32 (if r then 1 else 0)) (j64 (hgt N w (allN N) e x)) n) σ (i32 e) (j64 x.1) (j64 x.2) (i32 (if r then 1 else 0)) (j64 (hgt N w (allN N) e x)) (j64 s') (i32 f') (i32 k)) (fun v => ∃ s, v = j64 s ∧ -99 ≤ s ∧ s ≤ 99 ∧ slF N w e x (hgt N w (allN N) e x) r (nN N) s 0) := by
    intro s' f' h'
    unfold M_slopeAt_189
    simp only [i_c0, i_c1, i_c2, i_c3, i_c4, i_c5, i_c6, i_c8, i_c9, i_c10, i_c12, i_c16, i_c17, i_c18, i_c31, i_c32, i_c45, i_c48, i_c50, i_c54, i_c55, i_c57, i_c58, i_c59, i_c61, i_c64, i_c73, i_c118, i_c119, i_c120, i_c126, i_c365, i_c1000, i_cFAR, i_add, i_sub, i_mul, i_neg, Option.bind_eq_bind, Option.bind_some]
    exact ih (k + 1) _ _ _ ⟨rfl, by omega, s', f', rfl, rfl, h'⟩ (by omega)
  refine Rt.ite (fun hact => ?_) (fun hact => nxt s f (slF_skip hs hact))
  have fin : ∀ t : Int, (t = 0 ∧ slB N w e k x r = -w k ∨ t = 1 ∧ slB N w e k x r = w k) → Rt (M_slopeAt_119 F (M_slopeAt_27 F σ (i32 e) (j64 x.1) (j64 x.2) (i32 (if r then 1 else 0)) (j64 (hgt N w (allN N) e x)) n) σ (i32 e) (j64 x.1) (j64 x.2) (i32 (if r then 1 else 0)) (j64 (hgt N w (allN N) e x)) (j64 s) (i32 f) (i32 k) (i32 t)) (fun v => ∃ s, v = j64 s ∧ -99 ≤ s ∧ s ≤ 99 ∧ slF N w e x (hgt N w (allN N) e x) r (nN N) s 0) := by
    intro t ht
    have fin2 : Rt (M_slopeAt_146 F (M_slopeAt_27 F σ (i32 e) (j64 x.1) (j64 x.2) (i32 (if r then 1 else 0)) (j64 (hgt N w (allN N) e x)) n) σ (i32 e) (j64 x.1) (j64 x.2) (i32 (if r then 1 else 0)) (j64 (hgt N w (allN N) e x)) (j64 s) (i32 f) (i32 k) (j64 (slB N w e k x r))) (fun v => ∃ s, v = j64 s ∧ -99 ≤ s ∧ s ≤ 99 ∧ slF N w e x (hgt N w (allN N) e x) r (nN N) s 0) := by
      have br := slB_rng (N := N) (e := e) (x := x) (r := r) w9.1 w9.2
      unfold M_slopeAt_146 M_slopeAt_182 M_slopeAt_177 M_slopeAt_184
      simp (disch := omega) only [i_c0, i_c1, i_c2, i_c3, i_c4, i_c5, i_c6, i_c8, i_c9, i_c10, i_c12, i_c16, i_c17, i_c18, i_c31, i_c32, i_c45, i_c48, i_c50, i_c54, i_c55, i_c57, i_c58, i_c59, i_c61, i_c64, i_c73, i_c118, i_c119, i_c120, i_c126, i_c365, i_c1000, i_cFAR, i_le, i_lt, i_eq, j_le, j_lt, j_eq]
      refine Rt.ite (fun h0 => ?_) (fun h0 => nxt _ _ (slF_take hs hact (Or.inl (by omega))))
      cases r with
      | true =>
        rw [if_neg (by simp)]
        exact Rt.ite (fun h1 => nxt _ _ (slF_keep hs h0 h1)) (fun h1 => nxt _ _ (slF_take hs hact (Or.inr (by unfold slq; rw [if_pos rfl]; omega))))
      | false =>
        rw [if_pos (by simp)]
        exact Rt.ite (fun h1 => nxt _ _ (slF_keep hs h0 h1)) (fun h1 => nxt _ _ (slF_take hs hact (Or.inr (by unfold slq; rw [if_neg (by decide)]; omega))))
    unfold M_slopeAt_119
    simp (disch := omega) only [i_c0, i_c1, i_c2, i_c3, i_c4, i_c5, i_c6, i_c8, i_c9, i_c10, i_c12, i_c16, i_c17, i_c18, i_c31, i_c32, i_c45, i_c48, i_c50, i_c54, i_c55, i_c57, i_c58, i_c59, i_c61, i_c64, i_c73, i_c118, i_c119, i_c120, i_c126, i_c365, i_c1000, i_cFAR, i_le, i_lt, i_eq, rdI_i, Int.toNat_natCast, hI.2.2 k hkn, Option.bind_eq_bind, Option.bind_some, i_add, i_sub, i_mul, i_neg, i_long]
    rcases ht with ⟨rfl, ht⟩ | ⟨rfl, ht⟩
    · rw [if_pos rfl, ← ht]; exact fin2
    · rw [if_neg (by decide), ← ht]; exact fin2
  cases r with
  | true =>
    have sb := slB_R (N := N) (e := e) (i := k) (x := x) w9.1
    rw [if_neg (show ¬ (i32 (if true = true then 1 else 0) = 0) by decide)]
    refine Rt.ite (fun h1 => ?_) (fun h1 => ?_)
    · rw [if_pos h1] at sb; exact fin 0 (Or.inl ⟨rfl, sb⟩)
    · rw [if_neg h1] at sb; exact fin 1 (Or.inr ⟨rfl, sb⟩)
  | false =>
    have sb := slB_L (N := N) (e := e) (i := k) (x := x) w9.1
    rw [if_pos (show i32 (if false = true then 1 else 0) = 0 by decide)]
    refine Rt.ite (fun h1 => ?_) (fun h1 => ?_)
    · rw [if_pos h1] at sb; exact fin 0 (Or.inl ⟨rfl, sb⟩)
    · rw [if_neg h1] at sb; exact fin 1 (Or.inr ⟨rfl, sb⟩)
theorem slF_R {e : Nat} {x : Fq} {s : Int} (hw : okw0 (nN N) w) (h : slF N w e x (hgt N w (allN N) e x) true (nN N) s 0) : slR (bits N (allN N)) (Lw N w e) x s := by
  rcases h with ⟨a, -⟩ | ⟨-, i, hi, c, d, g⟩
  · omega
  · refine ⟨_, hgt_isH hw, ⟨i, allN_bits.mpr hi, by rw [nf_Lw (hw i hi)]; exact c, d⟩, fun j hj ej => ?_⟩
    have hj' := allN_bits.mp hj
    rw [nf_Lw (hw j hj')] at ej
    exact g j hj' ej
theorem slF_L {e : Nat} {x : Fq} {s : Int} (hw : okw0 (nN N) w) (h : slF N w e x (hgt N w (allN N) e x) false (nN N) s 0) : slL (bits N (allN N)) (Lw N w e) x s := by
  rcases h with ⟨a, -⟩ | ⟨-, i, hi, c, d, g⟩
  · omega
  · refine ⟨_, hgt_isH hw, ⟨i, allN_bits.mpr hi, by rw [nf_Lw (hw i hi)]; exact c, d⟩, fun j hj ej => ?_⟩
    have hj' := allN_bits.mp hj
    rw [nf_Lw (hw j hj')] at ej
    exact g j hj' ej
theorem M_isCorner_eq {e k : Nat} {cs : List Fq} (hI : lcI N w σ) (hw9 : okw9 (nN N) w) (hcn : cnN N) (he : e < eN N) (hc : crl σ cs) (hk : k < cs.length) (hk2 : cs.length ≤ 134) (hs : smC (ed N e).2.2 cs) (hF : 8 < F) :
    M_isCorner F σ (i32 e) (i32 k) = some (i32 (tr01 (isCor N w e cs[k]))) := by
  obtain ⟨r1, r2⟩ := M_isRight_eq hI.1 he hc hk hk2 hs
  obtain ⟨g1, g2⟩ := crl_get hc hk
  obtain ⟨o1, o2, o3⟩ := smC_okx hI.1.2 he hs (List.getElem_mem hk)
  obtain ⟨v1, e1, s1, rfl, a1, b1, c1⟩ := M_slopeAt_eq hI hw9 hcn he o1 o2 hF true
  obtain ⟨v2, e2, s2, rfl, a2, b2, c2⟩ := M_slopeAt_eq hI hw9 hcn he o1 o2 hF false
  have R := slF_R hw9.ok0 c1
  have L := slF_L hw9.ok0 c2
  rw [if_pos rfl] at e1
  rw [if_neg (by decide)] at e2
  unfold M_isCorner
  rw [i_c1, i_c0, r1]
  simp only [Option.bind_eq_bind, Option.bind_some]
  by_cases h1 : cs[k].1 = lenN N e * cs[k].2
  · rw [if_pos (tr01_zi.mpr (fun z => z h1)), tr01_pos ⟨o3, Or.inr (Or.inl h1)⟩]
  rw [if_neg (fun z => tr01_n z h1), r2]
  simp only [Option.bind_eq_bind, Option.bind_some]
  by_cases h2 : cs[k].1 = 0
  · rw [if_pos (tr01_zi.mpr (fun z => z h2)), tr01_pos ⟨o3, Or.inl h2⟩]
  rw [if_neg (fun z => tr01_n z h2)]
  simp (disch := omega) only [rdL_i, Int.toNat_natCast, g1, g2, Option.bind_eq_bind, Option.bind_some]
  rw [e1, e2]
  simp (disch := omega) only [Option.bind_eq_bind, Option.bind_some, j_le, j_lt, j_eq]
  by_cases h3 : s1 = s2
  · rw [if_pos h3, tr01_neg]
    rintro ⟨-, z | z | ⟨t, t', p, q, r⟩⟩
    · exact h2 z
    · exact h1 z
    · exact r (by rw [← slR_uniq R p, ← slL_uniq L q, h3])
  · rw [if_neg h3, tr01_pos ⟨o3, Or.inr (Or.inr ⟨s1, s2, R, L, h3⟩)⟩]
/-- the corner that the model's search has found: its index, or none -/
def corF (cs : List Fq) (b : Int) (r : Option Fq) : Prop := (b = -1 ∧ r = none) ∨ ∃ (j : Nat) (hj : j < cs.length), b = j ∧ r = some cs[j]
/-- the best among the first k -/
def nxK (N : Net) (w : Nat → Int) (e : Nat) (cs : List Fq) (p : Option Fq) (k : Nat) (r : Option Fq) : Prop := match r with
  | none => ∀ (i : Nat) (hi : i < cs.length), i < k → isCor N w e cs[i] → ¬ aft p cs[i]
  | some x => isCor N w e x ∧ aft p x ∧ ∀ (i : Nat) (hi : i < cs.length), i < k → isCor N w e cs[i] → aft p cs[i] → fle x cs[i]
theorem nxK_skip {e k : Nat} {cs : List Fq} {p r : Option Fq} (h : nxK N w e cs p k r) (hk : k < cs.length) (hn : isCor N w e cs[k] → aft p cs[k] → ∃ x, r = some x ∧ fle x cs[k]) : nxK N w e cs p (k + 1) r := by
  match r, h with
  | none, h =>
    intro i hi hik hc ha
    by_cases eq : i = k
    · subst eq; obtain ⟨x, hx, -⟩ := hn hc ha; cases hx
    · exact h i hi (by omega) hc ha
  | some x, h =>
    refine ⟨h.1, h.2.1, fun i hi hik hc ha => ?_⟩
    by_cases eq : i = k
    · subst eq; obtain ⟨y, hy, hf⟩ := hn hc ha; cases hy; exact hf
    · exact h.2.2 i hi (by omega) hc ha
theorem nxK_take {e k : Nat} {cs : List Fq} {p r : Option Fq} (h : nxK N w e cs p k r) (hk : k < cs.length) (hp : ∀ c ∈ cs, 0 < c.2) (hr : opos r) (hc : isCor N w e cs[k]) (ha : aft p cs[k]) (hl : ∀ x, r = some x → flt cs[k] x) : nxK N w e cs p (k + 1) (some cs[k]) := by
  refine ⟨hc, ha, fun i hi hik hc' ha' => ?_⟩
  by_cases eq : i = k
  · subst eq; exact fle_refl _
  · match r, h, hr with
    | none, h, _ => exact absurd ha' (h i hi (by omega) hc')
    | some x, h, hr => exact fle_trans (hp _ (List.getElem_mem hk)) hr (hp _ (List.getElem_mem hi)) (fle_of_flt (hl x rfl)) (h.2.2 i hi (by omega) hc' ha')
theorem nxK_done {e : Nat} {cs : List Fq} {p r : Option Fq} (hw : okw0 (nN N) w) (hh : ∀ x, isCor N w e x → hasF cs x) (hp : ∀ c ∈ cs, 0 < c.2) (hpp : opos p) (h : nxK N w e cs p cs.length r) : nxC N w e p r := by
  match r, h with
  | none, h =>
    intro y hy ha
    obtain ⟨c, hc, ec⟩ := hh y hy
    obtain ⟨i, hi, rfl⟩ := List.mem_iff_getElem.mp hc
    refine h i hi hi (isCor_feq hw (hp _ hc) (feq_symm ec) hy) ?_
    match p, ha, hpp with
    | none, _, _ => exact trivial
    | some p, ha, hpp => exact flt_of_flt_of_fle hpp hy.1.1 (hp _ hc) ha (fle_of_feq (feq_symm ec))
  | some x, h =>
    refine ⟨h.1, h.2.1, fun y hy ha => ?_⟩
    obtain ⟨c, hc, ec⟩ := hh y hy
    obtain ⟨i, hi, rfl⟩ := List.mem_iff_getElem.mp hc
    refine fle_trans h.1.1.1 (hp _ hc) hy.1.1 (h.2.2 i hi hi (isCor_feq hw (hp _ hc) (feq_symm ec) hy) ?_) (fle_of_feq ec)
    match p, ha, hpp with
    | none, _, _ => exact trivial
    | some p, ha, hpp => exact flt_of_flt_of_fle hpp hy.1.1 (hp _ hc) ha (fle_of_feq (feq_symm ec))
theorem M_nextCorner_eq {e : Nat} {cs : List Fq} {k : Int} {p : Option Fq} (hI : lcI N w σ) (hw9 : okw9 (nN N) w) (hcn : cnN N) (he : e < eN N) (hc : crl σ cs) (hl : cs.length ≤ 134) (hs : coreC N w (allN N) e cs) (hp : corF cs k p) (hF : 160 < F) :
    Rt (M_nextCorner F σ (i32 e) (i32 k)) (fun v => ∃ b r, v = i32 b ∧ corF cs b r ∧ nxC N w e p r) := by
  have hN := hI.1.2
  have hpos : ∀ c ∈ cs, 0 < c.2 := fun c h => (hs.2.2.2 c h).1.1
  have cps : ∀ {b : Int} {r : Option Fq}, corF cs b r → opos r := by
    rintro b r (⟨-, rfl⟩ | ⟨j, hj, -, rfl⟩)
    · exact trivial
    · exact hpos _ (List.getElem_mem hj)
  have crn : ∀ {b : Int} {r : Option Fq}, corF cs b r → -1 ≤ b ∧ b < cs.length := by
    rintro b r (⟨rfl, -⟩ | ⟨j, hj, rfl, -⟩) <;> omega
  have kr := crn hp
  unfold M_nextCorner
  simp only [show (-1 : Int32) = i32 (-1) from rfl, i_c0]
  refine Rt.loop (ι := Nat) (fun i a c => c = i32 i ∧ i ≤ cs.length ∧ ∃ b r, a = i32 b ∧ corF cs b r ∧ nxK N w e cs p i r) (fun i => cs.length - i) ?_ F 0 _ _ ⟨rfl, by omega, -1, none, rfl, Or.inl ⟨rfl, rfl⟩, fun i _ h => by omega⟩ (by omega)
  rintro n i _ _ ⟨rfl, hi, b, r, rfl, hb, hr⟩ ih
  have br := crn hb
  unfold M_nextCorner_5
  rw [hc.1]
  simp (disch := omega) only [i_le, i_lt, i_eq]
  refine Rt.ite (fun h => ?_) (fun h => ?_)
  · obtain rfl : i = cs.length := by omega
    exact Rt.some ⟨b, r, rfl, hb, nxK_done hw9.ok0 (fun x hx => isCor_has hs.1 hs.2.1 hs.2.2.1 hx) hpos (cps hp) hr⟩
  have hi' : i < cs.length := by omega
  obtain ⟨gi1, gi2⟩ := crl_get hc hi'
  obtain ⟨oi, -, -⟩ := smC_okx hN he hs.2.2.2 (List.getElem_mem hi')
  have go : ∀ (b' : Int) (r' : Option Fq), corF cs b' r' → nxK N w e cs p (i + 1) r' → Rt (M_nextCorner_128 F (M_nextCorner_5 F σ (i32 e) (i32 k) n) σ (i32 e) (i32 k) (i32 i) (i32 b')) (fun v => ∃ b r, v = i32 b ∧ corF cs b r ∧ nxC N w e p r) := by
    intro b' r' h1 h2
    unfold M_nextCorner_128
    simp only [i_c0, i_c1, i_c2, i_c3, i_c4, i_c5, i_c6, i_c8, i_c9, i_c10, i_c12, i_c16, i_c17, i_c18, i_c31, i_c32, i_c45, i_c48, i_c50, i_c54, i_c55, i_c57, i_c58, i_c59, i_c61, i_c64, i_c73, i_c118, i_c119, i_c120, i_c126, i_c365, i_c1000, i_cFAR, i_add, i_sub, i_mul, i_neg, Option.bind_eq_bind, Option.bind_some]
    exact ih (i + 1) _ _ ⟨rfl, by omega, b', r', rfl, h1, h2⟩ (by omega)
  have no : (isCor N w e cs[i] → aft p cs[i] → ∃ x, r = some x ∧ fle x cs[i]) → Rt (M_nextCorner_104 F (M_nextCorner_5 F σ (i32 e) (i32 k) n) σ (i32 e) (i32 k) (i32 b) (i32 i)) (fun v => ∃ b r, v = i32 b ∧ corF cs b r ∧ nxC N w e p r) := by
    intro h1
    unfold M_nextCorner_104 M_nextCorner_105 M_nextCorner_127
    rw [if_pos rfl]
    exact go b r hb (nxK_skip hr hi' h1)
  have yes : aft p cs[i] → (∀ x, r = some x → flt cs[i] x) → Rt (M_nextCorner_100 F (M_nextCorner_5 F σ (i32 e) (i32 k) n) σ (i32 e) (i32 k) (i32 b) (i32 i)) (fun v => ∃ b r, v = i32 b ∧ corF cs b r ∧ nxC N w e p r) := by
    intro h1 h2
    unfold M_nextCorner_100 M_nextCorner_105 M_nextCorner_127
    rw [if_neg (by decide), M_isCorner_eq hI hw9 hcn he hc hi' hl hs.2.2.2 (by omega)]
    simp only [Option.bind_eq_bind, Option.bind_some, i_c0]
    refine Rt.ite (fun h3 => go b r hb (nxK_skip hr hi' (fun z => absurd z (tr01_n h3)))) (fun h3 => ?_)
    exact go i (some cs[i]) (Or.inr ⟨i, hi', rfl, rfl⟩) (nxK_take hr hi' hpos (cps hb) (tr01_y h3) h1 h2)
  have cmp : ∀ (j : Nat) (hj : j < cs.length), -9223372036854775808 ≤ cs[i].1 * cs[j].2 ∧ cs[i].1 * cs[j].2 < 9223372036854775808 ∧ -9223372036854775808 ≤ cs[j].1 * cs[i].2 ∧ cs[j].1 * cs[i].2 < 9223372036854775808 := by
    intro j hj
    obtain ⟨oj, -, -⟩ := smC_okx hN he hs.2.2.2 (List.getElem_mem hj)
    have m3 := mul_rng (a := cs[i].1) (b := cs[j].2) (A := 50000) (B := 1000) oi.2.2.1 oi.2.2.2 (by have := oj.1; omega) oj.2.1
    have m4 := mul_rng (a := cs[j].1) (b := cs[i].2) (A := 50000) (B := 1000) oj.2.2.1 oj.2.2.2 (by have := oi.1; omega) oi.2.1
    omega
  have mid : aft p cs[i] → Rt (M_nextCorner_51 F (M_nextCorner_5 F σ (i32 e) (i32 k) n) σ (i32 e) (i32 k) (i32 b) (i32 i)) (fun v => ∃ b r, v = i32 b ∧ corF cs b r ∧ nxC N w e p r) := by
    intro ha
    unfold M_nextCorner_51 M_nextCorner_56
    rw [if_neg (by decide)]
    simp (disch := omega) only [show (-1 : Int32) = i32 (-1) from rfl, i_le, i_lt, i_eq]
    rcases hb' : hb with ⟨rfl, rfl⟩ | ⟨j, hj, rfl, rfl⟩
    · rw [if_pos rfl]; exact yes ha (fun x hx => by cases hx)
    · rw [if_neg (by omega)]
      obtain ⟨gj1, gj2⟩ := crl_get hc hj
      have cm := cmp j hj
      simp (disch := omega) only [rdL_i, Int.toNat_natCast, gi1, gi2, gj1, gj2, Option.bind_eq_bind, Option.bind_some, j_add, j_sub, j_mul, j_neg, j_le, j_lt, j_eq]
      refine Rt.ite (fun h1 => no (fun _ _ => ⟨_, rfl, h1⟩)) (fun h1 => yes ha (fun x hx => by cases hx; exact Int.not_le.mp h1))
  simp (disch := omega) only [show (-1 : Int32) = i32 (-1) from rfl, i_le, i_lt, i_eq]
  rcases hp' : hp with ⟨rfl, rfl⟩ | ⟨j, hj, rfl, rfl⟩
  · rw [if_pos rfl]; exact mid trivial
  · rw [if_neg (by omega)]
    obtain ⟨gj1, gj2⟩ := crl_get hc hj
    have cm := cmp j hj
    simp (disch := omega) only [rdL_i, Int.toNat_natCast, gi1, gi2, gj1, gj2, Option.bind_eq_bind, Option.bind_some, j_add, j_sub, j_mul, j_neg, j_le, j_lt, j_eq]
    refine Rt.ite (fun h1 => ?_) (fun h1 => mid (Int.not_le.mp h1))
    unfold M_nextCorner_56
    rw [if_pos rfl]
    exact no (fun _ z => absurd z (Int.not_lt.mpr h1))
/-- what is told of a corner -/
def corT (N : Net) (w : Nat → Int) (e : Nat) (what : Int) (r : Option Fq) : Int := match r with
  | none => -1
  | some x => if what < 2 then rdc x.1 x.2 what else rdc (hgt N w (allN N) e x) x.2 (what - 2)
theorem M_cornerTold_eq {e : Nat} {i what : Int} (hI : lcI N w σ) (hw9 : okw9 (nN N) w) (hcn : cnN N) (he : e < eN N) (hi : -2147483648 ≤ i) (hi2 : i < 2147483648) (h0 : 0 ≤ what) (h3 : what ≤ 3) (hF : 4294967296 < F) :
    Rt (M_cornerTold F σ (i32 e) (i32 i) (i32 what)) (fun v => ∃ τ r, v = (i32 (if i < 0 then -1 else corT N w e what r), τ) ∧ kp [3] [] [] [0, 1] σ τ ∧ (0 ≤ i → corI N w e i.toNat r)) := by
  have hN := hI.1.2
  obtain ⟨τ, cs, c1, c2, c3, c4, c5⟩ := M_laysCrossings_eq hI (show 8 < F by omega) hw9 (allN_lt hN) he
  have hIt := hI.kp c2
  unfold M_cornerTold
  rw [M_many_eq hI.1]
  simp only [Option.bind_eq_bind, Option.bind_some, i_c1, i_c31, i_all hN]
  rw [c1]
  simp only [Option.bind_eq_bind, Option.bind_some, show (-1 : Int32) = i32 (-1) from rfl, i_c0]
  have fin : ∀ (b : Int) (r : Option Fq), corF cs b r → (0 ≤ i → corI N w e i.toNat r) → Rt (M_cornerTold_51 F (i32 e) (i32 i) (i32 what) (i32 b) τ) (fun v => ∃ τ r, v = (i32 (if i < 0 then -1 else corT N w e what r), τ) ∧ kp [3] [] [] [0, 1] σ τ ∧ (0 ≤ i → corI N w e i.toNat r)) := by
    intro b r hb hr
    unfold M_cornerTold_51
    simp only [show (-1 : Int32) = i32 (-1) from rfl]
    rcases hb with ⟨rfl, rfl⟩ | ⟨j, hj, rfl, rfl⟩
    · rw [if_pos rfl]
      exact Rt.some ⟨τ, none, by unfold corT; simp, c2, hr⟩
    · obtain ⟨gj1, gj2⟩ := crl_get c3 hj
      obtain ⟨o1, o2, -⟩ := smC_okx hN he c5.2.2.2 (List.getElem_mem hj)
      have hr2 := hgt_rng (s := allN N) hN hcn hw9 he o1 o2
      obtain ⟨x1, x2, x3, x4⟩ := o1
      simp (disch := omega) only [i_c0, i_c1, i_c2, i_c3, i_c4, i_c5, i_c6, i_c8, i_c9, i_c10, i_c12, i_c16, i_c17, i_c18, i_c31, i_c32, i_c45, i_c48, i_c50, i_c54, i_c55, i_c57, i_c58, i_c59, i_c61, i_c64, i_c73, i_c118, i_c119, i_c120, i_c126, i_c365, i_c1000, i_cFAR, i_le, i_lt, i_eq]
      rw [if_neg (by omega)]
      refine Rt.ite (fun h => ?_) (fun h => ?_)
      · refine Rt.ite (fun h2 => ?_) (fun h2 => ?_)
        · rw [M_many_eq hIt.1]
          simp (disch := omega) only [Option.bind_eq_bind, Option.bind_some, rdL_i, Int.toNat_natCast, gj1, gj2, i_all hN, i_add, i_sub, i_mul, i_neg]
          rw [M_heightAt_eq hIt.1 hIt.2.1 hIt.2.2 hw9 hcn (allN_lt hN) he ⟨x1, x2, x3, x4⟩ o2 (by omega)]
          simp only [Option.bind_eq_bind, Option.bind_some]
          rw [M_reduced_eq (by omega) (by omega) (by omega) (by omega) (by omega) (by omega) (by omega)]
          simp only [Option.bind_eq_bind, Option.bind_some]
          exact Rt.some ⟨τ, some cs[j], by rw [if_neg (by omega)]; unfold corT; simp only; rw [if_neg (by omega)], c2, hr⟩
        · simp (disch := omega) only [Option.bind_eq_bind, Option.bind_some, rdL_i, Int.toNat_natCast, gj1, gj2]
          rw [M_reduced_eq (by omega) (by omega) (by omega) (by omega) (by omega) (by omega) (by omega)]
          simp only [Option.bind_eq_bind, Option.bind_some]
          exact Rt.some ⟨τ, some cs[j], by rw [if_neg (by omega)]; unfold corT; simp only; rw [if_pos (by omega)], c2, hr⟩
      · exact Rt.some ⟨τ, some cs[j], by rw [if_pos (by omega)], c2, hr⟩
  refine Rt.bindO (M_nextCorner_eq (k := -1) (p := none) hIt hw9 hcn he c3 c4 c5 (Or.inl ⟨rfl, rfl⟩) (by omega)) ?_
  rintro _ ⟨b, r, rfl, hb, hr⟩
  refine Rt.loop3 (ι := Nat) (fun n a c υ => c = i32 n ∧ υ = τ ∧ (n : Int) ≤ max i 0 ∧ ∃ b r, a = i32 b ∧ corF cs b r ∧ corI N w e n r) (fun n => i.toNat - n) ?_ F 0 _ _ _ ⟨rfl, rfl, by omega, b, r, rfl, hb, hr⟩ (by omega)
  rintro f n _ _ _ ⟨rfl, rfl, hn, b, r, rfl, hb, hr⟩ ih
  have br : -1 ≤ b ∧ b < 1000 := by rcases hb with ⟨rfl, -⟩ | ⟨j, hj, rfl, -⟩ <;> omega
  unfold M_cornerTold_24
  simp (disch := omega) only [show (-1 : Int32) = i32 (-1) from rfl, i_le, i_lt, i_eq]
  refine Rt.ite (fun h => fin b r hb (fun h2 => by obtain rfl : n = i.toNat := (by omega); exact hr)) (fun h => ?_)
  refine Rt.ite (fun h2 => fin b r hb (fun h4 => ?_)) (fun h2 => ?_)
  · have hrn : r = none := by rcases hb with ⟨-, h⟩ | ⟨j, hj, z, -⟩; exact h; omega
    subst hrn
    have : ∀ d, corI N w e (n + d) none := by
      intro d
      induction d with
      | zero => exact hr
      | succ d ih => exact Or.inr ⟨ih, rfl⟩
    have := this (i.toNat - n)
    rwa [show n + (i.toNat - n) = i.toNat by omega] at this
  · refine Rt.bindO (M_nextCorner_eq hIt hw9 hcn he c3 c4 c5 hb (by omega)) ?_
    rintro _ ⟨b', r', rfl, hb', hr'⟩
    simp only [i_c0, i_c1, i_c2, i_c3, i_c4, i_c5, i_c6, i_c8, i_c9, i_c10, i_c12, i_c16, i_c17, i_c18, i_c31, i_c32, i_c45, i_c48, i_c50, i_c54, i_c55, i_c57, i_c58, i_c59, i_c61, i_c64, i_c73, i_c118, i_c119, i_c120, i_c126, i_c365, i_c1000, i_cFAR, i_add, i_sub, i_mul, i_neg, Option.bind_eq_bind, Option.bind_some]
    refine ih (n + 1) _ _ _ ⟨rfl, rfl, by omega, b', r', rfl, hb', ?_⟩ (by omega)
    rcases hb with ⟨z, -⟩ | ⟨j, hj, -, rfl⟩
    · exact absurd z h2
    · exact Or.inl ⟨_, hr, hr'⟩
end MK
