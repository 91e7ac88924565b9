/-! WHAT THE CALLS DO: the common law of both sides -/
theorem rdc_feq {p q p' q' part : Int} (hp : 0 ≤ p) (hq : 0 < q) (hp' : 0 ≤ p') (hq' : 0 < q') (e : feq (p, q) (p', q')) : rdc p q part = rdc p' q' part := by
  obtain ⟨a, rfl⟩ : ∃ a : Nat, p = a := ⟨p.toNat, by omega⟩
  obtain ⟨b, rfl⟩ : ∃ b : Nat, q = b := ⟨q.toNat, by omega⟩
  obtain ⟨c, rfl⟩ : ∃ c : Nat, p' = c := ⟨p'.toNat, by omega⟩
  obtain ⟨d, rfl⟩ : ∃ d : Nat, q' = d := ⟨q'.toNat, by omega⟩
  have hb : 0 < b := by omega
  have hd : 0 < d := by omega
  have e' : a * d = c * b := by unfold feq at e; simp only at e; exact_mod_cast e
  have hg : Int.gcd (a : Int) (b : Int) = Nat.gcd a b := rfl
  have hg' : Int.gcd (c : Int) (d : Int) = Nat.gcd c d := rfl
  have g1 : 0 < Nat.gcd a b := Nat.gcd_pos_of_pos_right a hb
  have g2 : 0 < Nat.gcd c d := Nat.gcd_pos_of_pos_right c hd
  have k : Nat.gcd a b * d = Nat.gcd c d * b := by
    rw [← Nat.gcd_mul_right, ← Nat.gcd_mul_right, e', Nat.mul_comm d b]
  have kb : b / Nat.gcd a b = d / Nat.gcd c d := by
    obtain ⟨u, hu⟩ := Nat.gcd_dvd_right a b
    obtain ⟨v, hv⟩ := Nat.gcd_dvd_right c d
    have h1 : b / Nat.gcd a b = u := by
      conv => lhs; lhs; rw [hu]
      exact Nat.mul_div_cancel_left u g1
    have h2 : d / Nat.gcd c d = v := by
      conv => lhs; lhs; rw [hv]
      exact Nat.mul_div_cancel_left v g2
    rw [h1, h2]
    have : Nat.gcd a b * (Nat.gcd c d * v) = Nat.gcd c d * (Nat.gcd a b * u) := by rw [← hu, ← hv]; exact k
    have : Nat.gcd a b * Nat.gcd c d * v = Nat.gcd a b * Nat.gcd c d * u := by rw [Nat.mul_assoc, this, ← Nat.mul_assoc, Nat.mul_comm (Nat.gcd c d)]
    exact (Nat.eq_of_mul_eq_mul_left (Nat.mul_pos g1 g2) this).symm
  have ka : a / Nat.gcd a b = c / Nat.gcd c d := by
    obtain ⟨u, hu⟩ := Nat.gcd_dvd_left a b
    obtain ⟨v, hv⟩ := Nat.gcd_dvd_left c d
    have h1 : a / Nat.gcd a b = u := by
      conv => lhs; lhs; rw [hu]
      exact Nat.mul_div_cancel_left u g1
    have h2 : c / Nat.gcd c d = v := by
      conv => lhs; lhs; rw [hv]
      exact Nat.mul_div_cancel_left v g2
    rw [h1, h2]
    have t1 : Nat.gcd a b * u * d = Nat.gcd c d * v * b := by rw [← hu, ← hv]; exact e'
    have t2 : u * (Nat.gcd a b * d) = v * (Nat.gcd a b * d) := by
      conv => rhs; rw [k]
      rw [← Nat.mul_assoc, ← Nat.mul_assoc, Nat.mul_comm u, Nat.mul_comm v]; exact t1
    exact Nat.eq_of_mul_eq_mul_right (Nat.mul_pos g1 hd) t2
  unfold rdc
  rw [hg, hg']
  split
  · exact_mod_cast ka
  · exact_mod_cast kb
theorem wS_0 (N : Net) : wS N 0 = wN N := by
  funext i; unfold wS; rw [Int.zero_mul, Int.add_zero]
theorem isRad_rdc {N : Net} {w : Nat → Int} {s : Nat} {r : Fq} {part : Int} (h : isRad N w s r) : rdc r.1 r.2 part = rdc (radF N w s).1 (radF N w s).2 part :=
  rdc_feq (isRad_pos h).2 (isRad_pos h).1 (radF_pos N w s).2 (radF_pos N w s).1 (isRad_F h)
/-- the place of the best -/
noncomputable def ctrF (N : Net) (H : Nat → Fq → Int) : Nat × Fq := @dite (Nat × Fq) (∃ p : Nat × Fq, ctrP N H p.1 p.2) (Classical.propDecidable _) (fun h => Classical.choose h) (fun _ => (0, 0, 1))
theorem ctrF_of {N : Net} {H : Nat → Fq → Int} {e : Nat} {x : Fq} (h : ctrP N H e x) : ctrP N H (ctrF N H).1 (ctrF N H).2 ∧ e = (ctrF N H).1 ∧ feq x (ctrF N H).2 ∧ feq (H e x, x.2) (H (ctrF N H).1 (ctrF N H).2, (ctrF N H).2.2) := by
  have c : ctrP N H (ctrF N H).1 (ctrF N H).2 := by
    unfold ctrF
    rw [dif_pos ⟨(e, x), h⟩]
    exact Classical.choose_spec (⟨(e, x), h⟩ : ∃ p : Nat × Fq, ctrP N H p.1 p.2)
  exact ⟨c, ctrP_uniq h c⟩
/-- what is told of it: the edge, the fraction -/
noncomputable def cenT (N : Net) (H : Nat → Fq → Int) (what : Int) : Int := if what = 0 then (ctrF N H).1 else rdc (ctrF N H).2.1 (ctrF N H).2.2 (what - 1)
theorem cenT_of {N : Net} {H : Nat → Fq → Int} {e : Nat} {x : Fq} {what : Int} (h : ctrP N H e x) : (if what = 0 then (e : Int) else rdc x.1 x.2 (what - 1)) = cenT N H what := by
  obtain ⟨c, h1, h2, -⟩ := ctrF_of h
  unfold cenT
  rw [← h1]
  split
  · rfl
  · exact rdc_feq h.2.1.2.1 h.2.1.1 c.2.1.2.1 c.2.1.1 h2
/-- the value of the best, as a part of the fraction -/
noncomputable def valT (N : Net) (H : Nat → Fq → Int) (part : Int) : Int := rdc (H (ctrF N H).1 (ctrF N H).2) (ctrF N H).2.2 part
theorem valT_of {N : Net} {H : Nat → Fq → Int} {e : Nat} {x : Fq} {part : Int} (h : ctrP N H e x) (h0 : ∀ e x, 0 < x.2 → ctrP N H e x → 0 ≤ H e x) : rdc (H e x) x.2 part = valT N H part := by
  obtain ⟨c, h1, h2, h3⟩ := ctrF_of h
  exact rdc_feq (h0 e x h.2.1.1 h) h.2.1.1 (h0 _ _ c.2.1.1 c) c.2.1.1 h3
/-- the nodes that decide -/
def crtF (v : Nat → Int) (s : Nat) (h : Int) : Nat → Nat
  | 0 => 0
  | i + 1 => crtF v s h i ||| (if s.testBit i = true ∧ v i = h then 2 ^ i else 0)
theorem crtF_lt (v : Nat → Int) (s : Nat) (h : Int) (m : Nat) : crtF v s h m < 2 ^ m := by
  induction m with
  | zero => exact Nat.one_pos
  | succ m ih =>
    unfold crtF
    refine Nat.or_lt_two_pow (Nat.lt_of_lt_of_le ih (Nat.pow_le_pow_right (by decide) (by omega))) ?_
    split
    · exact Nat.pow_lt_pow_right (by decide) (by omega)
    · exact Nat.two_pow_pos _
theorem crtF_congr {v v' : Nat → Int} {s : Nat} {h h' : Int} {m : Nat} (hh : ∀ i, i < m → (v i = h ↔ v' i = h')) : crtF v s h m = crtF v' s h' m := by
  induction m with
  | zero => rfl
  | succ m ih =>
    unfold crtF
    rw [ih (fun i hi => hh i (by omega))]
    congr 1
    have := hh m (by omega)
    simp only [this]
def crtN (N : Net) (w : Nat → Int) (s e : Nat) (x : Fq) : Nat := crtF (fun i => w i * awy N i e x) s (hgt N w s e x) (nN N)
noncomputable def crtA (N : Net) (w : Nat → Int) (s : Nat) : Nat := crtN N w s (ctrF N (hgt N w s)).1 (ctrF N (hgt N w s)).2
theorem crtA_of {N : Net} {w : Nat → Int} {s e : Nat} {x : Fq} (hw : okw0 (nN N) w) (h : ctrP N (hgt N w s) e x) : crtN N w s e x = crtA N w s := by
  obtain ⟨c, h1, h2, h3⟩ := ctrF_of h
  unfold crtA
  rw [← h1] at *
  generalize (ctrF N (hgt N w s)).2 = y at *
  refine crtF_congr (fun i hi => ?_)
  have px := h.2.1.1
  have py := c.2.1.1
  have k1 := nf_feq (L := Lw N w e) (i := i) px py h2
  rw [nf_Lw (hw i hi), nf_Lw (hw i hi)] at k1
  have k2 : hgt N w s e x * y.2 = hgt N w s e y * x.2 := h3
  constructor
  · intro z
    have : w i * awy N i e y * x.2 = hgt N w s e y * x.2 := by rw [← k1, ← k2, z]
    exact Int.eq_of_mul_eq_mul_right (Int.ne_of_gt px) this
  · intro z
    have : w i * awy N i e x * y.2 = hgt N w s e x * y.2 := by rw [k1, k2, z]
    exact Int.eq_of_mul_eq_mul_right (Int.ne_of_gt py) this
/-- corners -/
noncomputable def corF_ (N : Net) (w : Nat → Int) (e i : Nat) : Option Fq := @dite (Option Fq) (∃ r, corI N w e i r) (Classical.propDecidable _) (fun h => Classical.choose h) (fun _ => none)
noncomputable def corA (N : Net) (w : Nat → Int) (e : Nat) (i what : Int) : Int := if i < 0 then -1 else corT N w e what (corF_ N w e i.toNat)
theorem hgt_feq {N : Net} {w : Nat → Int} {s e : Nat} {x y : Fq} (hw : okw0 (nN N) w) (hx : 0 < x.2) (hy : 0 < y.2) (h : feq x y) : feq (hgt N w s e x, x.2) (hgt N w s e y, y.2) := by
  have k : hgt N w s e x * y.2 = hgt N w s e y * x.2 := isH_feq (T := bits N s) (L := Lw N w e) hx hy h (hgt_isH hw) (hgt_isH hw)
  exact k
theorem hgt_nn (N : Net) (w : Nat → Int) (s e : Nat) (x : Fq) : 0 ≤ hgt N w s e x := (hgF_spec _ _ _).1
theorem cor_pos {N : Net} {w : Nat → Int} {e i : Nat} {x : Fq} (h : corI N w e i (some x)) : isCor N w e x := by
  match i, h with
  | 0, h => exact h.1
  | i + 1, .inl ⟨p, _, h⟩ => exact h.1
  | i + 1, .inr ⟨_, h⟩ => cases h
theorem corA_of {N : Net} {w : Nat → Int} {e : Nat} {i what : Int} {r : Option Fq} (hw : okw0 (nN N) w) (h : 0 ≤ i → corI N w e i.toNat r) : (if i < 0 then -1 else corT N w e what r) = corA N w e i what := by
  unfold corA
  by_cases hi : i < 0
  · rw [if_pos hi, if_pos hi]
  · rw [if_neg hi, if_neg hi]
    have h1 := h (by omega)
    have h2 : corI N w e i.toNat (corF_ N w e i.toNat) := by
      unfold corF_
      rw [dif_pos ⟨r, h1⟩]
      exact Classical.choose_spec (⟨r, h1⟩ : ∃ r, corI N w e i.toNat r)
    have h3 := corI_uniq h1 h2
    generalize corF_ N w e i.toNat = r' at *
    match r, r', h1, h2, h3 with
    | none, none, _, _, _ => rfl
    | some x, some y, h1, h2, h3 =>
      have c1 := (cor_pos h1).1
      have c2 := (cor_pos h2).1
      unfold corT
      simp only
      split
      · exact rdc_feq c1.2.1 c1.1 c2.2.1 c2.1 h3
      · exact rdc_feq (hgt_nn _ _ _ _ _) c1.1 (hgt_nn _ _ _ _ _) c2.1 (hgt_feq hw c1.1 c2.1 h3)
/-- the radius of k centers; the groups; how many are needed -/
noncomputable def kR (N : Net) (k : Nat) : Fq := kRad (radF N (wN N)) k (allN N)
noncomputable def grA (N : Net) (k i : Nat) : Nat := @dite Nat (∃ g, grI (atM (radF N (wN N)) (kR N k)) k i 0 (allN N) g) (Classical.propDecidable _) (fun h => Classical.choose h) (fun _ => 0)
noncomputable def cvA (N : Net) (p q : Int) : Nat := @dite Nat (∃ k, lst (atM (radF N (wN N)) (p, q)) (allN N) k) (Classical.propDecidable _) (fun h => Classical.choose h) (fun _ => 0)
theorem grA_of {N : Net} {k i g : Nat} {b : Fq} (hb : isK (radF N (wN N)) k (allN N) b) (h : grI (atM (radF N (wN N)) b) k i 0 (allN N) g) : g = grA N k i := by
  have e := (kRad_of hb).1
  have pk : 0 < (kR N k).2 := (kRad_of hb).2.1
  have : atM (radF N (wN N)) b = atM (radF N (wN N)) (kR N k) := by
    funext a
    exact propext (fle_congr hb.1 pk (radF_pos N (wN N) a).1 e)
  rw [this] at h
  unfold grA
  rw [dif_pos ⟨g, h⟩]
  exact grI_uniq h (Classical.choose_spec (⟨g, h⟩ : ∃ g, grI (atM (radF N (wN N)) (kR N k)) k i 0 (allN N) g))
theorem cvA_of {N : Net} {k : Nat} {p q : Int} (h : lst (atM (radF N (wN N)) (p, q)) (allN N) k) : k = cvA N p q := by
  unfold cvA
  rw [dif_pos ⟨k, h⟩]
  exact lst_uniq h (Classical.choose_spec (⟨k, h⟩ : ∃ k, lst (atM (radF N (wN N)) (p, q)) (allN N) k))
theorem kR_rdc {N : Net} {k : Nat} {b : Fq} {part : Int} (hb : isK (radF N (wN N)) k (allN N) b) (h0 : 0 ≤ b.1) : rdc b.1 b.2 part = rdc (kR N k).1 (kR N k).2 part := by
  obtain ⟨h1, h2⟩ := kRad_of hb
  have h1' : feq b (kR N k) := h1
  have p2 : 0 < (kR N k).2 := h2.1
  refine rdc_feq h0 hb.1 ?_ p2 h1'
  have := Int.mul_nonneg h0 (Int.le_of_lt p2)
  rw [h1'] at this
  apply Int.not_lt.mp
  intro hn
  have := Int.mul_neg_of_neg_of_pos hn hb.1
  omega
def degF (es : List Ed) (i : Nat) : Nat := es.countP (fun e => decide (e.1 = i) || decide (e.2.1 = i))
def nxS (D : Mx) (a b : Nat) (best : Int) (e : Ed) : Int :=
  let v : Int := if e.1 = a then (e.2.1 : Int) else if e.2.1 = a then (e.1 : Int) else -1
  if v ≠ -1 ∧ e.2.2 + D v.toNat b = D a b ∧ (best = -1 ∨ v < best) then v else best
def nxA (N : Net) (a b : Nat) : Int := if a ≠ b ∧ dN N a b < 100000 then N.2.1.foldl (nxS (dN N) a b) (-1) else -1
def isMx (D : Mx) (n : Nat) (m : Int) : Prop := 0 ≤ m ∧ (∀ i j, i < n → j < n → D i j ≤ m) ∧ (m = 0 ∨ ∃ i j, i < n ∧ j < n ∧ D i j = m)
theorem isMx_uniq {D : Mx} {n : Nat} {m m' : Int} (h : isMx D n m) (h' : isMx D n m') : m = m' := by
  have go : ∀ {m m' : Int}, isMx D n m → isMx D n m' → m ≤ m' := by
    intro m m' h h'
    rcases h.2.2 with z | ⟨i, j, hi, hj, z⟩
    · have := h'.1; omega
    · rw [← z]; exact h'.2.1 i j hi hj
  exact Int.le_antisymm (go h h') (go h' h)
noncomputable def mxA (D : Mx) (n : Nat) : Int := @dite Int (∃ m, isMx D n m) (Classical.propDecidable _) (fun h => Classical.choose h) (fun _ => 0)
theorem mxA_of {D : Mx} {n : Nat} {m : Int} (h : isMx D n m) : m = mxA D n := by
  unfold mxA
  rw [dif_pos ⟨m, h⟩]
  exact isMx_uniq h (Classical.choose_spec (⟨m, h⟩ : ∃ m, isMx D n m))
/-- the nodes within a distance of a point -/
def cvdF (v : Nat → Int) (r : Int) : Nat → Nat
  | 0 => 0
  | i + 1 => cvdF v r i ||| (if v i ≤ r then 2 ^ i else 0)
theorem cvdF_lt (v : Nat → Int) (r : Int) (m : Nat) : cvdF v r m < 2 ^ m := by
  induction m with
  | zero => exact Nat.one_pos
  | succ m ih =>
    unfold cvdF
    refine Nat.or_lt_two_pow (Nat.lt_of_lt_of_le ih (Nat.pow_le_pow_right (by decide) (by omega))) ?_
    split
    · exact Nat.pow_lt_pow_right (by decide) (by omega)
    · exact Nat.two_pow_pos _
abbrev isNd (N : Net) (i : Int) : Prop := 0 ≤ i ∧ i < nN N
abbrev isEg (N : Net) (e : Int) : Prop := 0 ≤ e ∧ e < eN N
abbrev isSt (N : Net) (k : Int) : Prop := 0 ≤ k ∧ k < sN N
abbrev inR (v a b : Int) : Prop := a ≤ v ∧ v ≤ b
abbrev isPt (N : Net) (e p q : Int) : Prop := inR q 1 1000 ∧ 0 ≤ p ∧ p ≤ (ed N e.toNat).2.2 * q
abbrev isSe (N : Net) (s : Int) : Prop := 0 ≤ s ∧ s < 2 ^ nN N
def canN (N : Net) : Prop := 0 < eN N ∧ cnN N
def no (A : Ab) (c : Nat) : Res := (c, 0, A)
def yes (A : Ab) (v : Int) : Res := (0, v, A)
noncomputable def cntN (N : Net) (w : Int) : Int := if w = 0 then nN N else if w = 1 then eN N else if w = 2 then sN N else tr01 (cnN N)
def edW (N : Net) (e : Nat) (w : Int) : Int := if w = 0 then ((ed N e).1 : Int) else if w = 1 then ((ed N e).2.1 : Int) else (ed N e).2.2
def ndW (N : Net) (i : Nat) (w : Int) : Int := if w = 0 then wN N i else if w = 1 then tN N i else degF N.2.1 i
def sdW (N : Net) (k : Nat) (w : Int) : Int := if w = 0 then ((sd N k).1 : Int) else if w = 1 then (sd N k).2.1 else (sd N k).2.2
noncomputable def medA (N : Net) (w : Nat → Int) (what : Int) : Int := if what < 3 then cenT N (cos_ N w) what else valT N (cos_ N w) (what - 3)
noncomputable def cdCon (N : Net) (a b l : Int) : Nat := ifc (¬ (isNd N a ∧ isNd N b)) 1 (ifc (a = b ∨ ¬ inR l 1 50) 2 (ifc (joinN N a b ∨ eN N = 12) 3 0))
noncomputable def cdSet (N : Net) (i v : Int) : Nat := ifc (¬ isNd N i) 1 (ifc (¬ inR v 0 9) 2 0)
noncomputable def cdFor (N : Net) (e a b : Int) : Nat := ifc (¬ isEg N e) 1 (ifc (¬ (0 ≤ a ∧ a < b ∧ b ≤ (ed N e.toNat).2.2)) 2 (ifc (sN N = 6) 3 0))
noncomputable def sp_reset (A : Ab) (n : Int) : Res := ifc (inR n 1 8) (0, nN A.1, push A (nReset n.toNat)) (no A 1)
noncomputable def sp_connect (A : Ab) (a b l : Int) : Res := if cdCon A.1 a b l = 0 then (0, eN A.1, push A (nCon A.1 a.toNat b.toNat l)) else no A (cdCon A.1 a b l)
noncomputable def sp_disconnect (A : Ab) (e : Int) : Res := ifc (isEg A.1 e) (0, (sN A.1 : Int) - sN (nDis A.1 e.toNat), push A (nDis A.1 e.toNat)) (no A 1)
noncomputable def sp_setWeight (A : Ab) (i v : Int) : Res := if cdSet A.1 i v = 0 then (0, wN A.1 i.toNat, push A (nWei A.1 i.toNat v)) else no A (cdSet A.1 i v)
noncomputable def sp_setTrend (A : Ab) (i v : Int) : Res := if cdSet A.1 i v = 0 then (0, tN A.1 i.toNat, push A (nTre A.1 i.toNat v)) else no A (cdSet A.1 i v)
noncomputable def sp_forbid (A : Ab) (e a b : Int) : Res := if cdFor A.1 e a b = 0 then (0, sN A.1, push A (nFor A.1 e.toNat a b)) else no A (cdFor A.1 e a b)
noncomputable def sp_allow (A : Ab) (k : Int) : Res := ifc (isSt A.1 k) (0, ((sd A.1 k.toNat).1 : Int), push A (nAll A.1 k.toNat)) (no A 1)
noncomputable def sp_count (A : Ab) (w : Int) : Res := ifc (inR w 0 3) (yes A (cntN A.1 w)) (no A 1)
noncomputable def sp_edge (A : Ab) (e w : Int) : Res := ifc (¬ isEg A.1 e) (no A 1) (ifc (¬ inR w 0 2) (no A 2) (yes A (edW A.1 e.toNat w)))
noncomputable def sp_node (A : Ab) (i w : Int) : Res := ifc (¬ isNd A.1 i) (no A 1) (ifc (¬ inR w 0 2) (no A 2) (yes A (ndW A.1 i.toNat w)))
noncomputable def sp_stretch (A : Ab) (k w : Int) : Res := ifc (¬ isSt A.1 k) (no A 1) (ifc (¬ inR w 0 2) (no A 2) (yes A (sdW A.1 k.toNat w)))
noncomputable def sp_distance (A : Ab) (a b : Int) : Res := ifc (isNd A.1 a ∧ isNd A.1 b) (yes A (if dN A.1 a.toNat b.toNat < 100000 then dN A.1 a.toNat b.toNat else -1)) (no A 1)
noncomputable def sp_next (A : Ab) (a b : Int) : Res := ifc (isNd A.1 a ∧ isNd A.1 b) (yes A (nxA A.1 a.toNat b.toNat)) (no A 1)
noncomputable def sp_diameter (A : Ab) : Res := yes A (ifc (cnN A.1) (mxA (dN A.1) (nN A.1)) (-1))
noncomputable def sp_distanceTo (A : Ab) (i e p q part : Int) : Res := ifc (¬ (isNd A.1 i ∧ isEg A.1 e)) (no A 1) (ifc (¬ (isPt A.1 e p q ∧ inR part 0 1)) (no A 2) (ifc (¬ dN A.1 i.toNat (ed A.1 e.toNat).1 < 100000) (no A 3) (yes A (rdc (awy A.1 i.toNat e.toNat (p, q)) q part))))
noncomputable def sp_isAllowed (A : Ab) (e p q : Int) : Res := ifc (¬ isEg A.1 e) (no A 1) (ifc (¬ isPt A.1 e p q) (no A 2) (yes A (tr01 (alw (sts A.1 e.toNat) (p, q)))))
noncomputable def sp_height (A : Ab) (s e p q part : Int) : Res := ifc (¬ isEg A.1 e) (no A 1) (ifc (¬ (isSe A.1 s ∧ isPt A.1 e p q ∧ inR part 0 1)) (no A 2) (ifc (¬ cnN A.1) (no A 3) (yes A (rdc (hgt A.1 (wN A.1) s.toNat e.toNat (p, q)) q part))))
noncomputable def sp_cost (A : Ab) (e p q part : Int) : Res := ifc (¬ isEg A.1 e) (no A 1) (ifc (¬ (isPt A.1 e p q ∧ inR part 0 1)) (no A 2) (ifc (¬ cnN A.1) (no A 3) (yes A (rdc (cos_ A.1 (wN A.1) e.toNat (p, q)) q part))))
noncomputable def sp_corner (A : Ab) (e i w : Int) : Res := ifc (¬ isEg A.1 e) (no A 1) (ifc (¬ inR w 0 3) (no A 2) (ifc (¬ cnN A.1) (no A 3) (yes A (corA A.1 (wN A.1) e.toNat i w))))
noncomputable def sp_radius (A : Ab) (s part : Int) : Res := ifc (¬ (isSe A.1 s ∧ inR part 0 1)) (no A 1) (ifc (¬ canN A.1) (no A 2) (yes A (valT A.1 (hgt A.1 (wN A.1) s.toNat) part)))
noncomputable def sp_center (A : Ab) (s w : Int) : Res := ifc (¬ (isSe A.1 s ∧ inR w 0 2)) (no A 1) (ifc (¬ canN A.1) (no A 2) (yes A (cenT A.1 (hgt A.1 (wN A.1) s.toNat) w)))
noncomputable def sp_critical (A : Ab) (s : Int) : Res := ifc (¬ isSe A.1 s) (no A 1) (ifc (¬ canN A.1) (no A 2) (yes A (crtA A.1 (wN A.1) s.toNat)))
noncomputable def sp_median (A : Ab) (w : Int) : Res := ifc (¬ inR w 0 4) (no A 1) (ifc (¬ canN A.1) (no A 2) (yes A (medA A.1 (wN A.1) w)))
noncomputable def sp_radiusOf (A : Ab) (k part : Int) : Res := ifc (¬ (inR k 1 3 ∧ inR part 0 1)) (no A 1) (ifc (¬ canN A.1) (no A 2) (yes A (rdc (kR A.1 k.toNat).1 (kR A.1 k.toNat).2 part)))
noncomputable def sp_group (A : Ab) (k i : Int) : Res := ifc (¬ (inR k 1 3 ∧ inR i 0 (k - 1))) (no A 1) (ifc (¬ canN A.1) (no A 2) (yes A (grA A.1 k.toNat i.toNat)))
noncomputable def sp_covering (A : Ab) (p q : Int) : Res := ifc (¬ (0 ≤ p ∧ inR q 1 1000)) (no A 1) (ifc (¬ canN A.1) (no A 2) (yes A (cvA A.1 p q)))
noncomputable def sp_covered (A : Ab) (e t r : Int) : Res := ifc (¬ isEg A.1 e) (no A 1) (ifc (¬ (inR t 0 (ed A.1 e.toNat).2.2 ∧ 0 ≤ r)) (no A 2) (ifc (¬ cnN A.1) (no A 3) (yes A (cvdF (fun i => wN A.1 i * awy A.1 i e.toNat (t, 1)) r (nN A.1)))))
noncomputable def sp_changedRadius (A : Ab) (s part : Int) : Res := ifc (¬ (inR s 0 10 ∧ inR part 0 1)) (no A 1) (ifc (¬ canN A.1) (no A 2) (yes A (valT A.1 (hgt A.1 (wS A.1 s) (allN A.1)) part)))
noncomputable def woA (N : Net) (part : Int) : Int := ifc (canN N) (valT N (hgt N (wN N) (allN N)) part) (-1)
noncomputable def sp_radiusWithout (A : Ab) (e part : Int) : Res := ifc (¬ isEg A.1 e) (no A 1) (ifc (¬ inR part 0 1) (no A 2) (yes A (woA (nDis A.1 e.toNat) part)))
noncomputable def sp_type (A : Ab) (c : Int) : Res := ifc (¬ inR c 32 126) (no A 1) (ifc (A.2.2.length = 120) (no A 2) (0, A.2.2.length + 1, A.1, A.2.1, A.2.2 ++ [c]))
def sp_clearText (A : Ab) : Res := (0, A.2.2.length, A.1, A.2.1, [])
noncomputable def sp_undo (A : Ab) : Res := ifc (A.2.1 = []) (no A 1) (0, (A.2.1.length : Int) - 1, A.2.1.getLastD A.1, A.2.1.dropLast, A.2.2)
