/-! THE CLASS's CENTERS: the first best of the allowed points -/
def ptE (pts : List (Nat × Fq)) (k : Nat) : Nat := (pts.getD k (0, 0, 1)).1
def ptX (pts : List (Nat × Fq)) (k : Nat) : Fq := (pts.getD k (0, 0, 1)).2
/-- the value at a point, as a fraction -/
def ptH (H : Nat → Fq → Int) (pts : List (Nat × Fq)) (k : Nat) : Fq := (H (ptE pts k) (ptX pts k), (ptX pts k).2)
/-- k is the first best of the points ahead of i -/
def bsU (mem : Nat → Prop) (H : Nat → Fq → Int) (pts : List (Nat × Fq)) (i k : Nat) : Prop := mem k ∧ k < i ∧ ∀ j, j < i → mem j → (j < k → flt (ptH H pts k) (ptH H pts j)) ∧ fle (ptH H pts k) (ptH H pts j)
section CC
variable {N : Net} {w : Nat → Int} {pts : List (Nat × Fq)} {H : Nat → Fq → Int}
theorem bsU_best {k : Nat} (hd : lpD N w (eN N) pts) (h : bsU (alM N pts) H pts pts.length k) : isBest (eN N) (alN N) H (edP pts) (ptE pts k) (ptX pts k) := by
  obtain ⟨h1, h2, h3⟩ := h
  refine ⟨(hd.1 k h2).1, edP_mem.mpr ⟨k, h2, rfl⟩, h1.2, fun e' y he hy ha => ?_⟩
  obtain ⟨j, hj, ej⟩ := edP_mem.mp hy
  have e1 : ptE pts j = e' := by unfold ptE; rw [ej]
  have e2 : ptX pts j = y := by unfold ptX; rw [ej]
  have hm : alM N pts j := ⟨hj, by rw [ej]; exact ha⟩
  obtain ⟨c1, c2⟩ := h3 j hj hm
  unfold ptH at c1 c2
  rw [e1, e2] at c1 c2
  by_cases l : j < k
  · exact Or.inl (c1 l)
  · rcases flt_or_feq c2 with c | c
    · exact Or.inl c
    · refine Or.inr ⟨c, ?_⟩
      by_cases e : j = k
      · subst e
        exact Or.inr ⟨e1, by rw [e2]; exact Int.le_refl _⟩
      · rcases hd.2.1 k j (by omega) hj with z | ⟨z1, z2⟩
        · rw [ej] at z; exact Or.inl z
        · rw [ej] at z1 z2; exact Or.inr ⟨z1, Int.le_of_lt z2⟩
theorem lpD.inE (hd : lpD N w (eN N) pts) : ∀ e c, e < eN N → c ∈ edP pts e → inE (lenN N e) c := fun e c he hc => (hd.2.2.1 e he).1.1 c hc
theorem bsU_hgt {s k : Nat} (hN : okN N) (hw9 : okw9 (nN N) w) (hd : lpD N w (eN N) pts) (h : bsU (alM N pts) (hgt N w s) pts pts.length k) : ctrP N (hgt N w s) (ptE pts k) (ptX pts k) :=
  ctrP_of (desc_hgt hN hw9.ok0 (fun e he => ⟨(hd.2.2.1 e he).1, fun i j l m hi hj => (hd.2.2.1 e he).2.1 i j l m hi.1 hj.1⟩)) hd.inE (bsU_best hd h)
theorem bsU_cos {k : Nat} (hw9 : okw9 (nN N) w) (hd : lpD N w (eN N) pts) (h : bsU (alM N pts) (cos_ N w) pts pts.length k) : ctrP N (cos_ N w) (ptE pts k) (ptX pts k) :=
  ctrP_of (desc_cos hw9.ok0 (fun e he => ⟨(hd.2.2.1 e he).1, (hd.2.2.1 e he).2.2.1⟩)) hd.inE (bsU_best hd h)
/-- there is an allowed point -/
theorem alM_some (hN : okN N) (he : 0 < eN N) (hd : lpD N w (eN N) pts) : ∃ k, alM N pts k := by
  obtain ⟨c, c1, c2⟩ := (hd.2.2.1 0 he).1.2.1
  have cin := (hd.2.2.1 0 he).1.1 c c1
  obtain ⟨k, hk, ek⟩ := edP_mem.mp c1
  refine ⟨k, hk, ?_⟩
  rw [ek]
  rw [alw_iff]
  intro q hq _ hz
  have o := (hN.2.2.2.2.2.2 q hq).2.1
  have hc0 : c.1 = 0 := by have : c.1 * 1 = 0 * c.2 := c2; omega
  have := Int.mul_nonneg o (Int.le_of_lt cin.1)
  have h1 := hz.1
  simp only at h1
  rw [hc0] at h1
  omega
/-- one more point is looked at: it is not better -/
theorem bsU.keep {mem : Nat → Prop} {i r k : Nat} (h : bsU mem H pts i k) (hir : i ≤ r) (hno : ∀ j, i ≤ j → j < r → ¬ mem j) (hle : fle (ptH H pts k) (ptH H pts r)) : bsU mem H pts (r + 1) k := by
  obtain ⟨h1, h2, h3⟩ := h
  refine ⟨h1, by omega, fun j hj hm => ?_⟩
  by_cases c : j < i
  · exact h3 j c hm
  · by_cases c2 : j = r
    · subst c2; exact ⟨fun z => by omega, hle⟩
    · exact absurd hm (hno j (by omega) (by omega))
/-- it is better -/
theorem bsU.take {mem : Nat → Prop} {i r k : Nat} (pos : ∀ j, mem j → 0 < (ptX pts j).2) (h : bsU mem H pts i k) (hm : mem r) (hir : i ≤ r) (hno : ∀ j, i ≤ j → j < r → ¬ mem j) (hlt : flt (ptH H pts r) (ptH H pts k)) : bsU mem H pts (r + 1) r := by
  obtain ⟨h1, h2, h3⟩ := h
  refine ⟨hm, by omega, fun j hj hmj => ?_⟩
  by_cases c : j < i
  · have := flt_of_flt_of_fle (a := ptH H pts r) (b := ptH H pts k) (c := ptH H pts j) (pos r hm) (pos k h1) (pos j hmj) hlt (h3 j c hmj).2
    exact ⟨fun _ => this, Int.le_of_lt this⟩
  · by_cases c2 : j = r
    · subst c2; exact ⟨fun z => by omega, Int.le_refl _⟩
    · exact absurd hmj (hno j (by omega) (by omega))
theorem bsU.first {mem : Nat → Prop} {i r : Nat} (h0 : ∀ j, j < i → ¬ mem j) (hm : mem r) (hno : ∀ j, i ≤ j → j < r → ¬ mem j) : bsU mem H pts (r + 1) r := by
  refine ⟨hm, by omega, fun j hj hmj => ?_⟩
  by_cases c : j < i
  · exact absurd hmj (h0 j c)
  · by_cases c2 : j = r
    · subst c2; exact ⟨fun z => by omega, Int.le_refl _⟩
    · exact absurd hmj (hno j (by omega) (by omega))
theorem bsU.all {mem : Nat → Prop} {i n k : Nat} (h : bsU mem H pts i k) (hno : ∀ j, i ≤ j → ¬ mem j) (hn : i ≤ n ∨ k < n) : bsU mem H pts n k := by
  obtain ⟨h1, h2, h3⟩ := h
  refine ⟨h1, by omega, fun j hj hm => ?_⟩
  by_cases c : j < i
  · exact h3 j c hm
  · exact absurd hm (hno j (by omega))
end CC
section CD
variable {S T : St} {b x p D P E A Q L B W M u C Hh : Nat} {pts : List (Nat × Fq)} {N : Net} {w : Nat → Int} {F : Nat} {v5 v6 : Option Nat}
theorem C_isLess {a c : Fq} (ha : 0 ≤ a.1 ∧ a.1 ≤ 10177200000) (ha2 : 0 < a.2 ∧ a.2 ≤ 1000) (hc : 0 ≤ c.1 ∧ c.1 ≤ 10177200000) (hc2 : 0 < c.2 ∧ c.2 ≤ 1000) : C_X3_isLess (j64 a.1) (j64 a.2) (j64 c.1) (j64 c.2) = some (i32 (tr01 (flt a c))) := by
  have m1 := mul_rng (a := c.1) (b := a.2) (A := 10177200000) (B := 1000) hc.1 hc.2 (by omega) (by omega)
  have m2 := mul_rng (a := a.1) (b := c.2) (A := 10177200000) (B := 1000) ha.1 ha.2 (by omega) (by omega)
  unfold C_X3_isLess
  rw [j_mul, j_mul]
  have el := j_le (a := c.1 * a.2) (b := a.1 * c.2) (by omega) (by omega) (by omega) (by omega)
  by_cases h : flt a c
  · rw [if_neg (by rw [el]; exact Int.not_le.mpr h), tr01_pos h]; rfl
  · rw [if_pos (by rw [el]; exact Int.not_lt.mp h), tr01_neg h]; rfl
/-- what a point's place is -/
theorem plP.px {mem : Nat → Prop} {k : Nat} (h : plP b S p x D P E A Q L pts B W M u N w v5 v6 mem) (hk : k < pts.length) : ptE pts k < eN N ∧ okx (ptX pts k) ∧ (ptX pts k).1 ≤ (ed N (ptE pts k)).2.2 * (ptX pts k).2 ∧ (ptX pts k).2 ≤ 198 := by
  have hd := h.2.2.2.2.1
  obtain ⟨r1, r2⟩ := hd.1 k hk
  have c := (hd.2.2.1 (ptE pts k) r1).2.2.2 (ptX pts k) (edP_mem.mpr ⟨k, hk, rfl⟩)
  exact ⟨r1, r2.1, c.1.2.2, c.2⟩
theorem plP.putA {mem : Nat → Prop} {a : Nat} {kk : Nat × vp_A} {c : Cel} (h : plP b S p x D P E A Q L pts B W M u N w v5 v6 mem) (ha : S.1 a = some (.inl kk)) (hb : b ≤ a) (n1 : a ≠ D) (n2 : a ≠ E) (n3 : a ≠ A) (n4 : a ≠ Q) (n5 : a ≠ W) : plP b (put S a c) p x D P E A Q L pts B W M u N w v5 v6 mem := by
  obtain ⟨hw, ⟨b1, b2, b3, ⟨f, f1, f2⟩, b4⟩, ⟨a1, a2, a3, a4, a5, a6, fe, fa, fq, a7, a8, a9, a10⟩, ⟨g1, g3, g4, ⟨fb, gb, g5, g6⟩, g7⟩, h5, h6⟩ := h
  have ob : ∀ {q ci : Nat} {fs : List Value}, S.1 q = some (cO ci fs) → (put S a c).1 q = some (cO ci fs) := by
    intro q ci fs hq
    rw [put_ne]
    · exact hq
    · rintro rfl
      rw [ha] at hq; cases hq
  have oa : ∀ {q : Nat} {e : Cel}, q ≠ a → S.1 q = some e → (put S a c).1 q = some e := fun hq he => by rw [put_ne hq]; exact he
  exact ⟨hw.put ha, ⟨b1, ob b2, b3, ⟨f, oa (Ne.symm n1) f1, f2⟩, b4.mono (Nat.le_refl _) (fun q e hq _ he => oa (by omega) he)⟩, ⟨a1, ob a2, a3, a4, a5, a6, fe, fa, fq, oa (Ne.symm n2) a7, oa (Ne.symm n3) a8, oa (Ne.symm n4) a9, a10⟩, ⟨g1, ob g3, g4, ⟨fb, gb, oa (Ne.symm n5) g5, g6⟩, g7⟩, h5, h6⟩
/-- a set's entry -/
def cEn (N : Net) (w : Nat → Int) (pts : List (Nat × Fq)) (s : Nat) (v : Int32) (y : Int64) : Prop := v = i32 (-1) ∨ ∃ k : Nat, v = i32 k ∧ bsU (alM N pts) (hgt N w s) pts pts.length k ∧ y = j64 (hgt N w s (ptE pts k) (ptX pts k))
/-- the plan with its centers -/
def plC (b : Nat) (S : St) (p x D P E A Q L : Nat) (pts : List (Nat × Fq)) (B W M u C Hh : Nat) (N : Net) (w : Nat → Int) (f : Nat → Int32) (h : Nat → Int64) : Prop := plP b S p x D P E A Q L pts B W M u N w (some C) (some Hh) (alM N pts) ∧ (b ≤ C ∧ b ≤ Hh) ∧ (C ≠ D ∧ C ≠ E ∧ C ≠ A ∧ C ≠ Q ∧ Hh ≠ W) ∧ S.1 C = some (cI 0 (2 ^ nN N) f) ∧ S.1 Hh = some (cJ (2 ^ nN N) h) ∧ ∀ s, s < 2 ^ nN N → cEn N w pts s (f s) (h s)
theorem two_n (hN : okN N) : 2 ^ nN N ≤ 256 := Nat.pow_le_pow_right (n := 2) (by decide) hN.2.1
theorem C_lay115 {f : Nat → Int32} {h : Nat → Int64} {s k : Nat} (hN : okN N) (hs : s < 2 ^ nN N) (hp : plC b S p x D P E A Q L pts B W M u C Hh N w f h) (hk : bsU (alM N pts) (hgt N w s) pts pts.length k) :
    Rt (C_X3_layCenter_115 F p (i32 s) (i32 k) (j64 (hgt N w s (ptE pts k) (ptX pts k))) S) (fun T => fr b p 0 0 S T ∧ ∃ f' h', plC b T p x D P E A Q L pts B W M u C Hh N w f' h' ∧ f' s = i32 k) := by
  have t2 := two_n hN
  obtain ⟨h1, ⟨h2, h3⟩, ⟨n1, n2, n3, n4, n5⟩, c1, c2, c3⟩ := hp
  obtain ⟨-, -, -, -, -, -, g5, g6⟩ := h1.2.1.g
  have hCW : C ≠ W := by
    rintro rfl
    obtain ⟨_, _, _, ⟨_, _, z, _⟩, _⟩ := h1.2.2.2.1
    rw [c1] at z; cases z
  have nj : ∀ {q m : Nat} {g : Nat → Int32}, S.1 q = some (cI 0 m g) → Hh ≠ q := by
    rintro q m g hq rfl
    rw [c2] at hq; cases hq
  obtain ⟨-, -, -, ⟨fd, d1, -⟩, -⟩ := h1.2.1
  obtain ⟨-, -, -, -, -, -, fe, fa, fq, a7, a8, a9, -⟩ := h1.2.2.1
  unfold C_X3_layCenter_115
  rw [g5]
  refine Rt.let (Rt.let ?_)
  rw [tI_of c1 (by omega) (by omega) (by omega), Int.toNat_natCast]
  refine Rt.let ?_
  have p1 := h1.putA (c := cI 0 (2 ^ nN N) (upd f s (i32 k))) c1 h2 n1 n2 n3 n4 hCW
  have f1 : fr b p 0 0 S (put S C (cI 0 (2 ^ nN N) (upd f s (i32 k)))) := fr.put h1.1 c1 (Or.inr ⟨h2, rfl⟩)
  have m1 := put_me S C (cI 0 (2 ^ nN N) (upd f s (i32 k)))
  have m2 : (put S C (cI 0 (2 ^ nN N) (upd f s (i32 k)))).1 Hh = some (cJ (2 ^ nN N) h) := by rw [put_ne (nj c1)]; exact c2
  generalize put S C (cI 0 (2 ^ nN N) (upd f s (i32 k))) = S1 at *
  obtain ⟨-, -, -, -, -, -, -, g6'⟩ := p1.2.1.g
  rw [g6']
  refine Rt.let (Rt.let ?_)
  rw [tJ_of m2 (by omega) (by omega) (by omega), Int.toNat_natCast]
  refine Rt.let (Rt.some ⟨f1.tr (fr.put p1.1 m2 (Or.inr ⟨h3, rfl⟩)) (Nat.le_refl _) (Nat.le_refl _), _, _, ⟨p1.putA m2 h3 (nj d1) (nj a7) (nj a8) (nj a9) n5, ⟨h2, h3⟩, ⟨n1, n2, n3, n4, n5⟩, by rw [put_ne (Ne.symm (nj c1))]; exact m1, put_me _ _ _, fun r hr => ?_⟩, by rw [upd_at, if_pos rfl]⟩)
  rw [upd_at, updL_at]
  by_cases c : r = s
  · rw [if_pos c, if_pos c, c]
    exact Or.inr ⟨k, rfl, hk, rfl⟩
  · rw [if_neg c, if_neg c]; exact c3 r hr
--BEGIN LC
/-- a set's center is laid -/
theorem C_layCenter {f : Nat → Int32} {h : Nat → Int64} {s : Nat} (hN : okN N) (hw9 : okw9 (nN N) w) (hc : cnN N) (he : 0 < eN N) (hs : s < 2 ^ nN N) (hp : plC b S p x D P E A Q L pts B W M u C Hh N w f h) (hF : 4294967296 < F) :
    Rt (C_X3_layCenter F S p (i32 s)) (fun T => fr b p 0 0 S T ∧ ∃ f' h', plC b T p x D P E A Q L pts B W M u C Hh N w f' h' ∧ ∃ k : Nat, f' s = i32 k ∧ bsU (alM N pts) (hgt N w s) pts pts.length k) := by
  have t2 := two_n hN
  have z2 := hN.sz.2.1
  have h1 := hp.1
  have hl := h1.2.2.2.2.1.2.2.2
  obtain ⟨⟨fs, g0⟩, g1, g2, -, g3, g4, -⟩ := h1.2.1.g
  obtain ⟨q1, q2, q3, q4⟩ := h1.gP
  have hb := h1.2.2.2.1
  have rg : ∀ k, k < pts.length → (0 ≤ (ptH (hgt N w s) pts k).1 ∧ (ptH (hgt N w s) pts k).1 ≤ 10177200000) ∧ 0 < (ptH (hgt N w s) pts k).2 ∧ (ptH (hgt N w s) pts k).2 ≤ 1000 := by
    intro k hk
    obtain ⟨y1, y2, y3, y4⟩ := h1.px hk
    have := hgt_rng (s := s) hN hc hw9 y1 y2 y3
    exact ⟨⟨this.1, by show hgt N w s (ptE pts k) (ptX pts k) ≤ _; omega⟩, y2.1, y2.2.1⟩
  have pos : ∀ j, alM N pts j → 0 < (ptX pts j).2 := fun j hj => (rg j hj.1).2.1
  unfold C_X3_layCenter
  rw [g0, g4]
  refine Rt.let (Rt.let (Rt.let ?_))
  refine Rt.bind (C_next (i := 0) hb (by omega) hF) ?_
  rintro _ ⟨r, rfl, hr⟩
  refine Rt.let ?_
  dsimp only
  refine Rt.loop4 (ι := Nat) (fun i a y v U => U = S ∧ i ≤ pts.length ∧ (∃ r : Int, v = i32 r ∧ nxB (alM N pts) i r) ∧ ((a = i32 (-1) ∧ ∀ j, j < i → ¬ alM N pts j) ∨ ∃ k : Nat, a = i32 k ∧ y = j64 (ptH (hgt N w s) pts k).1 ∧ bsU (alM N pts) (hgt N w s) pts i k)) (fun i => pts.length - i) ?_ F 0 _ _ _ _ ⟨rfl, by omega, ⟨r, rfl, hr⟩, Or.inl ⟨rfl, fun j hj => by omega⟩⟩ (by omega)
  clear hr r
  rintro n i a y _ V ⟨hV, hi, ⟨r, rfl, hr⟩, hst⟩ ih
  rw [hV]
  unfold C_X3_layCenter_14
  rcases hr with ⟨rfl, hno⟩ | ⟨r', rfl, r1, r2, r3⟩
  · refine Rt.ite (fun _ => ?_) (fun z => absurd (show i32 (-1) < 0 by decide) z)
    rcases hst with ⟨-, hn0⟩ | ⟨k, rfl, rfl, hk⟩
    · obtain ⟨k, hk⟩ := alM_some hN he h1.2.2.2.2.1
      by_cases c : k < i
      · exact absurd hk (hn0 k c)
      · exact absurd hk (hno k (by omega))
    · have hk' := hk.all hno (Or.inl hi)
      refine Rt.mono (C_lay115 hN hs hp hk') ?_
      rintro T ⟨t1, f', h', t2, t3⟩
      exact ⟨t1, f', h', t2, k, t3, hk'⟩
  have hr' := r2.1
  obtain ⟨l1, l2, l3⟩ := h1.pt hN hr'
  obtain ⟨y1, y2, y3, y4⟩ := h1.px hr'
  refine Rt.ite (fun z => ?_) (fun _ => ?_)
  · rw [i_c0, i_lt (by omega) (by omega) (by omega) (by omega)] at z; omega
  rw [g3]
  refine Rt.let (Rt.let ?_)
  rw [q1]
  refine Rt.let ?_
  rw [l1]
  refine Rt.let (Rt.let (Rt.let ?_))
  rw [q2]
  refine Rt.let ?_
  rw [l2]
  refine Rt.let (Rt.let (Rt.let ?_))
  rw [q3]
  refine Rt.let ?_
  rw [l3]
  refine Rt.let ?_
  have o := y2
  obtain ⟨o1, o2, o3, o4⟩ := o
  unfold ptX at o1 o2 o3 o4
  rw [i_long (by omega) (by omega), i_long (by omega) (by omega)]
  refine Rt.bindE (C_height (s := s) hN h1.2.1 hw9 hc (show s < 256 by omega) y1 y2 y3 hF) ?_
  have nxt : ∀ (a' : Int32) (y' : Int64), ((a' = i32 (-1) ∧ ∀ j, j < r' + 1 → ¬ alM N pts j) ∨ ∃ k : Nat, a' = i32 k ∧ y' = j64 (ptH (hgt N w s) pts k).1 ∧ bsU (alM N pts) (hgt N w s) pts (r' + 1) k) → Rt (C_X3_layCenter_99 F (C_X3_layCenter_14 F p (i32 s) n) p (i32 s) a' y' (i32 r') S) (fun T => fr b p 0 0 S T ∧ ∃ f' h', plC b T p x D P E A Q L pts B W M u C Hh N w f' h' ∧ ∃ k : Nat, f' s = i32 k ∧ bsU (alM N pts) (hgt N w s) pts pts.length k) := by
    intro a' y' hst'
    unfold C_X3_layCenter_99
    rw [g4]
    refine Rt.let (Rt.let ?_)
    rw [i_c1, i_add]
    refine Rt.bind (C_next (i := r' + 1) hb (by omega) hF) ?_
    rintro _ ⟨r, rfl, hr⟩
    refine Rt.let ?_
    dsimp only
    exact ih (r' + 1) _ _ _ _ ⟨rfl, by omega, ⟨r, rfl, hr⟩, hst'⟩ (by omega)
  rcases hst with ⟨rfl, hn0⟩ | ⟨k, rfl, rfl, hk⟩
  · refine Rt.ite (fun _ => ?_) (fun z => absurd rfl z)
    unfold C_X3_layCenter_93
    exact nxt _ _ (Or.inr ⟨r', rfl, rfl, bsU.first hn0 r2 r3⟩)
  · have hkl := hk.1.1
    obtain ⟨m1, m2, m3⟩ := h1.pt hN hkl
    obtain ⟨w1, w2, w3, w4⟩ := h1.px hkl
    obtain ⟨w5, w6, w7, w8⟩ := w2
    refine Rt.ite (fun z => ?_) (fun _ => ?_)
    · rw [show (-1 : Int32) = i32 (-1) from rfl, i_eq (by omega) (by omega) (by omega) (by omega)] at z; omega
    refine Rt.let (Rt.let ?_)
    rw [q3]
    refine Rt.let ?_
    rw [l3]
    refine Rt.let (Rt.let (Rt.let ?_))
    rw [q3]
    refine Rt.let ?_
    rw [m3]
    refine Rt.let ?_
    unfold ptX at w5 w6
    rw [i_long (by omega) (by omega), i_long (by omega) (by omega)]
    refine Rt.tst (C_isLess (a := ptH (hgt N w s) pts r') (c := ptH (hgt N w s) pts k) (rg r' hr').1 (rg r' hr').2 (rg k hkl).1 (rg k hkl).2) (fun hn => ?_) (fun hy => ?_)
    · exact nxt _ _ (Or.inr ⟨k, rfl, rfl, hk.keep r1 r3 (Int.not_lt.mp hn)⟩)
    · unfold C_X3_layCenter_93
      exact nxt _ _ (Or.inr ⟨r', rfl, rfl, hk.take pos r2 r1 r3 hy⟩)
--END LC
end CD
