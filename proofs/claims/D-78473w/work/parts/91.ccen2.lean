/-! THE CLASS's PLAN, at any stage; its centers -/
section CF
variable {S T : St} {b x p D P E A Q L B W M u C Hh : Nat} {pts : List (Nat × Fq)} {N : Net} {w : Nat → Int} {F : Nat} {v5 v6 : Option Nat} {mem : Nat → Prop}
theorem plP.ex {c d : Nat} (h : plP b S p x D P E A Q L pts B W M u N w v5 v6 mem) (hf : ex c d S T) : plP b T p x D P E A Q L pts B W M u N w v5 v6 mem :=
  ⟨hf.1, h.2.1.ex hf, h.2.2.1.ex hf, h.2.2.2.1.ex hf, h.2.2.2.2⟩
theorem plP.setv {u5 u6 : Option Nat} (h : plP b S p x D P E A Q L pts B W M u N w v5 v6 mem) : plP b (put S p (cO 3 [.ref x, .int (i32 (nN N)), .ref D, vOf (some P), vOf (some B), vOf u5, vOf u6])) p x D P E A Q L pts B W M u N w u5 u6 mem := by
  have k := keP.put (c := cO 3 [.ref x, .int (i32 (nN N)), .ref D, vOf (some P), vOf (some B), vOf u5, vOf u6]) h.2.1.2.1
  exact ⟨h.1.put h.2.1.2.1, h.2.1.putv, h.2.2.1.ke k, h.2.2.2.1.ke k, h.2.2.2.2⟩
/-- what a stage may still cost: cells and slots -/
def jcC (j : Nat) : Nat := if j = 0 then 3602 else if j = 1 then 2 else 0
def jcS (j : Nat) : Nat := if j = 0 then 21512 else if j = 1 then 512 else 0
theorem jc_le {j k : Nat} (h : j ≤ k) : jcC k ≤ jcC j ∧ jcS k ≤ jcS j := by
  unfold jcC jcS
  by_cases j0 : j = 0
  · rw [if_pos j0, if_pos j0]
    constructor
    · split
      · omega
      · split <;> omega
    · split
      · omega
      · split <;> omega
  · rw [if_neg j0, if_neg j0, if_neg (show ¬ k = 0 by omega), if_neg (show ¬ k = 0 by omega)]
    by_cases j1 : j = 1
    · rw [if_pos j1, if_pos j1]
      constructor <;> split <;> omega
    · rw [if_neg j1, if_neg j1, if_neg (show ¬ k = 1 by omega), if_neg (show ¬ k = 1 by omega)]; omega
/-- from stage j to stage k -/
def frJ (b p j k : Nat) (S T : St) : Prop := j ≤ k ∧ fr b p (jcC j - jcC k) (jcS j - jcS k) S T
theorem frJ.tr {b p i j k : Nat} {S T U : St} (h : frJ b p i j S T) (h2 : frJ b p j k T U) : frJ b p i k S U := by
  have c1 := jc_le h.1
  have c2 := jc_le h2.1
  exact ⟨Nat.le_trans h.1 h2.1, h.2.tr h2.2 (by omega) (by omega)⟩
theorem frJ.rf {b p j : Nat} {S : St} (h : wfS S) : frJ b p j j S S := ⟨Nat.le_refl _, fr.rf h⟩
/-- the plan at stage j -/
def plS (j b : Nat) (S : St) (p x : Nat) (N : Net) (w : Nat → Int) : Prop := wfS S ∧ b ≤ S.2.1 ∧ ((j = 0 ∧ ∃ D, planB b S p x D N w none none none none) ∨ (j = 1 ∧ ∃ D P E A Q L pts B W M u, plP b S p x D P E A Q L pts B W M u N w none none (alM N pts)) ∨ (j = 2 ∧ ∃ D P E A Q L pts B W M u C Hh f h, plC b S p x D P E A Q L pts B W M u C Hh N w f h))
/-- its points are laid -/
def plA (j b : Nat) (S : St) (p x P E A Q : Nat) (pts : List (Nat × Fq)) (N : Net) (w : Nat → Int) : Prop := plS j b S p x N w ∧ ∃ D L B W M u v5 v6, plP b S p x D P E A Q L pts B W M u N w v5 v6 (alM N pts)
variable {j : Nat}
theorem plS.wf (h : plS j b S p x N w) : wfS S := h.1
theorem plS.pl (h : plS j b S p x N w) : ∃ D v3 v4 v5 v6, planB b S p x D N w v3 v4 v5 v6 := by
  obtain ⟨-, -, ⟨-, D, h⟩ | ⟨-, D, P, E, A, Q, L, pts, B, W, M, u, h⟩ | ⟨-, D, P, E, A, Q, L, pts, B, W, M, u, C, Hh, f, h', h⟩⟩ := h
  · exact ⟨_, _, _, _, _, h⟩
  · exact ⟨_, _, _, _, _, h.2.1⟩
  · exact ⟨_, _, _, _, _, h.1.2.1⟩
theorem C_layPts (hN : okN N) (hw9 : okw9 (nN N) w) (h : plS j b S p x N w) (hF : 4294967296 < F) : Rt (C_X3_layPoints F S p) (fun T => (frJ b p j 1 S T ∧ ∃ D P E A Q L pts B W M u, plP b T p x D P E A Q L pts B W M u N w none none (alM N pts)) ∨ (j = 2 ∧ T = S ∧ ∃ D P E A Q L pts B W M u C Hh f h, plC b T p x D P E A Q L pts B W M u C Hh N w f h)) := by
  obtain ⟨hw, hb, ⟨rfl, D, h⟩ | ⟨rfl, D, P, E, A, Q, L, pts, B, W, M, u, h⟩ | ⟨rfl, D, P, E, A, Q, L, pts, B, W, M, u, C, Hh, f, h', h⟩⟩ := h
  · refine Rt.mono (C_layPoints hN hw9 hw h hb hF) ?_
    rintro T ⟨P, E, A, Q, L, pts, B, W, M, u, t1, t2⟩
    exact Or.inl ⟨⟨by omega, t2⟩, D, P, E, A, Q, L, pts, B, W, M, u, t1⟩
  · obtain ⟨⟨fs, g0⟩, -, -, -, g3, -⟩ := h.2.1.g
    unfold C_X3_layPoints
    rw [g0, g3]
    refine Rt.let (Rt.let (Rt.ite (fun z => by cases z) (fun _ => Rt.some (Or.inl ⟨frJ.rf hw, D, P, E, A, Q, L, pts, B, W, M, u, h⟩))))
  · obtain ⟨⟨fs, g0⟩, -, -, -, g3, -⟩ := h.1.2.1.g
    unfold C_X3_layPoints
    rw [g0, g3]
    refine Rt.let (Rt.let (Rt.ite (fun z => by cases z) (fun _ => Rt.some (Or.inr ⟨rfl, rfl, D, P, E, A, Q, L, pts, B, W, M, u, C, Hh, f, h', h⟩))))
theorem C_layA (hN : okN N) (hw9 : okw9 (nN N) w) (h : plS j b S p x N w) (hF : 4294967296 < F) : Rt (C_X3_layPoints F S p) (fun T => ∃ j', frJ b p j j' S T ∧ ∃ P E A Q pts, plA j' b T p x P E A Q pts N w) := by
  have hb := h.2.1
  have hw := h.1
  refine Rt.mono (C_layPts hN hw9 h hF) ?_
  rintro T (⟨t1, D, P, E, A, Q, L, pts, B, W, M, u, h⟩ | ⟨rfl, rfl, D, P, E, A, Q, L, pts, B, W, M, u, C, Hh, f, h', h⟩)
  · exact ⟨1, t1, P, E, A, Q, pts, ⟨h.1, by have := t1.2.2.1; omega, Or.inr (Or.inl ⟨rfl, D, P, E, A, Q, L, pts, B, W, M, u, h⟩)⟩, D, L, B, W, M, u, none, none, h⟩
  · exact ⟨2, frJ.rf hw, P, E, A, Q, pts, ⟨h.1.1, hb, Or.inr (Or.inr ⟨rfl, D, P, E, A, Q, L, pts, B, W, M, u, C, Hh, f, h', h⟩)⟩, D, L, B, W, M, u, _, _, h.1⟩
/-- the centers' arrays -/
theorem C_layCenters (hN : okN N) (hw9 : okw9 (nN N) w) (h : plS j b S p x N w) (hF : 4294967296 < F) : Rt (C_X3_layCenters F S p) (fun T => frJ b p j 2 S T ∧ ∃ D P E A Q L pts B W M u C Hh f h, plC b T p x D P E A Q L pts B W M u C Hh N w f h) := by
  have t2 := two_n hN
  have t3 : (0 : Int) ≤ ((2 ^ nN N : Nat) : Int) := Int.natCast_nonneg _
  have z1 := hN.sz.1
  have hb := h.2.1
  obtain ⟨D0, _, _, _, _, hpl⟩ := h.pl
  obtain ⟨⟨fs, g0⟩, -⟩ := hpl.g
  unfold C_X3_layCenters
  rw [g0]
  refine Rt.let (Rt.bind (C_layPts hN hw9 h hF) ?_)
  clear h hpl g0 fs
  rintro T (⟨t0, D, P, E, A, Q, L, pts, B, W, M, u, h⟩ | ⟨rfl, rfl, D, P, E, A, Q, L, pts, B, W, M, u, C, Hh, f, h', h⟩)
  rotate_left
  · obtain ⟨-, -, -, -, -, -, g5, -⟩ := h.1.2.1.g
    rw [g5]
    exact Rt.let (Rt.ite (fun z => by cases z) (fun _ => Rt.some ⟨frJ.rf h.1.1, D, P, E, A, Q, L, pts, B, W, M, u, C, Hh, f, h', h⟩))
  obtain ⟨tj, t1⟩ := t0
  have cj := jc_le tj
  have c1' : jcC 1 = 2 ∧ jcS 1 = 512 := ⟨rfl, rfl⟩
  have c2' : jcC 2 = 0 ∧ jcS 2 = 0 := ⟨rfl, rfl⟩
  obtain ⟨-, -, g2, -, -, -, g5, -⟩ := h.2.1.g
  have hbT : b ≤ T.2.1 := by have := t1.2.1; omega
  rw [g5]
  refine Rt.let (Rt.ite (fun _ => ?_) (fun z => absurd rfl z))
  rw [g2]
  refine Rt.let ?_
  have sh : (1 : Int32) <<< (i32 (nN N : Int) &&& 31) = i32 ((2 ^ nN N : Nat) : Int) := i_shl z1
  rw [sh, mkI (by omega) (by omega), Int.toNat_natCast]
  refine Rt.let ?_
  dsimp only
  -- the first array
  have xa : ex 1 (2 ^ nN N) T (al T (cI 0 (2 ^ nN N) (fun _ => 0)) (2 ^ nN N)) := ex.al h.1
  have ha := h.ex xa
  have ca := al_me T (2 ^ nN N) (cI 0 (2 ^ nN N) (fun _ => 0))
  have na : (al T (cI 0 (2 ^ nN N) (fun _ => 0)) (2 ^ nN N)).2.1 = T.2.1 + 1 := rfl
  generalize al T (cI 0 (2 ^ nN N) (fun _ => 0)) (2 ^ nN N) = T1 at *
  have e5 : gP T1 3 p 5 (.ref T.2.1) = some (put T1 p (cO 3 [.ref x, .int (i32 (nN N)), .ref D, vOf (some P), vOf (some B), vOf (some T.2.1), vOf none])) := gP_of ha.2.1.2.1 (by simp)
  rw [e5]
  refine Rt.let ?_
  have hs := ha.setv (u5 := some T.2.1) (u6 := none)
  have fs : fr b p 0 0 T1 (put T1 p (cO 3 [.ref x, .int (i32 (nN N)), .ref D, vOf (some P), vOf (some B), vOf (some T.2.1), vOf none])) := fr.put ha.1 ha.2.1.2.1 (Or.inl rfl)
  have cs : (put T1 p (cO 3 [.ref x, .int (i32 (nN N)), .ref D, vOf (some P), vOf (some B), vOf (some T.2.1), vOf none])).1 T.2.1 = some (cI 0 (2 ^ nN N) (fun _ => 0)) := keP.put ha.2.1.2.1 _ _ ca trivial
  have ns : (put T1 p (cO 3 [.ref x, .int (i32 (nN N)), .ref D, vOf (some P), vOf (some B), vOf (some T.2.1), vOf none])).2.1 = T.2.1 + 1 := na
  clear e5
  generalize put T1 p (cO 3 [.ref x, .int (i32 (nN N)), .ref D, vOf (some P), vOf (some B), vOf (some T.2.1), vOf none]) = T2 at *
  obtain ⟨-, -, g2', -⟩ := hs.2.1.g
  rw [g2']
  refine Rt.let ?_
  rw [sh, mkJ (by omega) (by omega), Int.toNat_natCast]
  refine Rt.let ?_
  dsimp only
  -- the second array
  have xb : ex 1 (2 ^ nN N) T2 (al T2 (cJ (2 ^ nN N) (fun _ => 0)) (2 ^ nN N)) := ex.al hs.1
  have hb' := hs.ex xb
  have cb := al_me T2 (2 ^ nN N) (cJ (2 ^ nN N) (fun _ => 0))
  have cs2 := xb.get cs
  generalize al T2 (cJ (2 ^ nN N) (fun _ => 0)) (2 ^ nN N) = T3 at *
  have e6 : gP T3 3 p 6 (.ref T2.2.1) = some (put T3 p (cO 3 [.ref x, .int (i32 (nN N)), .ref D, vOf (some P), vOf (some B), vOf (some T.2.1), vOf (some T2.2.1)])) := gP_of hb'.2.1.2.1 (by simp)
  rw [e6]
  refine Rt.let ?_
  clear e6
  have hr := hb'.setv (u5 := some T.2.1) (u6 := some T2.2.1)
  have fr3 : fr b p 0 0 T3 (put T3 p (cO 3 [.ref x, .int (i32 (nN N)), .ref D, vOf (some P), vOf (some B), vOf (some T.2.1), vOf (some T2.2.1)])) := fr.put hb'.1 hb'.2.1.2.1 (Or.inl rfl)
  have c1 : (put T3 p (cO 3 [.ref x, .int (i32 (nN N)), .ref D, vOf (some P), vOf (some B), vOf (some T.2.1), vOf (some T2.2.1)])).1 T.2.1 = some (cI 0 (2 ^ nN N) (fun _ => 0)) := keP.put hb'.2.1.2.1 _ _ cs2 trivial
  have c2 : (put T3 p (cO 3 [.ref x, .int (i32 (nN N)), .ref D, vOf (some P), vOf (some B), vOf (some T.2.1), vOf (some T2.2.1)])).1 T2.2.1 = some (cJ (2 ^ nN N) (fun _ => 0)) := keP.put hb'.2.1.2.1 _ _ cb trivial
  show Rt (C_X3_layCenters_37 F p F (i32 0) (put T3 p (cO 3 [.ref x, .int (i32 (nN N)), .ref D, vOf (some P), vOf (some B), vOf (some T.2.1), vOf (some T2.2.1)]))) _
  generalize put T3 p (cO 3 [.ref x, .int (i32 (nN N)), .ref D, vOf (some P), vOf (some B), vOf (some T.2.1), vOf (some T2.2.1)]) = T4 at *
  have fall : fr b p (jcC j - jcC 2) (jcS j - jcS 2) S T4 := (((t1.tr (xa.fr (b := b) (p := p)) (Nat.le_refl _) (Nat.le_refl _)).tr fs (Nat.le_refl _) (Nat.le_refl _)).tr (xb.fr (b := b) (p := p)) (Nat.le_refl _) (Nat.le_refl _)).tr fr3 (by omega) (by omega)
  have lt : ∀ {q : Nat} {e : Cel}, T.1 q = some e → T.2.1 ≠ q ∧ T2.2.1 ≠ q := fun hq => by have := h.1.lt hq; exact ⟨by omega, by omega⟩
  obtain ⟨-, -, -, ⟨fd, d1, -⟩, -⟩ := h.2.1
  obtain ⟨-, -, -, -, -, -, fe, fa, fq, a7, a8, a9, -⟩ := h.2.2.1
  obtain ⟨-, -, -, ⟨fb, gb, w1, -⟩, -⟩ := h.2.2.2.1
  refine Rt.loop (ι := Nat) (fun k v U => v = i32 k ∧ k ≤ 2 ^ nN N ∧ fr b p (jcC j - jcC 2) (jcS j - jcS 2) S U ∧ plP b U p x D P E A Q L pts B W M u N w (some T.2.1) (some T2.2.1) (alM N pts) ∧ U.1 T2.2.1 = some (cJ (2 ^ nN N) (fun _ => 0)) ∧ ∃ f, U.1 T.2.1 = some (cI 0 (2 ^ nN N) f) ∧ ∀ j, j < k → f j = i32 (-1)) (fun k => 2 ^ nN N - k) ?_ F 0 _ _ ⟨rfl, by omega, fall, hr, c2, _, c1, fun j hj => by omega⟩ (by omega)
  rintro n k _ U ⟨rfl, hk, fU, hU, u2, f, u1, uf⟩ ih
  obtain ⟨-, -, -, -, -, -, g5', -⟩ := hU.2.1.g
  unfold C_X3_layCenters_37
  rw [g5']
  refine Rt.let (Rt.let ?_)
  rw [aN_of u1]
  refine Rt.let (Rt.ite (fun hh => ?_) (fun hh => ?_))
  · rw [i_le (by show (-2147483648 : Int) ≤ ((2 ^ nN N : Nat) : Int); omega) (by show ((2 ^ nN N : Nat) : Int) < 2147483648; omega) (by omega) (by omega)] at hh
    have hh' : ((2 ^ nN N : Nat) : Int) ≤ k := hh
    exact Rt.some ⟨⟨by omega, fU⟩, D, P, E, A, Q, L, pts, B, W, M, u, T.2.1, T2.2.1, f, _, hU, ⟨hbT, by omega⟩, ⟨(lt d1).1, (lt a7).1, (lt a8).1, (lt a9).1, (lt w1).2⟩, u1, u2, fun s hs => Or.inl (uf s (by omega))⟩
  · rw [i_le (by show (-2147483648 : Int) ≤ ((2 ^ nN N : Nat) : Int); omega) (by show ((2 ^ nN N : Nat) : Int) < 2147483648; omega) (by omega) (by omega)] at hh
    have hh' : ¬ ((2 ^ nN N : Nat) : Int) ≤ k := hh
    refine Rt.let (Rt.let ?_)
    rw [tI_of u1 (by omega) (by omega) (by omega), Int.toNat_natCast]
    refine Rt.let ?_
    rw [i_c1, i_add]
    refine Rt.let (ih (k + 1) _ _ ⟨rfl, by omega, fU.tr (fr.put hU.1 u1 (Or.inr ⟨hbT, rfl⟩)) (Nat.le_refl _) (Nat.le_refl _), hU.putA u1 hbT (lt d1).1 (lt a7).1 (lt a8).1 (lt a9).1 ?_, ?_, _, put_me _ _ _, fun j hj => ?_⟩ (by omega))
    · rintro rfl
      obtain ⟨_, _, _, ⟨_, _, z, _⟩, _⟩ := hU.2.2.2.1
      rw [u1] at z; cases z
    · rw [put_ne (by omega)]; exact u2
    · rw [upd_at]
      by_cases c : j = k
      · rw [if_pos c]; rfl
      · rw [if_neg c]; exact uf j (by omega)
/-- a set's center -/
theorem C_center {s : Nat} (hN : okN N) (hw9 : okw9 (nN N) w) (hc : cnN N) (he : 0 < eN N) (hs : s < 2 ^ nN N) (h : plS j b S p x N w) (hF : 4294967296 < F) :
    Rt (C_X3_center F S p (i32 s)) (fun v => ∃ k : Nat, v.1 = i32 k ∧ frJ b p j 2 S v.2 ∧ ∃ D P E A Q L pts B W M u C Hh f h, plC b v.2 p x D P E A Q L pts B W M u C Hh N w f h ∧ f s = i32 k ∧ bsU (alM N pts) (hgt N w s) pts pts.length k) := by
  have t2 := two_n hN
  have t3 : (0 : Int) ≤ ((2 ^ nN N : Nat) : Int) := Int.natCast_nonneg _
  obtain ⟨D0, _, _, _, _, hpl⟩ := h.pl
  obtain ⟨⟨fs, g0⟩, -⟩ := hpl.g
  have end_ : ∀ {U : St} {D P E A Q L : Nat} {pts : List (Nat × Fq)} {B W M u C Hh k : Nat} {f : Nat → Int32} {h : Nat → Int64}, frJ b p j 2 S U → plC b U p x D P E A Q L pts B W M u C Hh N w f h → f s = i32 k → bsU (alM N pts) (hgt N w s) pts pts.length k → Rt (C_X3_center_19 F p (i32 s) U) (fun v => ∃ k : Nat, v.1 = i32 k ∧ frJ b p j 2 S v.2 ∧ ∃ D P E A Q L pts B W M u C Hh f h, plC b v.2 p x D P E A Q L pts B W M u C Hh N w f h ∧ f s = i32 k ∧ bsU (alM N pts) (hgt N w s) pts pts.length k) := by
    intro U D P E A Q L pts B W M u C Hh k f h fU hU hk hb
    obtain ⟨-, -, -, -, -, -, g5, -⟩ := hU.1.2.1.g
    unfold C_X3_center_19
    rw [g5]
    refine Rt.let (Rt.let ?_)
    rw [lI_of hU.2.2.2.1 (by omega) (by omega) (by omega), Int.toNat_natCast, hk]
    exact Rt.let (Rt.some ⟨k, rfl, fU, D, P, E, A, Q, L, pts, B, W, M, u, C, Hh, f, h, hU, hk, hb⟩)
  unfold C_X3_center
  rw [g0]
  refine Rt.let (Rt.bind (C_layCenters hN hw9 h hF) ?_)
  rintro T ⟨t1, D, P, E, A, Q, L, pts, B, W, M, u, C, Hh, f, h', hT⟩
  obtain ⟨-, -, -, -, -, -, g5, -⟩ := hT.1.2.1.g
  rw [g5]
  refine Rt.let (Rt.let ?_)
  rw [lI_of hT.2.2.2.1 (by omega) (by omega) (by omega), Int.toNat_natCast]
  refine Rt.let (Rt.ite (fun _ => ?_) (fun hh => ?_))
  · refine Rt.bind (C_layCenter hN hw9 hc he hs hT hF) ?_
    rintro V ⟨v1, f', h'', v2, k, v3, v4⟩
    exact end_ ⟨t1.1, t1.2.tr v1 (Nat.le_refl _) (Nat.le_refl _)⟩ v2 v3 v4
  · rcases hT.2.2.2.2.2 s hs with z | ⟨k, z1, z2, z3⟩
    · exact absurd z hh
    · exact end_ t1 hT z1 z2
end CF
