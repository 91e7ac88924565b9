/-! THE CLASS's CENTERS, when they are laid: above, below, isAtMost -/
section CH
variable {S T : St} {b x p D P E A Q L B W M u C Hh : Nat} {pts : List (Nat × Fq)} {N : Net} {w : Nat → Int} {F : Nat} {v5 v6 : Option Nat} {mem : Nat → Prop} {j : Nat} {f : Nat → Int32} {h : Nat → Int64}
theorem C_layPoints_id (hp : plP b S p x D P E A Q L pts B W M u N w v5 v6 mem) : C_X3_layPoints F S p = some S := by
  obtain ⟨⟨fs, g0⟩, -, -, -, g3, -⟩ := hp.2.1.g
  unfold C_X3_layPoints
  rw [g0, g3]
  rfl
theorem C_layCenters_id (hp : plC b S p x D P E A Q L pts B W M u C Hh N w f h) : C_X3_layCenters F S p = some S := by
  obtain ⟨⟨fs, g0⟩, -, -, -, -, -, g5, -⟩ := hp.1.2.1.g
  unfold C_X3_layCenters
  rw [g0, C_layPoints_id hp.1]
  simp only [Option.bind_eq_bind, Option.bind_some]
  rw [g5]
  rfl
theorem plC.S2 (hp : plC b S p x D P E A Q L pts B W M u C Hh N w f h) (hb : b ≤ S.2.1) : plS 2 b S p x N w := ⟨hp.1.1, hb, Or.inr (Or.inr ⟨rfl, D, P, E, A, Q, L, pts, B, W, M, u, C, Hh, f, h, hp⟩)⟩
/-- the first best is one -/
theorem bsU_uniq {H : Nat → Fq → Int} {i k k' : Nat} (h1 : bsU mem H pts i k) (h2 : bsU mem H pts i k') : k = k' := by
  obtain ⟨a1, a2, a3⟩ := h1
  obtain ⟨b1, b2, b3⟩ := h2
  obtain ⟨c1, c2⟩ := a3 k' b2 b1
  obtain ⟨d1, d2⟩ := b3 k a2 a1
  by_cases l : k < k'
  · have := d1 l
    exact absurd c2 (Int.not_le.mpr this)
  · by_cases l2 : k' < k
    · have := c1 l2
      exact absurd d2 (Int.not_le.mpr this)
    · omega
/-- a center, when the arrays are there -/
theorem C_center2 {s : Nat} (hN : okN N) (hw9 : okw9 (nN N) w) (hc : cnN N) (he : 0 < eN N) (hs : s < 2 ^ nN N) (hp : plC b S p x D P E A Q L pts B W M u C Hh N w f h) (hF : 4294967296 < F) :
    Rt (C_X3_center F S p (i32 s)) (fun v => fr b p 0 0 S v.2 ∧ ∃ f' h', plC b v.2 p x D P E A Q L pts B W M u C Hh N w f' h' ∧ ∃ k : Nat, v.1 = i32 k ∧ f' s = i32 k ∧ bsU (alM N pts) (hgt N w s) pts pts.length k) := by
  have t2 := two_n hN
  have t3 : (0 : Int) ≤ ((2 ^ nN N : Nat) : Int) := Int.natCast_nonneg _
  obtain ⟨⟨fs, g0⟩, -, -, -, -, -, g5, -⟩ := hp.1.2.1.g
  have end_ : ∀ {U : St} {f : Nat → Int32} {h : Nat → Int64} {k : Nat}, fr b p 0 0 S U → plC b U p x D P E A Q L pts B W M u C Hh N w f h → f s = i32 k → bsU (alM N pts) (hgt N w s) pts pts.length k → Rt (C_X3_center_19 F p (i32 s) U) (fun v => fr b p 0 0 S v.2 ∧ ∃ f' h', plC b v.2 p x D P E A Q L pts B W M u C Hh N w f' h' ∧ ∃ k : Nat, v.1 = i32 k ∧ f' s = i32 k ∧ bsU (alM N pts) (hgt N w s) pts pts.length k) := by
    intro U f h k fU hU hk hb
    obtain ⟨-, -, -, -, -, -, g5, -⟩ := hU.1.2.1.g
    unfold C_X3_center_19
    rw [g5]
    refine Rt.let (Rt.let ?_)
    rw [lI_of hU.2.2.2.1 (by omega) (by omega) (by omega), Int.toNat_natCast, hk]
    exact Rt.let (Rt.some ⟨fU, f, h, hU, k, rfl, hk, hb⟩)
  unfold C_X3_center
  rw [g0, C_layCenters_id hp]
  refine Rt.let (Rt.let ?_)
  rw [g5]
  refine Rt.let (Rt.let ?_)
  rw [lI_of hp.2.2.2.1 (by omega) (by omega) (by omega), Int.toNat_natCast]
  refine Rt.let (Rt.ite (fun _ => ?_) (fun hh => ?_))
  · refine Rt.bind (C_layCenter hN hw9 hc he hs hp hF) ?_
    rintro V ⟨v1, f', h'', v2, k, v3, v4⟩
    exact end_ v1 v2 v3 v4
  · rcases hp.2.2.2.2.2 s hs with z | ⟨k, z1, z2, z3⟩
    · exact absurd z hh
    · exact end_ (fr.rf hp.1.1) hp z1 z2
/-- the height's upper part; the lower part -/
theorem C_above {s : Nat} (hN : okN N) (hw9 : okw9 (nN N) w) (hc : cnN N) (he : 0 < eN N) (hs : s < 2 ^ nN N) (hS : plS j b S p x N w) (hF : 4294967296 < F) :
    Rt (C_X3_above F S p (i32 s)) (fun v => frJ b p j 2 S v.2 ∧ ∃ D P E A Q L pts B W M u C Hh f h, plC b v.2 p x D P E A Q L pts B W M u C Hh N w f h ∧ ∃ k, v.1 = j64 (hgt N w s (ptE pts k) (ptX pts k)) ∧ bsU (alM N pts) (hgt N w s) pts pts.length k) := by
  have t2 := two_n hN
  have t3 : (0 : Int) ≤ ((2 ^ nN N : Nat) : Int) := Int.natCast_nonneg _
  obtain ⟨D0, _, _, _, _, hpl⟩ := hS.pl
  obtain ⟨⟨fs, g0⟩, -⟩ := hpl.g
  unfold C_X3_above
  rw [g0]
  refine Rt.let (Rt.bind (C_center hN hw9 hc he hs hS hF) ?_)
  rintro ⟨v, T⟩ ⟨k, -, t1, D, P, E, A, Q, L, pts, B, W, M, u, C, Hh, f, h, hT, fk, hk⟩
  dsimp only at t1 hT ⊢
  obtain ⟨-, -, -, -, -, -, -, g6⟩ := hT.1.2.1.g
  rw [g6]
  refine Rt.let (Rt.let ?_)
  rw [lJ_of hT.2.2.2.2.1 (by omega) (by omega) (by omega), Int.toNat_natCast]
  refine Rt.let (Rt.some ⟨t1, D, P, E, A, Q, L, pts, B, W, M, u, C, Hh, f, h, hT, k, ?_, hk⟩)
  rcases hT.2.2.2.2.2 s hs with z | ⟨k', z1, z2, z3⟩
  · rw [fk] at z
    have hl := hT.1.2.2.2.2.1.2.2.2
    have := hk.2.1
    have z2 := hN.sz.2.1
    rw [i_eq (by omega) (by omega) (by omega) (by omega)] at z; omega
  · rw [bsU_uniq hk z2]; exact z3
theorem C_below {s : Nat} (hN : okN N) (hw9 : okw9 (nN N) w) (hc : cnN N) (he : 0 < eN N) (hs : s < 2 ^ nN N) (hp : plC b S p x D P E A Q L pts B W M u C Hh N w f h) (hF : 4294967296 < F) :
    Rt (C_X3_below F S p (i32 s)) (fun v => fr b p 0 0 S v.2 ∧ ∃ f' h', plC b v.2 p x D P E A Q L pts B W M u C Hh N w f' h' ∧ ∃ k, v.1 = j64 (ptX pts k).2 ∧ bsU (alM N pts) (hgt N w s) pts pts.length k) := by
  obtain ⟨⟨fs, g0⟩, -, -, -, g3, -⟩ := hp.1.2.1.g
  obtain ⟨q1, q2, q3, q4⟩ := hp.1.gP
  unfold C_X3_below
  rw [g0, g3]
  refine Rt.let (Rt.let (Rt.let ?_))
  rw [q3]
  refine Rt.let (Rt.bind (C_center2 hN hw9 hc he hs hp hF) ?_)
  rintro ⟨v, T⟩ ⟨t1, f', h', hT, k, hv, fk, hk⟩
  dsimp only at t1 hT hv ⊢
  obtain ⟨l1, l2, l3⟩ := hT.1.pt hN hk.2.1
  obtain ⟨y1, y2, y3, y4⟩ := hT.1.px hk.2.1
  have y5 := y2.1
  unfold ptX at y4 y5
  rw [hv, l3]
  refine Rt.let (Rt.some ⟨t1, f', h', hT, k, ?_, hk⟩)
  exact i_long (by omega) (by omega)
/-- isAtMost: the set's radius against a bound -/
theorem C_isAtMost {s : Nat} {a : Fq} (hN : okN N) (hw9 : okw9 (nN N) w) (hc : cnN N) (he : 0 < eN N) (hs : s < 2 ^ nN N) (hS : plS j b S p x N w) (ha : 0 ≤ a.1 ∧ a.1 ≤ 10177200000) (ha2 : 0 < a.2 ∧ a.2 ≤ 1000) (hF : 4294967296 < F) :
    Rt (C_X3_isAtMost F S p (i32 s) (j64 a.1) (j64 a.2)) (fun v => frJ b p j 2 S v.2 ∧ plS 2 b v.2 p x N w ∧ ∃ e y, ctrP N (hgt N w s) e y ∧ v.1 = i32 (tr01 (fle (hgt N w s e y, y.2) a))) := by
  obtain ⟨D0, _, _, _, _, hpl⟩ := hS.pl
  obtain ⟨⟨fs, g0⟩, -⟩ := hpl.g
  have hb := hS.2.1
  unfold C_X3_isAtMost
  rw [g0]
  refine Rt.let (Rt.bind (C_above hN hw9 hc he hs hS hF) ?_)
  rintro ⟨v, T⟩ ⟨t1, D, P, E, A, Q, L, pts, B, W, M, u, C, Hh, f, h, hT, k, hv, hk⟩
  dsimp only at t1 hT hv ⊢
  refine Rt.bind (C_below hN hw9 hc he hs hT hF) ?_
  rintro ⟨v2, U⟩ ⟨u1, f', h', hU, k', hv2, hk'⟩
  dsimp only at u1 hU hv2 ⊢
  obtain rfl := bsU_uniq hk hk'
  obtain ⟨y1, y2, y3, y4⟩ := hU.1.px hk.2.1
  have hr := hgt_rng (s := s) hN hc hw9 y1 y2 y3
  have hbU : b ≤ U.2.1 := by have := t1.2.2.1; have := u1.2.1; omega
  have res : frJ b p j 2 S U ∧ plS 2 b U p x N w := ⟨⟨t1.1, t1.2.tr u1 (Nat.le_refl _) (Nat.le_refl _)⟩, hU.S2 hbU⟩
  rw [hv, hv2]
  refine Rt.tst (C_isLess (a := a) (c := (hgt N w s (ptE pts k) (ptX pts k), (ptX pts k).2)) ha ha2 ⟨hr.1, by show hgt N w s (ptE pts k) (ptX pts k) ≤ _; omega⟩ ⟨y2.1, y2.2.1⟩) (fun hn => ?_) (fun hy => ?_)
  · exact Rt.some ⟨res.1, res.2, _, _, bsU_hgt hN hw9 hU.1.2.2.2.2.1 hk, tr_1 (Int.not_lt.mp hn)⟩
  · exact Rt.some ⟨res.1, res.2, _, _, bsU_hgt hN hw9 hU.1.2.2.2.2.1 hk, tr_0 (Int.not_le.mpr hy)⟩
end CH
