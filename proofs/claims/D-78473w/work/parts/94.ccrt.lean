/-! THE CLASS's CRITICAL NODES and a set's radius -/
section CI
variable {S T : St} {b x p D P E A Q L B W M u C Hh : Nat} {pts : List (Nat × Fq)} {N : Net} {w : Nat → Int} {F : Nat} {j : Nat} {f : Nat → Int32} {h : Nat → Int64}
/-- the entry of a set that is laid -/
theorem plC.hh {s k : Nat} (hN : okN N) (hs : s < 2 ^ nN N) (hp : plC b S p x D P E A Q L pts B W M u C Hh N w f h) (fk : f s = i32 k) (hk : bsU (alM N pts) (hgt N w s) pts pts.length k) : lJ S 1 Hh (i32 s) = some (j64 (hgt N w s (ptE pts k) (ptX pts k))) := by
  have t2 := two_n hN
  have t3 : (0 : Int) ≤ ((2 ^ nN N : Nat) : Int) := Int.natCast_nonneg _
  rw [lJ_of hp.2.2.2.2.1 (by omega) (by omega) (by omega), Int.toNat_natCast]
  rcases hp.2.2.2.2.2 s hs with z | ⟨k', z1, z2, z3⟩
  · rw [fk] at z
    have hl := hp.1.2.2.2.2.1.2.2.2
    have := hk.2.1
    have z2 := hN.sz.2.1
    rw [i_eq (by omega) (by omega) (by omega) (by omega)] at z; omega
  · rw [z3, bsU_uniq hk z2]
theorem C_critical {s : Nat} (hN : okN N) (hw9 : okw9 (nN N) w) (hc : cnN N) (he : 0 < eN N) (hs : s < 2 ^ nN N) (hS : plS j b S p x N w) (hF : 4294967296 < F) :
    Rt (C_X3_critical F S p (i32 s)) (fun v => frJ b p j 2 S v.2 ∧ plS 2 b v.2 p x N w ∧ ∃ e y, ctrP N (hgt N w s) e y ∧ v.1 = i32 (crtN N w s e y)) := by
  have t2 := two_n hN
  have z1 := hN.sz.1
  obtain ⟨D0, _, _, _, _, hpl⟩ := hS.pl
  obtain ⟨⟨fs, g0⟩, -⟩ := hpl.g
  have hb := hS.2.1
  unfold C_X3_critical
  rw [g0]
  refine Rt.let (Rt.bind (C_center hN hw9 hc he hs hS hF) ?_)
  rintro ⟨v, T⟩ ⟨q, hv, t1, D, P, E, A, Q, L, pts, B, W, M, u, C, Hh, f, h, hT, fq, hq⟩
  dsimp only at t1 hT hv ⊢
  have hbT : b ≤ T.2.1 := by have := t1.2.2.1; omega
  obtain ⟨-, g1, g2, -, g3, -, -, g6⟩ := hT.1.2.1.g
  obtain ⟨q1, q2, q3, q4⟩ := hT.1.gP
  obtain ⟨l1, l2, l3⟩ := hT.1.pt hN hq.2.1
  obtain ⟨y1, y2, y3, y4⟩ := hT.1.px hq.2.1
  have hr := hgt_rng (s := s) hN hc hw9 y1 y2 y3
  have eh := hT.hh hN hs fq hq
  obtain ⟨wa, ta, ea, sa, eq, sq, -, n0, -, -, -, -, -, -, n1, -⟩ := hT.1.2.1.2.2.2.2.get hN.sz
  have ctr := bsU_hgt hN hw9 hT.1.2.2.2.2.1 hq
  rw [hv]
  refine Rt.let ?_
  show Rt (C_X3_critical_11 F p (i32 s) (i32 q) F (i32 0) (i32 0) T) _
  refine Rt.loop3 (ι := Nat) (fun k c a U => U = T ∧ a = i32 k ∧ k ≤ nN N ∧ c = i32 (crtF (fun i => w i * awy N i (ptE pts q) (ptX pts q)) s (hgt N w s (ptE pts q) (ptX pts q)) k)) (fun k => nN N - k) ?_ F 0 _ _ _ ⟨rfl, rfl, by omega, rfl⟩ (by omega)
  rintro n k _ _ U ⟨hU, rfl, hk, rfl⟩ ih
  rw [hU]
  unfold C_X3_critical_11
  rw [g2]
  refine Rt.let (Rt.ite (fun hh => ?_) (fun hh => ?_))
  · rw [i_le (by omega) (by omega) (by omega) (by omega)] at hh
    obtain rfl : k = nN N := by omega
    exact Rt.some ⟨t1, hT.S2 hbT, _, _, ctr, rfl⟩
  rw [i_le (by omega) (by omega) (by omega) (by omega)] at hh
  have hk' : k < nN N := by omega
  have w9 := hw9 k hk'
  have aw := wa_rng hN hc hk' y1 y2 y3
  have vr := mul_rng (A := 99) (B := 12850000) w9.1 w9.2 aw.1 aw.2
  have nxt : ∀ d : Nat, d = (if s.testBit k = true ∧ w k * awy N k (ptE pts q) (ptX pts q) = hgt N w s (ptE pts q) (ptX pts q) then 2 ^ k else 0) → Rt (C_X3_critical_107 F (C_X3_critical_11 F p (i32 s) (i32 q) n) p (i32 s) (i32 q) (i32 k) (i32 (crtF (fun i => w i * awy N i (ptE pts q) (ptX pts q)) s (hgt N w s (ptE pts q) (ptX pts q)) k)) (i32 d) T) (fun v => frJ b p j 2 S v.2 ∧ plS 2 b v.2 p x N w ∧ ∃ e y, ctrP N (hgt N w s) e y ∧ v.1 = i32 (crtN N w s e y)) := by
    intro d hd
    unfold C_X3_critical_107
    rw [i_or2, i_c1, i_add]
    refine Rt.let (Rt.let (ih (k + 1) _ _ _ ⟨rfl, rfl, by omega, ?_⟩ (by omega)))
    rw [hd]; rfl
  rw [C_has (show s < 256 by omega) (by omega)]
  refine Rt.let (Rt.ite (fun h2 => ?_) (fun h2 => ?_))
  · rw [i_c0, bt_zero] at h2
    unfold C_X3_critical_90 C_X3_critical_91
    refine Rt.ite (fun _ => ?_) (fun z => absurd rfl z)
    exact nxt 0 (by rw [if_neg (fun z => h2 z.1)])
  · rw [i_c0, bt_zero] at h2
    have h2' : s.testBit k = true := Classical.not_not.mp h2
    rw [g1]
    refine Rt.let ?_
    rw [n0]
    refine Rt.let ?_
    rw [(n1 k hk').1]
    refine Rt.let ?_
    rw [g3]
    refine Rt.let (Rt.let ?_)
    rw [q1]
    refine Rt.let ?_
    rw [l1]
    refine Rt.let (Rt.let (Rt.let ?_))
    rw [q2]
    refine Rt.let ?_
    rw [l2]
    refine Rt.let (Rt.let (Rt.let ?_))
    rw [q3]
    refine Rt.let ?_
    rw [l3]
    refine Rt.let ?_
    have o := y2
    obtain ⟨o1, o2, o3, o4⟩ := o
    unfold ptX at o1 o2 o3 o4
    rw [i_long (a := (pts.getD q (0, 0, 1)).2.1) (by omega) (by omega), i_long (a := (pts.getD q (0, 0, 1)).2.2) (by omega) (by omega)]
    refine Rt.bindE (a := j64 (awy N k (ptE pts q) (ptX pts q))) (C_distanceTo hN hT.1.2.1 hk' y1 y2) ?_
    rw [g6]
    refine Rt.let (Rt.let ?_)
    rw [eh]
    refine Rt.let ?_
    rw [i_long (by omega) (by omega), j_mul]
    refine Rt.ite (fun h3 => ?_) (fun h3 => ?_)
    · rw [j_eq (by omega) (by omega) (by omega) (by omega)] at h3
      unfold C_X3_critical_91
      refine Rt.ite (fun z => absurd z (by decide)) (fun _ => ?_)
      have sh : (1 : Int32) <<< (i32 (k : Int) &&& 31) = i32 ((2 ^ k : Nat) : Int) := i_shl (by omega)
      rw [sh]
      exact nxt _ (by rw [if_pos ⟨h2', h3⟩])
    · rw [j_eq (by omega) (by omega) (by omega) (by omega)] at h3
      unfold C_X3_critical_90 C_X3_critical_91
      refine Rt.ite (fun _ => ?_) (fun z => absurd rfl z)
      exact nxt 0 (by rw [if_neg (fun z => h3 z.2)])
/-- above and below at once -/
theorem C_ab {s : Nat} {ρ : Type} {G : Int64 → Int64 → St → Option ρ} {R : ρ → Prop} (hN : okN N) (hw9 : okw9 (nN N) w) (hc : cnN N) (he : 0 < eN N) (hs : s < 2 ^ nN N) (hS : plS j b S p x N w) (hF : 4294967296 < F)
    (k : ∀ (U : St) (r : Fq), frJ b p j 2 S U → plS 2 b U p x N w → isRad N w s r → (0 ≤ r.1 ∧ r.1 ≤ 1272150000) → (0 < r.2 ∧ r.2 ≤ 198) → Rt (G (j64 r.1) (j64 r.2) U) R) :
    Rt ((C_X3_above F S p (i32 s)) >>= fun r1 => (C_X3_below F r1.2 p (i32 s)) >>= fun r2 => G r1.1 r2.1 r2.2) R := by
  have hb := hS.2.1
  refine Rt.bind (C_above hN hw9 hc he hs hS hF) ?_
  rintro ⟨v, T⟩ ⟨t1, D, P, E, A, Q, L, pts, B, W, M, u, C, Hh, f, h, hT, q, hv, hk⟩
  dsimp only at t1 hT hv ⊢
  refine Rt.bind (C_below hN hw9 hc he hs hT hF) ?_
  rintro ⟨v2, U⟩ ⟨u1, f', h', hU, q', hv2, hk'⟩
  dsimp only at u1 hU hv2 ⊢
  obtain rfl := bsU_uniq hk hk'
  obtain ⟨y1, y2, y3, y4⟩ := hU.1.px hk.2.1
  have hr := hgt_rng (s := s) hN hc hw9 y1 y2 y3
  have hbU : b ≤ U.2.1 := by have := t1.2.2.1; have := u1.2.1; omega
  rw [hv, hv2]
  exact k U (hgt N w s (ptE pts q) (ptX pts q), (ptX pts q).2) ⟨t1.1, t1.2.tr u1 (Nat.le_refl _) (Nat.le_refl _)⟩ (hU.S2 hbU) ⟨_, _, bsU_hgt hN hw9 hU.1.2.2.2.2.1 hk, rfl⟩ hr ⟨y2.1, y4⟩
/-- a set's radius, its part -/
theorem C_radius {s : Nat} {t : Int} (hN : okN N) (hw9 : okw9 (nN N) w) (hc : cnN N) (he : 0 < eN N) (hs : s < 2 ^ nN N) (ht : 0 ≤ t) (ht1 : t ≤ 1) (hS : plS j b S p x N w) (hF : 4294967296 < F) :
    Rt (C_X3_radius F S p (i32 s) (i32 t)) (fun v => frJ b p j 2 S v.2 ∧ plS 2 b v.2 p x N w ∧ ∃ r, isRad N w s r ∧ v.1 = i32 (rdc r.1 r.2 t)) := by
  obtain ⟨D0, _, _, _, _, hpl⟩ := hS.pl
  obtain ⟨⟨fs, g0⟩, -⟩ := hpl.g
  unfold C_X3_radius
  rw [g0]
  refine Rt.let (C_ab (G := fun a c U => (C_X1_partOf a c (i32 t)) >>= fun r3 => some (r3, U)) hN hw9 hc he hs hS hF (fun U r h1 h2 h3 h4 h5 => ?_))
  rw [C_partOf h4.1 (by omega) h5.1 (by omega) ht ht1]
  exact Rt.let (Rt.some ⟨h1, h2, r, h3, rfl⟩)
end CI
