/-! THE CLASS's MEDIAN -/
section CG
variable {S0 S T : St} {b x p D P E A Q L B W M u : Nat} {pts : List (Nat × Fq)} {N : Net} {w : Nat → Int} {F : Nat} {v5 v6 : Option Nat} {j : Nat}
theorem C_median (hN : okN N) (hw9 : okw9 (nN N) w) (hc : cnN N) (he : 0 < eN N) (h : plS j b S0 p x N w) (hF : 4294967296 < F) :
    Rt (C_X3_median F S0 p) (fun v => ∃ (k : Nat) (j' P E A Q : Nat) (pts : List (Nat × Fq)), v.1 = i32 k ∧ frJ b p j j' S0 v.2 ∧ plA j' b v.2 p x P E A Q pts N w ∧ bsU (alM N pts) (cos_ N w) pts pts.length k) := by
  have z2 := hN.sz.2.1
  obtain ⟨D0, _, _, _, _, hpl⟩ := h.pl
  obtain ⟨⟨fs, g0⟩, -⟩ := hpl.g
  unfold C_X3_median
  rw [g0]
  refine Rt.let (Rt.bind (C_layA hN hw9 h hF) ?_)
  rintro S ⟨j', t1, P, E, A, Q, pts, hA⟩
  obtain ⟨-, D, L, B, W, M, u, v5, v6, h1⟩ := id hA
  have hl := h1.2.2.2.2.1.2.2.2
  obtain ⟨-, g1, g2, -, g3, g4, -⟩ := h1.2.1.g
  obtain ⟨q1, q2, q3, q4⟩ := h1.gP
  have hb := h1.2.2.2.1
  have rg : ∀ k, k < pts.length → (0 ≤ (ptH (cos_ N w) pts k).1 ∧ (ptH (cos_ N w) pts k).1 ≤ 10177200000) ∧ 0 < (ptH (cos_ N w) pts k).2 ∧ (ptH (cos_ N w) pts k).2 ≤ 1000 := by
    intro k hk
    obtain ⟨y1, y2, y3, y4⟩ := h1.px hk
    exact ⟨cos_rng hN hc hw9 y1 y2 y3, y2.1, y2.2.1⟩
  have pos : ∀ j, alM N pts j → 0 < (ptX pts j).2 := fun j hj => (rg j hj.1).2.1
  rw [g4]
  refine Rt.let (Rt.let ?_)
  refine Rt.bind (C_next (i := 0) hb (by omega) hF) ?_
  rintro _ ⟨r, rfl, hr⟩
  refine Rt.let ?_
  dsimp only
  refine Rt.loop4 (ι := Nat) (fun i a y v U => U = S ∧ i ≤ pts.length ∧ (∃ r : Int, v = i32 r ∧ nxB (alM N pts) i r) ∧ ((a = i32 (-1) ∧ ∀ j, j < i → ¬ alM N pts j) ∨ ∃ k : Nat, a = i32 k ∧ y = j64 (ptH (cos_ N w) pts k).1 ∧ bsU (alM N pts) (cos_ N w) pts i k)) (fun i => pts.length - i) ?_ F 0 _ _ _ _ ⟨rfl, by omega, ⟨r, rfl, hr⟩, Or.inl ⟨rfl, fun j hj => by omega⟩⟩ (by omega)
  clear hr r
  rintro n i a y _ V ⟨hV, hi, ⟨r, rfl, hr⟩, hst⟩ ih
  rw [hV]
  unfold C_X3_median_18
  rcases hr with ⟨rfl, hno⟩ | ⟨r', rfl, r1, r2, r3⟩
  · refine Rt.ite (fun _ => ?_) (fun z => absurd (show i32 (-1) < 0 by decide) z)
    rcases hst with ⟨-, hn0⟩ | ⟨k, rfl, rfl, hk⟩
    · obtain ⟨k, hk⟩ := alM_some hN he h1.2.2.2.2.1
      by_cases c : k < i
      · exact absurd hk (hn0 k c)
      · exact absurd hk (hno k (by omega))
    · have hk' := hk.all hno (Or.inl hi)
      exact Rt.some ⟨k, j', P, E, A, Q, pts, rfl, t1, hA, hk'⟩
  have hr' := r2.1
  obtain ⟨l1, l2, l3⟩ := h1.pt hN hr'
  obtain ⟨y1, y2, y3, y4⟩ := h1.px hr'
  refine Rt.ite (fun z => ?_) (fun _ => ?_)
  · rw [i_c0, i_lt (by omega) (by omega) (by omega) (by omega)] at z; omega
  rw [g3]
  refine Rt.let (Rt.let ?_)
  rw [q1]
  refine Rt.let ?_
  rw [l1]
  refine Rt.let (Rt.let (Rt.let ?_))
  rw [q2]
  refine Rt.let ?_
  rw [l2]
  refine Rt.let (Rt.let (Rt.let ?_))
  rw [q3]
  refine Rt.let ?_
  rw [l3]
  refine Rt.let ?_
  have o := y2
  obtain ⟨o1, o2, o3, o4⟩ := o
  unfold ptX at o1 o2 o3 o4
  rw [i_long (by omega) (by omega), i_long (by omega) (by omega)]
  refine Rt.bindE (C_cost hN h1.2.1 hw9 y1 y2 hF) ?_
  have nxt : ∀ (a' : Int32) (y' : Int64), ((a' = i32 (-1) ∧ ∀ j, j < r' + 1 → ¬ alM N pts j) ∨ ∃ k : Nat, a' = i32 k ∧ y' = j64 (ptH (cos_ N w) pts k).1 ∧ bsU (alM N pts) (cos_ N w) pts (r' + 1) k) → Rt (C_X3_median_102 F (C_X3_median_18 F p n) p a' y' (i32 r') S) (fun v => ∃ (k : Nat) (j' P E A Q : Nat) (pts : List (Nat × Fq)), v.1 = i32 k ∧ frJ b p j j' S0 v.2 ∧ plA j' b v.2 p x P E A Q pts N w ∧ bsU (alM N pts) (cos_ N w) pts pts.length k) := by
    intro a' y' hst'
    unfold C_X3_median_102
    rw [g4]
    refine Rt.let (Rt.let ?_)
    rw [i_c1, i_add]
    refine Rt.bind (C_next (i := r' + 1) hb (by omega) hF) ?_
    rintro _ ⟨r, rfl, hr⟩
    refine Rt.let ?_
    dsimp only
    exact ih (r' + 1) _ _ _ _ ⟨rfl, by omega, ⟨r, rfl, hr⟩, hst'⟩ (by omega)
  rcases hst with ⟨rfl, hn0⟩ | ⟨k, rfl, rfl, hk⟩
  · refine Rt.ite (fun _ => ?_) (fun z => absurd rfl z)
    unfold C_X3_median_96
    exact nxt _ _ (Or.inr ⟨r', rfl, rfl, bsU.first hn0 r2 r3⟩)
  · have hkl := hk.1.1
    obtain ⟨m1, m2, m3⟩ := h1.pt hN hkl
    obtain ⟨w1, w2, w3, w4⟩ := h1.px hkl
    obtain ⟨w5, w6, w7, w8⟩ := w2
    refine Rt.ite (fun z => ?_) (fun _ => ?_)
    · rw [show (-1 : Int32) = i32 (-1) from rfl, i_eq (by omega) (by omega) (by omega) (by omega)] at z; omega
    refine Rt.let (Rt.let ?_)
    rw [q3]
    refine Rt.let ?_
    rw [l3]
    refine Rt.let (Rt.let (Rt.let ?_))
    rw [q3]
    refine Rt.let ?_
    rw [m3]
    refine Rt.let ?_
    unfold ptX at w5 w6
    rw [i_long (by omega) (by omega), i_long (by omega) (by omega)]
    refine Rt.tst (C_isLess (a := ptH (cos_ N w) pts r') (c := ptH (cos_ N w) pts k) (rg r' hr').1 (rg r' hr').2 (rg k hkl).1 (rg k hkl).2) (fun hn => ?_) (fun hy => ?_)
    · exact nxt _ _ (Or.inr ⟨k, rfl, rfl, hk.keep r1 r3 (Int.not_lt.mp hn)⟩)
    · unfold C_X3_median_96
      exact nxt _ _ (Or.inr ⟨r', rfl, rfl, hk.take pos r2 r1 r3 hy⟩)
end CG
