/-! THE CLASS's CALLS THAT ASK THE PLAN -/
section TP
variable {S T : St} {x n p dq tx j b : Nat} {h : Int64} {A : Ab} {F : Nat} {N : Net}
theorem rd1 {y : Fq} (hr : rdd y) : rdc y.1 y.2 0 = y.1 ∧ rdc y.1 y.2 1 = y.2 := by
  unfold rdc
  rw [hr.2, if_pos rfl, if_neg (by decide)]
  constructor <;> simp
theorem cos_nn {e : Nat} {y : Fq} {w : Nat → Int} {H : Nat → Fq → Int} (hN : okN N) (hw : okw9 (nN N) w) (hcn : cnN N) (h : ctrP N H e y) : 0 ≤ cos_ N w e y := by
  unfold cos_
  have go : ∀ m, m ≤ nN N → 0 ≤ csF (fun i => w i * awy N i e y) m := by
    intro m
    induction m with
    | zero => intro _; exact Int.le_refl _
    | succ m ih =>
      intro hm
      have := ih (by omega)
      have := Int.mul_nonneg (hw m (by omega)).1 (awy_nn (i := m) hN h.1 h.2.1)
      simp only [csF]
      omega
  exact go _ (Nat.le_refl _)
/-- the place of a point -/
theorem C_placeOf {P E Ar Q' k : Nat} {pts : List (Nat × Fq)} {w : Int} {H : Nat → Fq → Int} (hc : cRo S x A n p dq tx j b h) (hA : plA j b S p n P E Ar Q' pts A.1 (wN A.1)) (hk : k < pts.length) (hct : ctrP A.1 H (ptE pts k) (ptX pts k)) (h0 : 0 ≤ w) (h2 : w ≤ 2) : C_X1_placeOf S x (i32 k) (i32 w) = some (i32 (cenT A.1 H w)) := by
  obtain ⟨⟨fs, g0⟩, g1, g2, -⟩ := hc.g
  have hN := hc.1.1
  obtain ⟨-, D, L, B, W, M, u, v5, v6, h1⟩ := hA
  obtain ⟨-, -, -, -, p3, -⟩ := h1.2.1.g
  obtain ⟨q1, q2, q3, q4⟩ := h1.gP
  obtain ⟨l1, l2, l3⟩ := h1.pt hN hk
  have hr : rdd (ptX pts k) := (h1.2.2.2.2.1.1 k hk).2
  have r1 := rd1 hr
  have hw : w = 0 ∨ w = 1 ∨ w = 2 := by omega
  rw [← cenT_of hct]
  apply Rt.eq
  unfold C_X1_placeOf
  rw [g0, g2]
  refine Rt.let ?_
  rcases hw with e | e | e
  · subst e
    refine Rt.ite (fun _ => ?_) (fun z => absurd rfl z)
    refine Rt.let ?_
    rw [p3]
    refine Rt.let (Rt.let ?_)
    rw [q1]
    refine Rt.let ?_
    rw [l1]
    exact Rt.let (Rt.some rfl)
  · subst e
    refine Rt.ite (fun z => absurd z (by decide)) (fun _ => Rt.ite (fun _ => ?_) (fun z => absurd rfl z))
    refine Rt.let ?_
    rw [p3]
    refine Rt.let (Rt.let ?_)
    rw [q2]
    refine Rt.let ?_
    rw [l2, if_neg (by decide), show (1 : Int) - 1 = 0 from rfl, r1.1]
    exact Rt.let (Rt.some rfl)
  · subst e
    refine Rt.ite (fun z => absurd z (by decide)) (fun _ => Rt.ite (fun z => absurd z (by decide)) (fun _ => ?_))
    refine Rt.let ?_
    rw [p3]
    refine Rt.let (Rt.let ?_)
    rw [q3]
    refine Rt.let ?_
    rw [l3, if_neg (by decide), show (2 : Int) - 1 = 1 from rfl, r1.2]
    exact Rt.let (Rt.some rfl)
theorem plC.pA {D P E Ar Q' L B W M u C Hh : Nat} {pts : List (Nat × Fq)} {w : Nat → Int} {f : Nat → Int32} {hh : Nat → Int64} (hp : plC b S p x D P E Ar Q' L pts B W M u C Hh N w f hh) (hb : b ≤ S.2.1) : plA 2 b S p x P E Ar Q' pts N w := ⟨hp.S2 hb, D, L, B, W, M, u, some C, some Hh, hp.1⟩
/-- the place of a set's center -/
theorem C_centerOf {s : Nat} {w : Int} (hc : cRo S x A n p dq tx j b h) (hcan : canN A.1) (hs : s < 2 ^ nN A.1) (h0 : 0 ≤ w) (h2 : w ≤ 2) (hF : 4294967296 < F) : Rt ((C_X3_center F S p (i32 s)) >>= fun r8 => (C_X1_placeOf r8.2 x (r8.1) (i32 w)) >>= fun r9 => some (r9, r8.2)) (fun v => v.1 = i32 (cenT A.1 (hgt A.1 (wN A.1) s) w) ∧ frJ b p j 2 S v.2 ∧ cRo v.2 x A n p dq tx 2 b h) := by
  have hN := hc.1.1
  refine Rt.bind (C_center hN (wN_9 hN) hcan.2 hcan.1 hs hc.2.2.1 hF) ?_
  rintro ⟨v, U⟩ ⟨k, rfl, u1, D, P, E, Ar, Q', L, pts, B, W, M, u, C, Hh, f, hh, u2, u3, u4⟩
  dsimp only at u1 u2 ⊢
  have hbU : b ≤ U.2.1 := by have := hc.2.2.1.2.1; have := u1.2.2.1; omega
  have hcU := hc.fr u1 (u2.S2 hbU)
  rw [C_placeOf hcU (u2.pA hbU) u4.2.1 (bsU_hgt hN (wN_9 hN) u2.1.2.2.2.2.1 u4) h0 h2]
  exact Rt.let (Rt.some ⟨rfl, u1, hcU⟩)
theorem C_medianOf {w : Int} (hc : cRo S x A n p dq tx j b h) (hcan : canN A.1) (h0 : 0 ≤ w) (h4 : w ≤ 4) (hF : 4294967296 < F) : Rt (C_X1_medianOf F S x (i32 w)) (fun v => ∃ j', v.1 = i32 (medA A.1 (wN A.1) w) ∧ frJ b p j j' S v.2 ∧ cRo v.2 x A n p dq tx j' b h) := by
  obtain ⟨⟨fs, g0⟩, g1, g2, -⟩ := hc.g
  have hN := hc.1.1
  unfold C_X1_medianOf
  rw [g0, g2]
  refine Rt.let (Rt.let (Rt.bind (C_median hN (wN_9 hN) hcan.2 hcan.1 hc.2.2.1 hF) ?_))
  rintro ⟨v, U⟩ ⟨k, j', P, E, Ar, Q', pts, rfl, u1, u2, u3⟩
  dsimp only at u1 u2 ⊢
  have hcU := hc.fr u1 u2.1
  obtain ⟨-, k1, k2, -⟩ := hcU.g
  obtain ⟨-, D, L, B, W, M, u, v5, v6, h1⟩ := id u2
  have hct := bsU_cos (wN_9 hN) h1.2.2.2.2.1 u3
  refine Rt.let (Rt.ite (fun z => ?_) (fun z => ?_))
  · rw [i_c3, i_le (by omega) (by omega) (by omega) (by omega)] at z
    obtain ⟨-, -, -, -, p3, -⟩ := h1.2.1.g
    obtain ⟨q1, q2, q3, q4⟩ := h1.gP
    obtain ⟨l1, l2, l3⟩ := h1.pt hN u3.2.1
    obtain ⟨y1, y2, y3, y4⟩ := h1.px u3.2.1
    have o := y2
    obtain ⟨o1, o2, o3, o4⟩ := o
    have hr := cos_rng hN hcan.2 (wN_9 hN) y1 y2 y3
    unfold ptX at o1 o2 o3 o4
    rw [k2]
    refine Rt.let ?_
    rw [p3]
    refine Rt.let (Rt.let (Rt.let ?_))
    rw [q1]
    refine Rt.let ?_
    rw [l1]
    refine Rt.let ?_
    rw [q2]
    refine Rt.let ?_
    rw [l2]
    refine Rt.let ?_
    rw [q3]
    refine Rt.let ?_
    rw [l3]
    refine Rt.let ?_
    rw [i_long (by omega) (by omega), i_long (by omega) (by omega)]
    refine Rt.bindE (C_cost (e := ptE pts k) (y := ptX pts k) hN h1.2.1 (wN_9 hN) y1 y2 hF) ?_
    refine Rt.let ?_
    rw [l3]
    refine Rt.let ?_
    rw [i_long (by omega) (by omega), i_c3, i_sub]
    have pp := C_partOf (p := cos_ A.1 (wN A.1) (ptE pts k) (ptX pts k)) (q := (ptX pts k).2) (part := w - 3) hr.1 (by omega) y2.1 y2.2.1 (by omega) (by omega)
    refine Rt.bindE pp (Rt.some ⟨j', ?_, u1, hcU⟩)
    show i32 (rdc (cos_ A.1 (wN A.1) (ptE pts k) (ptX pts k)) (ptX pts k).2 (w - 3)) = _
    unfold medA
    rw [if_neg (by omega), valT_of hct (fun e y _ hy => cos_nn hN (wN_9 hN) hcan.2 hy)]
  · rw [i_c3, i_le (by omega) (by omega) (by omega) (by omega)] at z
    rw [C_placeOf hcU u2 u3.2.1 hct h0 (by omega)]
    refine Rt.let (Rt.some ⟨j', ?_, u1, hcU⟩)
    unfold medA
    rw [if_pos (by omega)]
end TP
