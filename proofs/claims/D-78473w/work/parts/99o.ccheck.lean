/-! THE CLASS's CHECKSUM -/
section CK2
variable {S S0 T U : St} {x n p dq tx j j' b j0 : Nat} {h : Int64} {A : Ab} {F : Nat} {L : List Int}
def csJ (j j' : Nat) (S T : St) : Prop := j ≤ j' ∧ cs_ (jcC j - jcC j') (jcS j - jcS j') S T
theorem csJ.tr {i j k : Nat} {S T U : St} (h : csJ i j S T) (h2 : csJ j k T U) : csJ i k S U := by
  have c1 := jc_le h.1
  have c2 := jc_le h2.1
  exact ⟨Nat.le_trans h.1 h2.1, h.2.tr h2.2 (by omega) (by omega)⟩
theorem frJ.csJ {b p j k : Nat} {S T : St} (h : frJ b p j k S T) : csJ j k S T := ⟨h.1, h.2.cs_⟩
/-- the sum so far -/
def ck (S0 : St) (x : Nat) (A : Ab) (n p dq tx b j0 : Nat) (U : St) (L : List Int) : Prop := ∃ j', csJ j0 j' S0 U ∧ cRo U x A n p dq tx j' b (hS 18473 L)
theorem cRo.hash {h' : Int64} (hc : cRo S x A n p dq tx j b h) : cRo (put S x (cO 1 [.ref n, .ref p, .ref dq, .ref tx, .long h'])) x A n p dq tx j b h' := by
  obtain ⟨a1, a2, a3, a4, a5⟩ := hc
  have nx : ∀ {q : Nat} {e : Cel}, S.1 q = some e → (∀ f, e ≠ cO 1 f) → (put S x (cO 1 [.ref n, .ref p, .ref dq, .ref tx, .long h'])).1 q = some e := by
    intro q e hq hn
    rw [put_ne]
    · exact hq
    · rintro rfl
      rw [a2] at hq; cases hq; exact hn _ rfl
  have k : kn S (put S x (cO 1 [.ref n, .ref p, .ref dq, .ref tx, .long h'])) := fun q e hq hn => nx hq (fun f hf => by rw [hf] at hn; cases hn)
  exact ⟨a1, put_me _ _ _, a3.kn k (a3.1.put a2) (Nat.le_refl _), a4.ke (fun q e hq hn => nx hq (fun f hf => by rw [hf] at hn; exact hn dk_1)) (fun a N hN => hN.kn k), a5.ke (fun q e hq hn => nx hq (fun f hf => by rw [hf] at hn; exact hn tk_1))⟩
theorem ck.mix {v : Int} (hk : ck S0 x A n p dq tx b j0 U L) : ∃ V, C_X1_mix U x (i32 v) = some V ∧ ck S0 x A n p dq tx b j0 V (L ++ [v]) := by
  obtain ⟨j', c1, hc⟩ := hk
  refine ⟨put U x (cO 1 [.ref n, .ref p, .ref dq, .ref tx, .long (mx1 (hS 18473 L) v)]), ?_, j', c1, ?_⟩
  rotate_left
  · rw [hS_snoc]; exact hc.hash (h' := mx1 (hS 18473 L) v)
  · apply Rt.eq
    unfold C_X1_mix
    rw [gO_of hc.2.1, gJ_of (k := 4) hc.2.1 rfl]
    refine Rt.let (Rt.let ?_)
    rw [gP_of hc.2.1 (by simp)]
    exact Rt.let (Rt.some rfl)
theorem ck.fr {V : St} {j'' : Nat} (c1 : csJ j0 j' S0 U) (hf : frJ b p j' j'' U V) (hV : cRo V x A n p dq tx j'' b (hS 18473 L)) : ck S0 x A n p dq tx b j0 V L := ⟨j'', c1.tr hf.csJ, hV⟩
def QC (S0 : St) (x : Nat) (A : Ab) (v : Int64 × St) : Prop := v.1 = sp_checksum A ∧ cR v.2 x A ∧ cs_ 9000 100000 S0 v.2
theorem C_chk185 {L : List Int} (hk : ck S0 x A n p dq tx b j0 U L) (hL : L ++ [(A.2.2.length : Int)] ++ [(A.2.1.length : Int)] = chkL A) : Rt (C_X1_checksum_185 F x U) (QC S0 x A) := by
  obtain ⟨V, v1, v2⟩ := hk.mix (v := (A.2.2.length : Int))
  obtain ⟨W, w1, w2⟩ := v2.mix (v := (A.2.1.length : Int))
  obtain ⟨j1, -, hc⟩ := hk
  obtain ⟨j2, -, hcV⟩ := v2
  obtain ⟨j3, c3, hcW⟩ := w2
  obtain ⟨-, -, -, -, g4⟩ := hc.g
  obtain ⟨-, -, -, g3, -⟩ := hcV.g
  unfold C_X1_checksum_185
  rw [g4]
  refine Rt.let ?_
  rw [C_length hc.2.2.2.2]
  refine Rt.let ?_
  rw [v1]
  refine Rt.let ?_
  rw [g3]
  refine Rt.let ?_
  rw [C_dsize hcV.2.2.2.1]
  refine Rt.let ?_
  rw [w1]
  refine Rt.let ?_
  rw [gJ_of (k := 4) hcW.2.1 rfl]
  refine Rt.let (Rt.some ⟨?_, hcW.cR, ?_⟩)
  · rw [hL]; rfl
  · refine c3.2.le ?_ ?_
    · unfold jcC; split
      · omega
      · split <;> omega
    · unfold jcS; split
      · omega
      · split <;> omega
theorem C_mixCenters {L : List Int} {S1 : St} (hk : ck S0 x A n p dq tx b j0 S1 L) (hcan : canN A.1) (hF : 4294967296 < F) : Rt (C_X1_mixCenters F S1 x) (fun V => ck S0 x A n p dq tx b j0 V (L ++ cenL A.1)) := by
  have hN : okN A.1 := by obtain ⟨j1, c1, hc⟩ := hk; exact hc.1.1
  have z2 := hN.sz.2.1
  have p1 : 1 ≤ 2 ^ nN A.1 := Nat.one_le_two_pow
  have ea : ((1 : Int32) <<< (i32 (nN A.1 : Int) &&& 31)) - 1 = i32 (allN A.1 : Int) := i_all hN
  have al : allN A.1 < 2 ^ nN A.1 := by unfold allN; omega
  -- a radius of all
  have rad : ∀ {V : St} {M : List Int} {t : Int}, ck S0 x A n p dq tx b j0 V M → 0 ≤ t → t ≤ 1 → ∃ W W', C_X3_radius F V p (i32 (allN A.1)) (i32 t) = some (i32 (valT A.1 (hgt A.1 (wN A.1) (allN A.1)) t), W) ∧ C_X1_mix W x (i32 (valT A.1 (hgt A.1 (wN A.1) (allN A.1)) t)) = some W' ∧ ck S0 x A n p dq tx b j0 W' (M ++ [valT A.1 (hgt A.1 (wN A.1) (allN A.1)) t]) := by
    intro V M t hV h0 h1
    obtain ⟨j1, c1, hc⟩ := hV
    obtain ⟨⟨v, W⟩, e1, u1, u2, r, hr, u3⟩ := C_radius (t := t) hN (wN_9 hN) hcan.2 hcan.1 al h0 h1 hc.2.2.1 hF
    dsimp only at u1 u2 u3
    have hv : v = i32 (valT A.1 (hgt A.1 (wN A.1) (allN A.1)) t) := by
      obtain ⟨e, y, hct, rfl⟩ := hr
      rw [u3]
      show i32 (rdc (hgt A.1 (wN A.1) (allN A.1) e y) y.2 t) = _
      rw [valT_of hct (fun _ _ _ _ => hgt_nn _ _ _ _ _)]
    obtain ⟨W', m1, m2⟩ := (ck.fr c1 u1 (hc.fr u1 u2)).mix (v := valT A.1 (hgt A.1 (wN A.1) (allN A.1)) t)
    exact ⟨W, W', by rw [e1, hv], m1, m2⟩
  -- the corners
  have corners : ∀ (V : St) (M : List Int), ck S0 x A n p dq tx b j0 V M → Rt (C_X1_mixCenters_139 F x F (i32 0) V) (fun W => ck S0 x A n p dq tx b j0 W (M ++ rLL (eN A.1) 4 (fun e w => corA A.1 (wN A.1) e 1 w))) := by
    intro V M hV
    refine Rt.loop (ι := Nat) (fun e q W => q = i32 e ∧ e ≤ eN A.1 ∧ ck S0 x A n p dq tx b j0 W (M ++ rLL e 4 (fun e w => corA A.1 (wN A.1) e 1 w))) (fun e => eN A.1 - e) ?_ F 0 _ _ ⟨rfl, by omega, by show ck S0 x A n p dq tx b j0 V (M ++ []); rw [List.append_nil]; exact hV⟩ (by omega)
    rintro f e _ W ⟨rfl, he, hW⟩ ih
    obtain ⟨j1, c1, hc⟩ := id hW
    obtain ⟨-, g1, -⟩ := hc.g
    obtain ⟨wa, ta, ea', sa, eq, sq, -, -, -, k3, -, -, k6, -⟩ := hc.net.get hN.sz
    unfold C_X1_mixCenters_139
    rw [g1]
    refine Rt.let ?_
    rw [k3]
    refine Rt.let ?_
    rw [k6]
    refine Rt.let (Rt.ite (fun z => ?_) (fun z => ?_))
    · rw [i_le (by omega) (by omega) (by omega) (by omega)] at z
      obtain rfl : e = eN A.1 := by omega
      exact Rt.some hW
    rw [i_le (by omega) (by omega) (by omega) (by omega)] at z
    show Rt (C_X1_mixCenters_154 F (C_X1_mixCenters_139 F x f) x (i32 e) F (i32 0) W) _
    refine Rt.loop (ι := Nat) (fun w q X => q = i32 w ∧ w ≤ 4 ∧ ck S0 x A n p dq tx b j0 X (M ++ rLL e 4 (fun e w => corA A.1 (wN A.1) e 1 w) ++ rL w (fun w => corA A.1 (wN A.1) e 1 w))) (fun w => 4 - w) ?_ F 0 _ _ ⟨rfl, by omega, by show ck S0 x A n p dq tx b j0 W (_ ++ []); rw [List.append_nil]; exact hW⟩ (by omega)
    rintro f2 w _ X ⟨rfl, hw, hX⟩ ih2
    unfold C_X1_mixCenters_154
    refine Rt.ite (fun z2 => ?_) (fun z2 => ?_)
    · rw [i_c4, i_le (by omega) (by omega) (by omega) (by omega)] at z2
      obtain rfl : w = 4 := by omega
      unfold C_X1_mixCenters_178
      rw [i_c1, i_add]
      refine Rt.let (ih (e + 1) _ _ ⟨rfl, by omega, ?_⟩ (by omega))
      rw [rLL_succ, ← List.append_assoc]; exact hX
    · rw [i_c4, i_le (by omega) (by omega) (by omega) (by omega)] at z2
      obtain ⟨j2, c2, hcX⟩ := id hX
      refine Rt.bind (C_cornerOf (i := 1) hcX hcan.2 (show e < eN A.1 by omega) (by decide) (by omega) (show (w : Int) ≤ 3 by omega) hF) ?_
      rintro ⟨v, Y⟩ ⟨j3, rfl, y1, y2⟩
      dsimp only at y1 y2 ⊢
      obtain ⟨Z, m1, m2⟩ := (ck.fr c2 y1 y2).mix (v := corA A.1 (wN A.1) e 1 w)
      rw [m1, i_c1, i_add]
      refine Rt.let (Rt.let (ih2 (w + 1) _ _ ⟨rfl, by omega, ?_⟩ (by omega)))
      rw [rL_succ, ← List.append_assoc]; exact m2
  -- two centers
  have two : ∀ (V : St) (M : List Int), ck S0 x A n p dq tx b j0 V M → Rt (C_X1_mixCenters_102 F x V) (fun W => ck S0 x A n p dq tx b j0 W (M ++ [rdc (kR A.1 2).1 (kR A.1 2).2 0, rdc (kR A.1 2).1 (kR A.1 2).2 1] ++ rLL (eN A.1) 4 (fun e w => corA A.1 (wN A.1) e 1 w))) := by
    intro V M hV
    obtain ⟨j1, c1, hc⟩ := hV
    obtain ⟨-, -, g2, -⟩ := hc.g
    unfold C_X1_mixCenters_102
    rw [g2]
    refine Rt.let (Rt.bind (C_deciding (k := 2) hN (wN_9 hN) hcan.2 hcan.1 (by decide) (by decide) hc.2.2.1 hF) ?_)
    rintro _ ⟨W, j2, cc, rfl, d1, d2, d3, d4, d5⟩
    dsimp only
    have hcW := hc.fr d1 d2
    obtain ⟨-, -, k2, -⟩ := hcW.g
    refine Rt.let ?_
    rw [k2]
    refine Rt.let (Rt.bind (C_radK (t := 0) hcW hcan (by decide) (by decide) (by decide) (by decide) hF d3 d4 d5) ?_)
    rintro ⟨v, X⟩ ⟨rfl, x1, x2⟩
    dsimp only at x1 x2 ⊢
    obtain ⟨Y, m1, m2⟩ := (ck.fr (c1.tr d1.csJ) x1 x2).mix (v := rdc (kR A.1 2).1 (kR A.1 2).2 0)
    rw [m1]
    refine Rt.let ?_
    obtain ⟨j3, c3, hcY⟩ := id m2
    obtain ⟨-, -, l2, -⟩ := hcY.g
    rw [l2]
    refine Rt.let (Rt.bind (C_radK (t := 1) hcY hcan (by decide) (by decide) (by decide) (by decide) hF d3 d4 d5) ?_)
    rintro ⟨v, Z⟩ ⟨rfl, z1, z2⟩
    dsimp only at z1 z2 ⊢
    obtain ⟨Z2, n1, n2⟩ := (ck.fr c3 z1 z2).mix (v := rdc (kR A.1 2).1 (kR A.1 2).2 1)
    rw [n1]
    refine Rt.let (Rt.mono (corners Z2 _ n2) ?_)
    intro W2 hW2
    rw [List.append_assoc M] at hW2
    exact hW2
  -- the median
  have med : ∀ (V : St) (M : List Int), ck S0 x A n p dq tx b j0 V M → Rt (C_X1_mixCenters_82 F x F (i32 0) V) (fun W => ck S0 x A n p dq tx b j0 W (M ++ rL 5 (fun w => medA A.1 (wN A.1) w) ++ [rdc (kR A.1 2).1 (kR A.1 2).2 0, rdc (kR A.1 2).1 (kR A.1 2).2 1] ++ rLL (eN A.1) 4 (fun e w => corA A.1 (wN A.1) e 1 w))) := by
    intro V M hV
    refine Rt.loop (ι := Nat) (fun w q X => q = i32 w ∧ w ≤ 5 ∧ ck S0 x A n p dq tx b j0 X (M ++ rL w (fun w => medA A.1 (wN A.1) w))) (fun w => 5 - w) ?_ F 0 _ _ ⟨rfl, by omega, by show ck S0 x A n p dq tx b j0 V (M ++ []); rw [List.append_nil]; exact hV⟩ (by omega)
    rintro f2 w _ X ⟨rfl, hw, hX⟩ ih2
    unfold C_X1_mixCenters_82
    refine Rt.ite (fun z2 => ?_) (fun z2 => ?_)
    · rw [i_c5, i_le (by omega) (by omega) (by omega) (by omega)] at z2
      obtain rfl : w = 5 := by omega
      exact two X _ hX
    · rw [i_c5, i_le (by omega) (by omega) (by omega) (by omega)] at z2
      obtain ⟨j2, c2, hcX⟩ := id hX
      refine Rt.bind (C_medianOf hcX hcan (by omega) (show (w : Int) ≤ 4 by omega) hF) ?_
      rintro ⟨v, Y⟩ ⟨j3, rfl, y1, y2⟩
      dsimp only at y1 y2 ⊢
      obtain ⟨Z, m1, m2⟩ := (ck.fr c2 y1 y2).mix (v := medA A.1 (wN A.1) w)
      rw [m1, i_c1, i_add]
      refine Rt.let (Rt.let (ih2 (w + 1) _ _ ⟨rfl, by omega, ?_⟩ (by omega)))
      rw [rL_succ, ← List.append_assoc]; exact m2
  -- the center
  have cen : ∀ (V : St) (M : List Int), ck S0 x A n p dq tx b j0 V M → Rt (C_X1_mixCenters_40 F x (i32 (allN A.1)) F (i32 0) V) (fun W => ck S0 x A n p dq tx b j0 W (M ++ rL 3 (fun w => cenT A.1 (hgt A.1 (wN A.1) (allN A.1)) w) ++ [(crtA A.1 (wN A.1) (allN A.1) : Int)] ++ rL 5 (fun w => medA A.1 (wN A.1) w) ++ [rdc (kR A.1 2).1 (kR A.1 2).2 0, rdc (kR A.1 2).1 (kR A.1 2).2 1] ++ rLL (eN A.1) 4 (fun e w => corA A.1 (wN A.1) e 1 w))) := by
    intro V M hV
    refine Rt.loop (ι := Nat) (fun w q X => q = i32 w ∧ w ≤ 3 ∧ ck S0 x A n p dq tx b j0 X (M ++ rL w (fun w => cenT A.1 (hgt A.1 (wN A.1) (allN A.1)) w))) (fun w => 3 - w) ?_ F 0 _ _ ⟨rfl, by omega, by show ck S0 x A n p dq tx b j0 V (M ++ []); rw [List.append_nil]; exact hV⟩ (by omega)
    rintro f2 w _ X ⟨rfl, hw, hX⟩ ih2
    obtain ⟨j2, c2, hcX⟩ := id hX
    obtain ⟨-, -, g2, -⟩ := hcX.g
    unfold C_X1_mixCenters_40
    refine Rt.ite (fun z2 => ?_) (fun z2 => ?_)
    · rw [i_c3, i_le (by omega) (by omega) (by omega) (by omega)] at z2
      obtain rfl : w = 3 := by omega
      unfold C_X1_mixCenters_68
      rw [g2]
      refine Rt.let (Rt.bind (C_critical hN (wN_9 hN) hcan.2 hcan.1 al hcX.2.2.1 hF) ?_)
      rintro ⟨v, Y⟩ ⟨y1, y2, e, yy, hct, y3⟩
      dsimp only at y1 y2 y3 ⊢
      rw [y3, crtA_of (wN_9 hN).ok0 hct]
      obtain ⟨Z, m1, m2⟩ := (ck.fr c2 y1 (hcX.fr y1 y2)).mix (v := (crtA A.1 (wN A.1) (allN A.1) : Int))
      rw [m1]
      exact Rt.let (med Z _ m2)
    · rw [i_c3, i_le (by omega) (by omega) (by omega) (by omega)] at z2
      rw [g2]
      refine Rt.let ?_
      obtain ⟨⟨v, Y⟩, e1, e2, e3, e4⟩ := C_centerOf (w := w) hcX hcan al (by omega) (by omega) hF
      dsimp only at e2 e3 e4
      obtain ⟨r8, q1, q2⟩ := ob e1
      obtain ⟨r9, q3, q4⟩ := ob q2
      have q5 := Option.some.inj q4
      have q6 : r9 = v := congrArg Prod.fst q5
      have q7 : r8.2 = Y := congrArg Prod.snd q5
      rw [q1]
      refine Rt.let ?_
      rw [q3]
      refine Rt.let ?_
      rw [q6, q7, e2]
      obtain ⟨Z, m1, m2⟩ := (ck.fr c2 e3 e4).mix (v := cenT A.1 (hgt A.1 (wN A.1) (allN A.1)) w)
      rw [m1, i_c1, i_add]
      refine Rt.let (Rt.let (ih2 (w + 1) _ _ ⟨rfl, by omega, ?_⟩ (by omega)))
      rw [rL_succ, ← List.append_assoc]; exact m2
  obtain ⟨j1, c1, hc⟩ := id hk
  obtain ⟨⟨fs, g0⟩, g1, g2, -⟩ := hc.g
  obtain ⟨W, W', r1, r2, r3⟩ := rad (t := 0) hk (by decide) (by decide)
  obtain ⟨X, X', s1, s2, s3⟩ := rad (t := 1) r3 (by decide) (by decide)
  obtain ⟨j2, c2, hcW⟩ := id r3
  obtain ⟨-, -, k2, -⟩ := hcW.g
  unfold C_X1_mixCenters
  rw [g0, g1]
  refine Rt.let (Rt.let ?_)
  rw [C_size hN.sz hc.net]
  refine Rt.let ?_
  rw [ea]
  refine Rt.let ?_
  rw [g2]
  refine Rt.let ?_
  refine Rt.bindE r1 ?_
  refine Rt.bindE r2 ?_
  rw [k2]
  refine Rt.let ?_
  refine Rt.bindE s1 ?_
  refine Rt.bindE s2 ?_
  refine Rt.mono (cen X' _ s3) ?_
  intro V hV
  have e : L ++ [valT A.1 (hgt A.1 (wN A.1) (allN A.1)) 0] ++ [valT A.1 (hgt A.1 (wN A.1) (allN A.1)) 1] = L ++ [valT A.1 (hgt A.1 (wN A.1) (allN A.1)) 0, valT A.1 (hgt A.1 (wN A.1) (allN A.1)) 1] := by simp
  rw [e] at hV
  unfold cenL
  simp only [List.append_assoc] at hV ⊢
  exact hV
theorem P_checksum (hc : cRo S x A n p dq tx j b h) (hF : 4294967296 < F) : Rt (C_X1_checksum F S x) (QC S x A) := by
  have hN := hc.1.1
  have z1 := hN.sz.1
  have z2 := hN.sz.2.1
  have z3 := hN.sz.2.2
  -- centers
  have cenP : ∀ (V : St) (M : List Int), ck S x A n p dq tx b j V M → M = rL 4 (fun w => cntN A.1 w) ++ rLL (nN A.1) 3 (fun i w => ndW A.1 i w) ++ rLL (eN A.1) 3 (fun e w => edW A.1 e w) ++ rLL (sN A.1) 3 (fun k w => sdW A.1 k w) → Rt (C_X1_checksum_171 F x V) (QC S x A) := by
    intro V M hV hM
    obtain ⟨j1, c1, hcV⟩ := id hV
    obtain ⟨-, -, g2, -⟩ := hcV.g
    obtain ⟨D, v3, v4, v5, v6, hpl⟩ := hcV.2.2.1.pl
    unfold C_X1_checksum_171
    rw [g2]
    refine Rt.let (Rt.tst (C_isUsable hN hpl hF) (fun hn => ?_) (fun hy => ?_))
    · refine C_chk185 hV ?_
      unfold chkL
      rw [ifc_neg hn, hM]; simp
    · refine Rt.bind (C_mixCenters hV hy hF) ?_
      intro W hW
      refine C_chk185 hW ?_
      unfold chkL
      rw [ifc_pos hy, hM]
  -- stretches
  have strP : ∀ (V : St) (M : List Int), ck S x A n p dq tx b j V M → M = rL 4 (fun w => cntN A.1 w) ++ rLL (nN A.1) 3 (fun i w => ndW A.1 i w) ++ rLL (eN A.1) 3 (fun e w => edW A.1 e w) → Rt (C_X1_checksum_123 F x F (i32 0) V) (QC S x A) := by
    intro V M hV hM
    refine Rt.loop (ι := Nat) (fun e q W => q = i32 e ∧ e ≤ sN A.1 ∧ ck S x A n p dq tx b j W (M ++ rLL e 3 (fun k w => sdW A.1 k w))) (fun e => sN A.1 - e) ?_ F 0 _ _ ⟨rfl, by omega, by show ck S x A n p dq tx b j V (M ++ []); rw [List.append_nil]; exact hV⟩ (by omega)
    rintro f e _ W ⟨rfl, he, hW⟩ ih
    obtain ⟨j1, c1, hcW⟩ := id hW
    obtain ⟨-, g1, -⟩ := hcW.g
    obtain ⟨wa, ta, ea', sa, eq, sq, -, -, -, k3, k4, -, k6, k7, -⟩ := hcW.net.get hN.sz
    unfold C_X1_checksum_123
    rw [g1]
    refine Rt.let ?_
    rw [k4]
    refine Rt.let ?_
    rw [k7]
    refine Rt.let (Rt.ite (fun z => ?_) (fun z => ?_))
    · rw [i_le (by omega) (by omega) (by omega) (by omega)] at z
      obtain rfl : e = sN A.1 := by omega
      exact cenP W _ hW (by rw [hM])
    rw [i_le (by omega) (by omega) (by omega) (by omega)] at z
    show Rt (C_X1_checksum_137 F (C_X1_checksum_123 F x f) x (i32 e) F (i32 0) W) _
    refine Rt.loop (ι := Nat) (fun w q X => q = i32 w ∧ w ≤ 3 ∧ ck S x A n p dq tx b j X (M ++ rLL e 3 (fun k w => sdW A.1 k w) ++ rL w (fun w => sdW A.1 e w))) (fun w => 3 - w) ?_ F 0 _ _ ⟨rfl, by omega, by show ck S x A n p dq tx b j W (_ ++ []); rw [List.append_nil]; exact hW⟩ (by omega)
    rintro f2 w _ X ⟨rfl, hw, hX⟩ ih2
    unfold C_X1_checksum_137
    refine Rt.ite (fun z2 => ?_) (fun z2 => ?_)
    · rw [i_c3, i_le (by omega) (by omega) (by omega) (by omega)] at z2
      obtain rfl : w = 3 := by omega
      unfold C_X1_checksum_165
      rw [i_c1, i_add]
      refine Rt.let (ih (e + 1) _ _ ⟨rfl, by omega, ?_⟩ (by omega))
      rw [rLL_succ, ← List.append_assoc]; exact hX
    · rw [i_c3, i_le (by omega) (by omega) (by omega) (by omega)] at z2
      obtain ⟨j2, c2, hcX⟩ := id hX
      obtain ⟨-, g1', -⟩ := hcX.g
      obtain ⟨wa, ta, ea', sa, eq, sq, -, -, -, k3, k4, -, k6, k7, -, -, k10⟩ := hcX.net.get hN.sz
      obtain ⟨q1, q2, q3, q4, q5⟩ := k10 e (by omega)
      rw [g1']
      refine Rt.let ?_
      rw [k4]
      refine Rt.let ?_
      rw [q1]
      refine Rt.let ?_
      rw [C_propS (N := A.1) (k := e) q2 q3 q4 q5 (show (0 : Int) ≤ w by omega) (by omega)]
      refine Rt.let ?_
      obtain ⟨Z, m1, m2⟩ := hX.mix (v := sdW A.1 e w)
      rw [m1, i_c1, i_add]
      refine Rt.let (Rt.let (ih2 (w + 1) _ _ ⟨rfl, by omega, ?_⟩ (by omega)))
      rw [rL_succ, ← List.append_assoc]; exact m2
  -- edges
  have edgP : ∀ (V : St) (M : List Int), ck S x A n p dq tx b j V M → M = rL 4 (fun w => cntN A.1 w) ++ rLL (nN A.1) 3 (fun i w => ndW A.1 i w) → Rt (C_X1_checksum_73 F x F (i32 0) V) (QC S x A) := by
    intro V M hV hM
    refine Rt.loop (ι := Nat) (fun e q W => q = i32 e ∧ e ≤ eN A.1 ∧ ck S x A n p dq tx b j W (M ++ rLL e 3 (fun k w => edW A.1 k w))) (fun e => eN A.1 - e) ?_ F 0 _ _ ⟨rfl, by omega, by show ck S x A n p dq tx b j V (M ++ []); rw [List.append_nil]; exact hV⟩ (by omega)
    rintro f e _ W ⟨rfl, he, hW⟩ ih
    obtain ⟨j1, c1, hcW⟩ := id hW
    obtain ⟨-, g1, -⟩ := hcW.g
    obtain ⟨wa, ta, ea', sa, eq, sq, -, -, -, k3, k4, -, k6, k7, -⟩ := hcW.net.get hN.sz
    unfold C_X1_checksum_73
    rw [g1]
    refine Rt.let ?_
    rw [k3]
    refine Rt.let ?_
    rw [k6]
    refine Rt.let (Rt.ite (fun z => ?_) (fun z => ?_))
    · rw [i_le (by omega) (by omega) (by omega) (by omega)] at z
      obtain rfl : e = eN A.1 := by omega
      unfold C_X1_checksum_121
      exact strP W _ hW (by rw [hM])
    rw [i_le (by omega) (by omega) (by omega) (by omega)] at z
    show Rt (C_X1_checksum_87 F (C_X1_checksum_73 F x f) x (i32 e) F (i32 0) W) _
    refine Rt.loop (ι := Nat) (fun w q X => q = i32 w ∧ w ≤ 3 ∧ ck S x A n p dq tx b j X (M ++ rLL e 3 (fun k w => edW A.1 k w) ++ rL w (fun w => edW A.1 e w))) (fun w => 3 - w) ?_ F 0 _ _ ⟨rfl, by omega, by show ck S x A n p dq tx b j W (_ ++ []); rw [List.append_nil]; exact hW⟩ (by omega)
    rintro f2 w _ X ⟨rfl, hw, hX⟩ ih2
    unfold C_X1_checksum_87
    refine Rt.ite (fun z2 => ?_) (fun z2 => ?_)
    · rw [i_c3, i_le (by omega) (by omega) (by omega) (by omega)] at z2
      obtain rfl : w = 3 := by omega
      unfold C_X1_checksum_115
      rw [i_c1, i_add]
      refine Rt.let (ih (e + 1) _ _ ⟨rfl, by omega, ?_⟩ (by omega))
      rw [rLL_succ, ← List.append_assoc]; exact hX
    · rw [i_c3, i_le (by omega) (by omega) (by omega) (by omega)] at z2
      obtain ⟨j2, c2, hcX⟩ := id hX
      obtain ⟨-, g1', -⟩ := hcX.g
      obtain ⟨wa, ta, ea', sa, eq, sq, -, -, -, k3, k4, -, k6, k7, -, k9, -⟩ := hcX.net.get hN.sz
      obtain ⟨q1, q2, q3, q4, q5⟩ := k9 e (by omega)
      rw [g1']
      refine Rt.let ?_
      rw [k3]
      refine Rt.let ?_
      rw [q1]
      refine Rt.let ?_
      rw [C_propE (N := A.1) (k := e) q2 q3 q4 q5 (show (0 : Int) ≤ w by omega) (by omega)]
      refine Rt.let ?_
      obtain ⟨Z, m1, m2⟩ := hX.mix (v := edW A.1 e w)
      rw [m1, i_c1, i_add]
      refine Rt.let (Rt.let (ih2 (w + 1) _ _ ⟨rfl, by omega, ?_⟩ (by omega)))
      rw [rL_succ, ← List.append_assoc]; exact m2
  -- nodes
  have nodP : ∀ (V : St) (M : List Int), ck S x A n p dq tx b j V M → M = rL 4 (fun w => cntN A.1 w) → Rt (C_X1_checksum_31 F x F (i32 0) V) (QC S x A) := by
    intro V M hV hM
    refine Rt.loop (ι := Nat) (fun e q W => q = i32 e ∧ e ≤ nN A.1 ∧ ck S x A n p dq tx b j W (M ++ rLL e 3 (fun k w => ndW A.1 k w))) (fun e => nN A.1 - e) ?_ F 0 _ _ ⟨rfl, by omega, by show ck S x A n p dq tx b j V (M ++ []); rw [List.append_nil]; exact hV⟩ (by omega)
    rintro f e _ W ⟨rfl, he, hW⟩ ih
    obtain ⟨j1, c1, hcW⟩ := id hW
    obtain ⟨-, g1, -⟩ := hcW.g
    unfold C_X1_checksum_31
    rw [g1]
    refine Rt.let ?_
    rw [C_size hN.sz hcW.net]
    refine Rt.let (Rt.ite (fun z => ?_) (fun z => ?_))
    · rw [i_le (by omega) (by omega) (by omega) (by omega)] at z
      obtain rfl : e = nN A.1 := by omega
      unfold C_X1_checksum_71
      exact edgP W _ hW (by rw [hM])
    rw [i_le (by omega) (by omega) (by omega) (by omega)] at z
    show Rt (C_X1_checksum_44 F (C_X1_checksum_31 F x f) x (i32 e) F (i32 0) W) _
    refine Rt.loop (ι := Nat) (fun w q X => q = i32 w ∧ w ≤ 3 ∧ ck S x A n p dq tx b j X (M ++ rLL e 3 (fun k w => ndW A.1 k w) ++ rL w (fun w => ndW A.1 e w))) (fun w => 3 - w) ?_ F 0 _ _ ⟨rfl, by omega, by show ck S x A n p dq tx b j W (_ ++ []); rw [List.append_nil]; exact hW⟩ (by omega)
    rintro f2 w _ X ⟨rfl, hw, hX⟩ ih2
    unfold C_X1_checksum_44
    refine Rt.ite (fun z2 => ?_) (fun z2 => ?_)
    · rw [i_c3, i_le (by omega) (by omega) (by omega) (by omega)] at z2
      obtain rfl : w = 3 := by omega
      unfold C_X1_checksum_65
      rw [i_c1, i_add]
      refine Rt.let (ih (e + 1) _ _ ⟨rfl, by omega, ?_⟩ (by omega))
      rw [rLL_succ, ← List.append_assoc]; exact hX
    · rw [i_c3, i_le (by omega) (by omega) (by omega) (by omega)] at z2
      obtain ⟨j2, c2, hcX⟩ := id hX
      rw [C_propN (v := w) hcX (show e < nN A.1 by omega) (by omega) (by omega) hF]
      refine Rt.let ?_
      obtain ⟨Z, m1, m2⟩ := hX.mix (v := ndW A.1 e w)
      rw [m1, i_c1, i_add]
      refine Rt.let (Rt.let (ih2 (w + 1) _ _ ⟨rfl, by omega, ?_⟩ (by omega)))
      rw [rL_succ, ← List.append_assoc]; exact m2
  obtain ⟨⟨fs, g0⟩, -⟩ := hc.g
  unfold C_X1_checksum
  rw [g0]
  refine Rt.let ?_
  have p1 : gP S 1 x 4 (.long 18473) = some (put S x (cO 1 [.ref n, .ref p, .ref dq, .ref tx, .long 18473])) := gP_of hc.2.1 (by simp)
  rw [p1]
  refine Rt.let ?_
  have h0 : ck S x A n p dq tx b j (put S x (cO 1 [.ref n, .ref p, .ref dq, .ref tx, .long 18473])) [] := ⟨j, ⟨Nat.le_refl _, cs_.rf⟩, hc.hash (h' := 18473)⟩
  show Rt (C_X1_checksum_9 F x F (i32 0) (put S x (cO 1 [.ref n, .ref p, .ref dq, .ref tx, .long 18473]))) _
  refine Rt.loop (ι := Nat) (fun w q X => q = i32 w ∧ w ≤ 4 ∧ ck S x A n p dq tx b j X (rL w (fun w => cntN A.1 w))) (fun w => 4 - w) ?_ F 0 _ _ ⟨rfl, by omega, h0⟩ (by omega)
  rintro f2 w _ X ⟨rfl, hw, hX⟩ ih2
  unfold C_X1_checksum_9
  refine Rt.ite (fun z2 => ?_) (fun z2 => ?_)
  · rw [i_c4, i_le (by omega) (by omega) (by omega) (by omega)] at z2
    obtain rfl : w = 4 := by omega
    unfold C_X1_checksum_29
    exact nodP X _ hX rfl
  · rw [i_c4, i_le (by omega) (by omega) (by omega) (by omega)] at z2
    obtain ⟨j2, c2, hcX⟩ := id hX
    rw [C_counted (v := w) hcX (by omega) (by omega) hF]
    refine Rt.let ?_
    obtain ⟨Z, m1, m2⟩ := hX.mix (v := cntN A.1 w)
    rw [m1, i_c1, i_add]
    refine Rt.let (Rt.let (ih2 (w + 1) _ _ ⟨rfl, by omega, ?_⟩ (by omega)))
    rw [rL_succ]; exact m2
/-- the class's object, new -/
theorem P_init (hw : wfS S) (hx : S.1 x = some (cO 1 df_1)) (hF : 4294967296 < F) : Rt (C_X1_init F S x) (fun T => cR T x (nReset 4, [], []) ∧ cs_ 100 400 S T) := by
  have xl := hw.lt hx
  unfold C_X1_init
  rw [nO_eq]
  refine Rt.let ?_
  dsimp only
  have xa : ex 1 4 S (al S (cO 2 df_2) 4) := ex.al hw
  refine Rt.bind (C_newNet (n := 4) xa.1 (al_me _ _ _) (by decide) hF) ?_
  rintro U ⟨u1, u2, u3, u4⟩
  have hU : ex 5 20 S U := by
    obtain ⟨v1, v2, v3, v4, -⟩ := u2
    have n1 : (al S (cO 2 df_2) 4).2.1 = S.2.1 + 1 := rfl
    have n2 : (al S (cO 2 df_2) 4).2.2.1 = S.2.2.1 + 1 := rfl
    have n3 : (al S (cO 2 df_2) 4).2.2.2 = S.2.2.2 + 4 := rfl
    exact ⟨v1, by omega, by omega, by omega, fun q e hq => u3 q e (xa.get hq) (by have := hw.lt hq; omega)⟩
  have cx := hU.get hx
  have p1 : gP U 1 x 0 (.ref S.2.1) = some (put U x (cO 1 [.ref S.2.1, .null, .null, .null, .long 0])) := gP_of cx (by decide)
  rw [p1]
  refine Rt.let ?_
  -- a put at x keeps all but x
  have px : ∀ {V : St} {f g : List Value}, V.1 x = some (cO 1 f) → ∀ q e, V.1 q = some e → (∀ f, e ≠ cO 1 f) → (put V x (cO 1 g)).1 q = some e := by
    intro V f g hV q e hq hn
    rw [put_ne]
    · exact hq
    · rintro rfl
      rw [hV] at hq; cases hq; exact hn _ rfl
  have nk1 : ∀ {e : Cel}, nk e = false → ∀ f, e ≠ cO 1 f := fun hn f hf => by rw [hf] at hn; cases hn
  have dk1 : ∀ {e : Cel}, ¬ dk e → ∀ f, e ≠ cO 1 f := fun hn f hf => by rw [hf] at hn; exact hn dk_1
  have w1 := hU.1.put (c := cO 1 [.ref S.2.1, .null, .null, .null, .long 0]) cx
  have c1 := put_me U x (cO 1 [.ref S.2.1, .null, .null, .null, .long 0])
  have n1 : netC U.2.1 (put U x (cO 1 [.ref S.2.1, .null, .null, .null, .long 0])) S.2.1 (nReset 4) (wN (nReset 4)) := u4.kn (fun q e hq hn => px cx q e hq (nk1 hn))
  have s1 : (put U x (cO 1 [.ref S.2.1, .null, .null, .null, .long 0])).2 = U.2 := rfl
  have xb : x < U.2.1 := by have := hU.2.1; omega
  generalize put U x (cO 1 [.ref S.2.1, .null, .null, .null, .long 0]) = S1 at *
  -- the plan
  rw [nO_eq]
  refine Rt.let ?_
  dsimp only
  have x2 : ex 1 7 S1 (al S1 (cO 3 df_3) 7) := ex.al w1
  have ca := al_me S1 7 (cO 3 df_3)
  have hs1 : S1.2.1 = U.2.1 := by rw [s1]
  have s2 : (al S1 (cO 3 df_3) 7).2 = (U.2.1 + 1, U.2.2.1 + 1, U.2.2.2 + 7) := by show (S1.2.1 + 1, S1.2.2.1 + 1, S1.2.2.2 + 7) = _; rw [s1]
  rw [gA_of (k := 0) (x2.get c1) rfl]
  refine Rt.let ?_
  rw [hs1] at ca ⊢
  have c2 := x2.get c1
  have n2 := n1.ex x2
  have w2 := x2.1
  generalize al S1 (cO 3 df_3) 7 = S2 at *
  refine Rt.bind (C_newPlan (nReset_ok (by decide) (by decide)) w2 ca n2 (by rw [s2]; exact Nat.le_succ _) hF) ?_
  rintro T ⟨t1, t2, t3⟩
  have cT := t1.get c2 xb (by omega)
  have p2 : gP T 1 x 1 (.ref U.2.1) = some (put T x (cO 1 [.ref S.2.1, .ref U.2.1, .null, .null, .long 0])) := gP_of cT (by simp)
  rw [p2]
  refine Rt.let ?_
  have w3 := t1.1.put (c := cO 1 [.ref S.2.1, .ref U.2.1, .null, .null, .long 0]) cT
  have c3 := put_me T x (cO 1 [.ref S.2.1, .ref U.2.1, .null, .null, .long 0])
  have pl3 : plS 0 U.2.1 (put T x (cO 1 [.ref S.2.1, .ref U.2.1, .null, .null, .long 0])) U.2.1 S.2.1 (nReset 4) (wN (nReset 4)) := ⟨w3, by show U.2.1 ≤ T.2.1; rw [t2, s2]; show U.2.1 ≤ U.2.1 + 1 + 1; omega, Or.inl ⟨rfl, _, t3.kn (fun q e hq hn => px cT q e hq (nk1 hn))⟩⟩
  have cs3 : cs_ 7 91 S (put T x (cO 1 [.ref S.2.1, .ref U.2.1, .null, .null, .long 0])) := by
    obtain ⟨a1, a2, a3⟩ := t1.cs_
    rw [s2] at a1 a2 a3
    obtain ⟨b1, b2, b3⟩ := hU.cs_
    exact ⟨by show S.2.1 ≤ T.2.1; simp only at a1; omega, by show T.2.2.1 ≤ _; simp only at a2; omega, by show T.2.2.2 ≤ _; simp only at a3; omega⟩
  generalize put T x (cO 1 [.ref S.2.1, .ref U.2.1, .null, .null, .long 0]) = S3 at *
  -- the deque
  rw [nO_eq]
  refine Rt.let ?_
  dsimp only
  have x4 : ex 1 3 S3 (al S3 (cO 11 df_11) 3) := ex.al w3
  have c4 := x4.get c3
  have pl4 := pl3.kn (fun q e hq _ => x4.get hq) x4.1 x4.2.1
  have ca4 := al_me S3 3 (cO 11 df_11)
  have cs4 := cs3.tr x4.cs_ (Nat.le_refl _) (Nat.le_refl _)
  have w4 := x4.1
  have xd : x ≠ S3.2.1 := by have := w3.lt c3; omega
  generalize al S3 (cO 11 df_11) 3 = S4 at *
  generalize S3.2.1 = dq at *
  obtain ⟨T2, e1, e2, e3, e4, e5⟩ := C_newDeq (b := U.2.1) w4 ca4
  rw [e1]
  refine Rt.let ?_
  have c5 := e4 _ _ c4 xd
  have kT2 : kn S4 T2 := fun q e hq hn => e4 q e hq (by
    rintro rfl
    rw [ca4] at hq; cases hq; cases hn)
  have pl5 := pl4.kn kT2 e2 (by rw [e3]; exact Nat.le_succ _)
  have cs5 : cs_ 9 111 S T2 := cs4.tr (c' := 1) (d' := 17) ⟨by rw [e3]; exact Nat.le_succ _, by rw [e3]; exact Nat.le_refl _, by rw [e3]; exact Nat.le_refl _⟩ (by omega) (by omega)
  have p5 : gP T2 1 x 2 (.ref dq) = some (put T2 x (cO 1 [.ref S.2.1, .ref U.2.1, .ref dq, .null, .long 0])) := gP_of c5 (by simp)
  rw [p5]
  refine Rt.let ?_
  have w6 := e2.put (c := cO 1 [.ref S.2.1, .ref U.2.1, .ref dq, .null, .long 0]) c5
  have c6 := put_me T2 x (cO 1 [.ref S.2.1, .ref U.2.1, .ref dq, .null, .long 0])
  have k6 : kn T2 (put T2 x (cO 1 [.ref S.2.1, .ref U.2.1, .ref dq, .null, .long 0])) := fun q e hq hn => px c5 q e hq (nk1 hn)
  have pl6 := pl5.kn k6 w6 (Nat.le_refl _)
  have dq6 := e5.ke (T := put T2 x (cO 1 [.ref S.2.1, .ref U.2.1, .ref dq, .null, .long 0])) (fun q e hq hn => px c5 q e hq (dk1 hn)) (fun a N hN => hN.kn k6)
  have cs6 : cs_ 9 111 S (put T2 x (cO 1 [.ref S.2.1, .ref U.2.1, .ref dq, .null, .long 0])) := cs5
  generalize put T2 x (cO 1 [.ref S.2.1, .ref U.2.1, .ref dq, .null, .long 0]) = S6 at *
  -- the text
  rw [nO_eq]
  refine Rt.let ?_
  dsimp only
  have x7 : ex 1 4 S6 (al S6 (cO 12 df_12) 4) := ex.al w6
  have c7 := x7.get c6
  have pl7 := pl6.kn (fun q e hq _ => x7.get hq) x7.1 x7.2.1
  have dq7 := dq6.ke (T := al S6 (cO 12 df_12) 4) (fun q e hq _ => x7.get hq) (fun a N hN => hN.ex x7)
  have ca7 := al_me S6 4 (cO 12 df_12)
  have cs7 := cs6.tr x7.cs_ (Nat.le_refl _) (Nat.le_refl _)
  have w7 := x7.1
  have xt : x ≠ S6.2.1 := by have := w6.lt c6; omega
  generalize al S6 (cO 12 df_12) 4 = S7 at *
  generalize S6.2.1 = tx at *
  obtain ⟨T3, f1, f2, f3, f4, f5⟩ := C_newText (S0 := S) w7 ca7
  rw [f1]
  refine Rt.let ?_
  have c8 := f4 _ _ c7 xt
  have nt : ∀ {q : Nat} {e : Cel}, S7.1 q = some e → (∀ f, e ≠ cO 12 f) → T3.1 q = some e := by
    intro q e hq hn
    refine f4 q e hq ?_
    rintro rfl
    rw [ca7] at hq; cases hq; exact hn _ rfl
  have k8 : kn S7 T3 := fun q e hq hn => nt hq (fun f hf => by rw [hf] at hn; cases hn)
  have pl8 := pl7.kn k8 f2 (by rw [f3]; exact Nat.le_succ _)
  have dq8 := dq7.ke (T := T3) (fun q e hq hn => nt hq (fun f hf => by rw [hf] at hn; exact hn (by decide : (12 : Nat) ≠ 11))) (fun a N hN => hN.kn k8)
  have cs8 : cs_ 11 131 S T3 := cs7.tr (c' := 1) (d' := 16) ⟨by rw [f3]; exact Nat.le_succ _, by rw [f3]; exact Nat.le_refl _, by rw [f3]; exact Nat.le_refl _⟩ (by omega) (by omega)
  have p8 : gP T3 1 x 3 (.ref tx) = some (put T3 x (cO 1 [.ref S.2.1, .ref U.2.1, .ref dq, .ref tx, .long 0])) := gP_of c8 (by simp)
  rw [p8]
  have k9 : kn T3 (put T3 x (cO 1 [.ref S.2.1, .ref U.2.1, .ref dq, .ref tx, .long 0])) := fun q e hq hn => px c8 q e hq (nk1 hn)
  refine Rt.let (Rt.some ⟨⟨S.2.1, U.2.1, dq, tx, 0, U.2.1, 0, ⟨nReset_ok (by decide) (by decide), by simp, fun M hM => (by cases hM), by simp, fun z hz => (by cases hz)⟩, put_me _ _ _, pl8.kn k9 (f2.put c8) (Nat.le_refl _), dq8.ke (fun q e hq hn => px c8 q e hq (dk1 hn)) (fun a N hN => hN.kn k9), f5.ke (fun q e hq hn => px c8 q e hq (fun f hf => by rw [hf] at hn; exact hn tk_1))⟩, cs8.le (by omega) (by omega)⟩)
end CK2
