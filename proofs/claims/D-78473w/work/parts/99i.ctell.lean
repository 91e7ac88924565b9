/-! THE CLASS's CALLS THAT TELL -/
section TL
variable {S T : St} {x n p dq tx j b : Nat} {h : Int64} {A : Ab} {F : Nat} {N : Net}
theorem dN_rng (hN : okN N) (i j : Nat) : 0 ≤ dN N i j ∧ dN N i j ≤ 100000 := by
  have hI := okN_D hN
  exact ⟨hI.2.1 i j, by have := hI.2.2.2 i j; omega⟩
theorem C_counted {v : Int} (hc : cRo S x A n p dq tx j b h) (h0 : 0 ≤ v) (h3 : v ≤ 3) (hF : 4294967296 < F) : C_X1_counted F S x (i32 v) = some (i32 (cntN A.1 v)) := by
  obtain ⟨⟨fs, g0⟩, g1, g2, -⟩ := hc.g
  have hN := hc.1.1
  obtain ⟨D, _, _, _, _, hpl⟩ := hc.2.2.1.pl
  obtain ⟨wa, ta, ea, sa, eq, sq, ⟨fs', k0⟩, k1, k2, k3, k4, k5, k6, k7, -⟩ := hc.net.get hN.sz
  apply Rt.eq
  unfold C_X1_counted cntN
  rw [g0]
  refine Rt.let (Rt.ite (fun z => ?_) (fun z => Rt.ite (fun z2 => ?_) (fun z2 => Rt.ite (fun z3 => ?_) (fun z3 => ?_))))
  · rw [i_c0, i_eq (by omega) (by omega) (by omega) (by omega)] at z
    rw [g1, if_pos z]
    refine Rt.let ?_
    rw [C_size hN.sz hc.net]
    exact Rt.let (Rt.some rfl)
  · rw [i_c0, i_eq (by omega) (by omega) (by omega) (by omega)] at z
    rw [i_c1, i_eq (by omega) (by omega) (by omega) (by omega)] at z2
    rw [g1, if_neg z, if_pos z2]
    refine Rt.let ?_
    rw [k3]
    refine Rt.let ?_
    rw [k6]
    exact Rt.let (Rt.some rfl)
  · rw [i_c0, i_eq (by omega) (by omega) (by omega) (by omega)] at z
    rw [i_c1, i_eq (by omega) (by omega) (by omega) (by omega)] at z2
    rw [i_c2, i_eq (by omega) (by omega) (by omega) (by omega)] at z3
    rw [g1, if_neg z, if_neg z2, if_pos z3]
    refine Rt.let ?_
    rw [k4]
    refine Rt.let ?_
    rw [k7]
    exact Rt.let (Rt.some rfl)
  · rw [i_c0, i_eq (by omega) (by omega) (by omega) (by omega)] at z
    rw [i_c1, i_eq (by omega) (by omega) (by omega) (by omega)] at z2
    rw [i_c2, i_eq (by omega) (by omega) (by omega) (by omega)] at z3
    rw [g2, if_neg z, if_neg z2, if_neg z3]
    exact Rt.let (Rt.tst (C_isConnected hN hpl hF) (fun q => Rt.some (tr_0 q)) (fun q => Rt.some (tr_1 q)))
theorem P_count {v : Int} (hc : cRo S x A n p dq tx j b h) (hv : rng v) (hF : 4294967296 < F) : OpO (fun k => T_X1_count F k S x (i32 v)) (C_X1_count F S x (i32 v)) (ec 2 0 0 (sp_count A v).1) S (Qr A (sp_count A v)) := by
  obtain ⟨⟨fs, g0⟩, -⟩ := hc.g
  have e1 : C_X1_isIn (i32 v) 0 3 = some (i32 (tr01 (inR v 0 3))) := C_isIn (lo := 0) (hi := 3) hv (by decide) (by decide)
  unfold T_X1_count C_X1_count sp_count
  rw [g0, e1]
  refine OpO.let (OpO.let (OpO.checkThat (by decide) (fun hn => by rw [ifc_neg hn]; rfl) (fun hy => ?_)))
  rw [ifc_pos hy]
  refine OpO.fin rfl ?_
  rw [C_counted hc hy.1 hy.2 hF]
  exact Rt.let (Rt.some ⟨rfl, rfl⟩)
/-- three properties -/
theorem C_three_w {v : Int} {a c d : Int32} {G : Int → Int} (h0 : 0 ≤ v) (h2 : v ≤ 2) (ha : a = i32 (G 0)) (hc : c = i32 (G 1)) (hd : d = i32 (G 2)) : (if i32 v = 0 then some a else if i32 v = 1 then some c else some d) = some (i32 (G v)) := by
  have h : v = 0 ∨ v = 1 ∨ v = 2 := by omega
  rcases h with e | e | e
  · rw [e, ha]; rfl
  · rw [e, hc]; rfl
  · rw [e, hd]; rfl
theorem C_propE {v : Int} {k q : Nat} (hO : ∃ fs, gO S 4 q = some fs) (g0 : gI S 4 q 0 = some (i32 (ed N k).1)) (g1 : gI S 4 q 1 = some (i32 (ed N k).2.1)) (g2 : gI S 4 q 2 = some (i32 (ed N k).2.2)) (h0 : 0 ≤ v) (h2 : v ≤ 2) : C_X5_property S q (i32 v) = some (i32 (edW N k v)) := by
  obtain ⟨fs, hO⟩ := hO
  unfold C_X5_property
  rw [hO, g0, g1, g2]
  exact C_three_w (G := edW N k) h0 h2 rfl rfl rfl
theorem C_propS {v : Int} {k q : Nat} (hO : ∃ fs, gO S 5 q = some fs) (g0 : gI S 5 q 0 = some (i32 (sd N k).1)) (g1 : gI S 5 q 1 = some (i32 (sd N k).2.1)) (g2 : gI S 5 q 2 = some (i32 (sd N k).2.2)) (h0 : 0 ≤ v) (h2 : v ≤ 2) : C_X6_property S q (i32 v) = some (i32 (sdW N k v)) := by
  obtain ⟨fs, hO⟩ := hO
  unfold C_X6_property
  rw [hO, g0, g1, g2]
  exact C_three_w (G := sdW N k) h0 h2 rfl rfl rfl
theorem C_propN {v : Int} {k : Nat} (hc : cRo S x A n p dq tx j b h) (hk : k < nN A.1) (h0 : 0 ≤ v) (h2 : v ≤ 2) (hF : 4294967296 < F) : C_X1_propertyOf F S x (i32 k) (i32 v) = some (i32 (ndW A.1 k v)) := by
  obtain ⟨⟨fs, g0⟩, g1, -⟩ := hc.g
  have hN := hc.1.1
  obtain ⟨wa, ta, ea, sa, eq, sq, ⟨fs', k0⟩, k1, k2, k3, k4, k5, k6, k7, k8, -⟩ := hc.net.get hN.sz
  apply Rt.eq
  unfold C_X1_propertyOf ndW
  rw [g0, g1]
  refine Rt.let (Rt.ite (fun z => ?_) (fun z => Rt.ite (fun z2 => ?_) (fun z2 => ?_)))
  · rw [i_c0, i_eq (by omega) (by omega) (by omega) (by omega)] at z
    rw [if_pos z]
    refine Rt.let ?_
    rw [k1]
    refine Rt.let ?_
    rw [(k8 k hk).1]
    exact Rt.let (Rt.some rfl)
  · rw [i_c0, i_eq (by omega) (by omega) (by omega) (by omega)] at z
    rw [i_c1, i_eq (by omega) (by omega) (by omega) (by omega)] at z2
    rw [if_neg z, if_pos z2]
    refine Rt.let ?_
    rw [k2]
    refine Rt.let ?_
    rw [(k8 k hk).2]
    exact Rt.let (Rt.some rfl)
  · rw [i_c0, i_eq (by omega) (by omega) (by omega) (by omega)] at z
    rw [i_c1, i_eq (by omega) (by omega) (by omega) (by omega)] at z2
    rw [if_neg z, if_neg z2]
    refine Rt.let ?_
    rw [C_degree hN hc.net hk hF]
    exact Rt.let (Rt.some rfl)
theorem P_edge {i v : Int} (hc : cRo S x A n p dq tx j b h) (hi : rng i) (hv : rng v) : OpO (fun k => T_X1_edge k S x (i32 i) (i32 v)) (C_X1_edge S x (i32 i) (i32 v)) (ec 1 2 0 (sp_edge A i v).1) S (Qr A (sp_edge A i v)) := by
  obtain ⟨⟨fs, g0⟩, g1, -⟩ := hc.g
  have hN := hc.1.1
  obtain ⟨wa, ta, ea, sa, eq, sq, ⟨fs', k0⟩, k1, k2, k3, k4, k5, k6, k7, k8, k9, k10⟩ := hc.net.get hN.sz
  have e1 : C_X1_isIn (i32 v) 0 2 = some (i32 (tr01 (inR v 0 2))) := C_isIn (lo := 0) (hi := 2) hv (by decide) (by decide)
  unfold T_X1_edge C_X1_edge sp_edge
  rw [g0]
  refine OpO.let (OpO.edge hc hi (fun hn => by rw [ifc_pos hn]; rfl) (fun y1 => ?_))
  rw [ifc_neg (fun z => z y1), e1]
  refine OpO.let (OpO.checkThat (by decide) (fun hn => by rw [ifc_pos hn]; rfl) (fun y2 => ?_))
  rw [ifc_neg (fun z => z y2)]
  refine OpO.fin rfl ?_
  obtain ⟨k, rfl⟩ : ∃ k : Nat, i = k := ⟨i.toNat, by have := y1.1; omega⟩
  obtain ⟨q1, q2, q3, q4, q5⟩ := k9 k (by have := y1.2; omega)
  rw [g1]
  refine Rt.let ?_
  rw [k3]
  refine Rt.let ?_
  rw [q1]
  refine Rt.let ?_
  rw [C_propE (N := A.1) (k := k) q2 q3 q4 q5 y2.1 y2.2]
  exact Rt.let (Rt.some ⟨rfl, rfl⟩)
theorem P_node {i v : Int} (hc : cRo S x A n p dq tx j b h) (hi : rng i) (hv : rng v) (hF : 4294967296 < F) : OpO (fun k => T_X1_node F k S x (i32 i) (i32 v)) (C_X1_node F S x (i32 i) (i32 v)) (ec 1 2 0 (sp_node A i v).1) S (Qr A (sp_node A i v)) := by
  obtain ⟨⟨fs, g0⟩, g1, -⟩ := hc.g
  have e1 : C_X1_isIn (i32 v) 0 2 = some (i32 (tr01 (inR v 0 2))) := C_isIn (lo := 0) (hi := 2) hv (by decide) (by decide)
  unfold T_X1_node C_X1_node sp_node
  rw [g0]
  refine OpO.let (OpO.node hc hi (fun hn => by rw [ifc_pos hn]; rfl) (fun y1 => ?_))
  rw [ifc_neg (fun z => z y1), e1]
  refine OpO.let (OpO.checkThat (by decide) (fun hn => by rw [ifc_pos hn]; rfl) (fun y2 => ?_))
  rw [ifc_neg (fun z => z y2)]
  refine OpO.fin rfl ?_
  obtain ⟨k, rfl⟩ : ∃ k : Nat, i = k := ⟨i.toNat, by have := y1.1; omega⟩
  rw [C_propN hc (by have := y1.2; omega) y2.1 y2.2 hF]
  exact Rt.let (Rt.some ⟨rfl, rfl⟩)
theorem P_stretch {i v : Int} (hc : cRo S x A n p dq tx j b h) (hi : rng i) (hv : rng v) : OpO (fun k => T_X1_stretch k S x (i32 i) (i32 v)) (C_X1_stretch S x (i32 i) (i32 v)) (ec 1 2 0 (sp_stretch A i v).1) S (Qr A (sp_stretch A i v)) := by
  obtain ⟨⟨fs, g0⟩, g1, -⟩ := hc.g
  have hN := hc.1.1
  obtain ⟨wa, ta, ea, sa, eq, sq, ⟨fs', k0⟩, k1, k2, k3, k4, k5, k6, k7, k8, k9, k10⟩ := hc.net.get hN.sz
  have e1 : C_X1_isIn (i32 v) 0 2 = some (i32 (tr01 (inR v 0 2))) := C_isIn (lo := 0) (hi := 2) hv (by decide) (by decide)
  unfold T_X1_stretch C_X1_stretch sp_stretch
  rw [g0]
  refine OpO.let (OpO.stretch hc hi (fun hn => by rw [ifc_pos hn]; rfl) (fun y1 => ?_))
  rw [ifc_neg (fun z => z y1), e1]
  refine OpO.let (OpO.checkThat (by decide) (fun hn => by rw [ifc_pos hn]; rfl) (fun y2 => ?_))
  rw [ifc_neg (fun z => z y2)]
  refine OpO.fin rfl ?_
  obtain ⟨k, rfl⟩ : ∃ k : Nat, i = k := ⟨i.toNat, by have := y1.1; omega⟩
  obtain ⟨q1, q2, q3, q4, q5⟩ := k10 k (by have := y1.2; omega)
  rw [g1]
  refine Rt.let ?_
  rw [k4]
  refine Rt.let ?_
  rw [q1]
  refine Rt.let ?_
  rw [C_propS (N := A.1) (k := k) q2 q3 q4 q5 y2.1 y2.2]
  exact Rt.let (Rt.some ⟨rfl, rfl⟩)
theorem P_distance {i v : Int} (hc : cRo S x A n p dq tx j b h) (hi : rng i) (hv : rng v) : OpO (fun k => T_X1_distance k S x (i32 i) (i32 v)) (C_X1_distance S x (i32 i) (i32 v)) (ec 1 0 0 (sp_distance A i v).1) S (Qr A (sp_distance A i v)) := by
  obtain ⟨⟨fs, g0⟩, g1, g2, -⟩ := hc.g
  have hN := hc.1.1
  obtain ⟨D, _, _, _, _, hpl⟩ := hc.2.2.1.pl
  unfold T_X1_distance C_X1_distance sp_distance
  rw [g0]
  refine OpO.let (OpO.node hc hi (fun hn => by rw [ifc_neg (fun z => hn z.1)]; rfl) (fun y1 => OpO.node hc hv (fun hn => by rw [ifc_neg (fun z => hn z.2)]; rfl) (fun y2 => ?_)))
  rw [ifc_pos ⟨y1, y2⟩]
  refine OpO.fin rfl ?_
  obtain ⟨k, rfl⟩ : ∃ k : Nat, i = k := ⟨i.toNat, by have := y1.1; omega⟩
  obtain ⟨l, rfl⟩ : ∃ k : Nat, v = k := ⟨v.toNat, by have := y2.1; omega⟩
  have dr := dN_rng hN k l
  rw [g2]
  refine Rt.let ?_
  rw [C_distance hN.sz hpl (by have := y1.2; omega) (by have := y2.2; omega)]
  rw [Int.toNat_natCast, Int.toNat_natCast]
  refine Rt.let (Rt.ite (fun z => ?_) (fun z => ?_))
  · rw [i_cFAR, i_le (by omega) (by omega) (by omega) (by omega)] at z
    exact Rt.some ⟨by rw [if_neg (by omega)]; rfl, rfl⟩
  · rw [i_cFAR, i_le (by omega) (by omega) (by omega) (by omega)] at z
    refine Rt.let ?_
    rw [C_distance hN.sz hpl (by have := y1.2; omega) (by have := y2.2; omega)]
    exact Rt.let (Rt.some ⟨by rw [if_pos (by omega)]; rfl, rfl⟩)
theorem P_next {i v : Int} (hc : cRo S x A n p dq tx j b h) (hi : rng i) (hv : rng v) (hF : 4294967296 < F) : OpO (fun k => T_X1_next F k S x (i32 i) (i32 v)) (C_X1_next F S x (i32 i) (i32 v)) (ec 1 0 0 (sp_next A i v).1) S (Qr A (sp_next A i v)) := by
  obtain ⟨⟨fs, g0⟩, g1, g2, -⟩ := hc.g
  have hN := hc.1.1
  have z1 := hN.sz.1
  have z2 := hN.sz.2.1
  obtain ⟨D, _, _, _, _, hpl⟩ := hc.2.2.1.pl
  obtain ⟨wa, ta, ea, sa, eq, sq, ⟨fs', k0⟩, k1, k2, k3, k4, k5, k6, k7, k8, k9, k10⟩ := hc.net.get hN.sz
  unfold T_X1_next C_X1_next sp_next
  rw [g0]
  refine OpO.let (OpO.node hc hi (fun hn => by rw [ifc_neg (fun z => hn z.1)]; rfl) (fun y1 => OpO.node hc hv (fun hn => by rw [ifc_neg (fun z => hn z.2)]; rfl) (fun y2 => ?_)))
  rw [ifc_pos ⟨y1, y2⟩]
  refine OpO.fin rfl ?_
  obtain ⟨u, rfl⟩ : ∃ k : Nat, i = k := ⟨i.toNat, by have := y1.1; omega⟩
  obtain ⟨y, rfl⟩ : ∃ k : Nat, v = k := ⟨v.toNat, by have := y2.1; omega⟩
  have hu : u < nN A.1 := by have := y1.2; omega
  have hy : y < nN A.1 := by have := y2.2; omega
  have dr := dN_rng hN u y
  rw [Int.toNat_natCast, Int.toNat_natCast]
  show Rt (C_X1_next_15 F S x (i32 u) (i32 y) F (i32 (-1)) (i32 0)) _
  refine Rt.loop (ι := Nat) (fun k c q => q = i32 k ∧ k ≤ eN A.1 ∧ (k ≠ 0 → u ≠ y ∧ dN A.1 u y < 100000) ∧ ∃ best : Int, c = i32 best ∧ -1 ≤ best ∧ best < 8 ∧ best = (A.1.2.1.take k).foldl (nxS (dN A.1) u y) (-1)) (fun k => eN A.1 - k) ?_ F 0 _ _ ⟨rfl, by omega, fun z => absurd rfl z, -1, rfl, by omega, by omega, rfl⟩ (by omega)
  rintro n0 k _ _ ⟨rfl, hk, hok, best, rfl, hb1, hb2, hbest⟩ ih
  have fin : best = nxA A.1 u y → Rt (some (i32 best)) (Qr A (yes A (nxA A.1 u y))) := fun e => Rt.some ⟨by rw [e]; rfl, rfl⟩
  unfold C_X1_next_15
  rw [g1]
  refine Rt.let ?_
  rw [k3]
  refine Rt.let ?_
  rw [k6]
  refine Rt.let (Rt.ite (fun z => ?_) (fun z => ?_))
  · rw [i_le (by omega) (by omega) (by omega) (by omega)] at z
    obtain rfl : k = eN A.1 := by omega
    refine fin ?_
    unfold nxA
    rw [hbest, List.take_of_length_le (show A.1.2.1.length ≤ eN A.1 from Nat.le_refl _)]
    by_cases hcc : u ≠ y ∧ dN A.1 u y < 100000
    · rw [if_pos hcc]
    · rw [if_neg hcc]
      have : eN A.1 = 0 := Classical.byContradiction (fun z => hcc (hok z))
      rw [List.length_eq_zero_iff.mp this]; rfl
  rw [i_le (by omega) (by omega) (by omega) (by omega)] at z
  have hk' : k < eN A.1 := by omega
  refine Rt.ite (fun e => ?_) (fun e => ?_)
  · rw [i_eq (by omega) (by omega) (by omega) (by omega)] at e
    have k0 : k = 0 := Classical.byContradiction (fun z => (hok z).1 (by omega))
    subst k0
    refine fin ?_
    unfold nxA
    rw [hbest, if_neg (fun z => z.1 (by omega))]; rfl
  rw [i_eq (by omega) (by omega) (by omega) (by omega)] at e
  rw [g2]
  refine Rt.let ?_
  rw [C_distance hN.sz hpl hu hy]
  refine Rt.let (Rt.ite (fun e2 => ?_) (fun e2 => ?_))
  · rw [i_cFAR, i_le (by omega) (by omega) (by omega) (by omega)] at e2
    have k0 : k = 0 := Classical.byContradiction (fun z => by have := (hok z).2; omega)
    subst k0
    refine fin ?_
    unfold nxA
    rw [hbest, if_neg (fun z => by have := z.2; omega)]; rfl
  rw [i_cFAR, i_le (by omega) (by omega) (by omega) (by omega)] at e2
  have ek : ed A.1 k = A.1.2.1[k]'hk' := getD_at hk'
  obtain ⟨a1, a2, a3, a4, a5⟩ := hN.2.2.2.2.1 k hk'
  obtain ⟨q1, q2, q3, q4, q5⟩ := k9 k hk'
  have nr := nxS_rng (D := dN A.1) (x := u) (y := y) ⟨hb1, hb2⟩ (show (ed A.1 k).1 < 8 ∧ (ed A.1 k).2.1 < 8 by omega)
  have nxt : ∀ best' : Int, best' = nxS (dN A.1) u y best (ed A.1 k) → Rt (C_X1_next_159 F (C_X1_next_15 F S x (i32 u) (i32 y) n0) S x (i32 u) (i32 y) (i32 k) (i32 best')) (Qr A (yes A (nxA A.1 u y))) := by
    intro best' hb'
    unfold C_X1_next_159
    rw [i_c1, i_add]
    refine Rt.let (ih (k + 1) _ _ ⟨rfl, by omega, fun _ => ⟨by omega, by omega⟩, best', rfl, by omega, by omega, ?_⟩ (by omega))
    rw [List.take_succ_eq_append_getElem hk', List.foldl_append, ← hbest, ← ek]
    exact hb'
  have at94 : ∀ w : Int, -1 ≤ w → w < nN A.1 → w = (if (ed A.1 k).1 = u then ((ed A.1 k).2.1 : Int) else if (ed A.1 k).2.1 = u then ((ed A.1 k).1 : Int) else -1) → Rt (C_X1_next_94 F (C_X1_next_15 F S x (i32 u) (i32 y) n0) S x (i32 u) (i32 y) (i32 best) (i32 k) (eq k) (i32 w)) (Qr A (yes A (nxA A.1 u y))) := by
    intro w w1 w2 hw
    have hS : nxS (dN A.1) u y best (ed A.1 k) = if w ≠ -1 ∧ (ed A.1 k).2.2 + dN A.1 w.toNat y = dN A.1 u y ∧ (best = -1 ∨ w < best) then w else best := by unfold nxS; simp only; rw [← hw]
    unfold C_X1_next_94
    refine Rt.ite (fun e3 => ?_) (fun e3 => ?_)
    · rw [show (-1 : Int32) = i32 (-1) from rfl, i_eq (by omega) (by omega) (by omega) (by omega)] at e3
      unfold C_X1_next_134 C_X1_next_135 C_X1_next_158
      rw [if_pos rfl]
      exact nxt best (by rw [hS, if_neg (fun z => z.1 e3)])
    · rw [show (-1 : Int32) = i32 (-1) from rfl, i_eq (by omega) (by omega) (by omega) (by omega)] at e3
      obtain ⟨w', rfl⟩ : ∃ m : Nat, w = m := ⟨w.toNat, by omega⟩
      have dr2 := dN_rng hN w' y
      rw [Int.toNat_natCast] at hS
      rw [q5]
      refine Rt.let ?_
      rw [g2]
      refine Rt.let ?_
      rw [C_distance hN.sz hpl (by omega) hy]
      refine Rt.let (Rt.let ?_)
      rw [C_distance hN.sz hpl hu hy, i_add]
      refine Rt.let (Rt.ite (fun e4 => ?_) (fun e4 => ?_))
      · rw [i_eq (by omega) (by omega) (by omega) (by omega)] at e4
        unfold C_X1_next_135 C_X1_next_153 C_X1_next_158
        rw [if_neg (by decide)]
        refine Rt.ite (fun e5 => ?_) (fun e5 => Rt.ite (fun e6 => ?_) (fun e6 => ?_))
        · rw [show (-1 : Int32) = i32 (-1) from rfl, i_eq (by omega) (by omega) (by omega) (by omega)] at e5
          exact nxt _ (by rw [hS, if_pos ⟨e3, e4, Or.inl e5⟩])
        · rw [show (-1 : Int32) = i32 (-1) from rfl, i_eq (by omega) (by omega) (by omega) (by omega)] at e5
          rw [i_le (by omega) (by omega) (by omega) (by omega)] at e6
          exact nxt _ (by rw [hS, if_neg (fun z => by rcases z.2.2 with q | q; exact e5 q; omega)])
        · rw [i_le (by omega) (by omega) (by omega) (by omega)] at e6
          exact nxt _ (by rw [hS, if_pos ⟨e3, e4, Or.inr (by omega)⟩])
      · rw [i_eq (by omega) (by omega) (by omega) (by omega)] at e4
        unfold C_X1_next_134 C_X1_next_135 C_X1_next_158
        rw [if_pos rfl]
        exact nxt best (by rw [hS, if_neg (fun z => e4 z.2.1)])
  refine Rt.let (Rt.let ?_)
  rw [k3]
  refine Rt.let ?_
  rw [q1]
  refine Rt.let ?_
  rw [q3]
  refine Rt.let (Rt.ite (fun e3 => ?_) (fun e3 => ?_))
  · rw [i_eq (by omega) (by omega) (by omega) (by omega)] at e3
    rw [q4]
    exact Rt.let (at94 _ (by omega) (by omega) (by rw [if_pos (by omega)]))
  · rw [i_eq (by omega) (by omega) (by omega) (by omega)] at e3
    rw [q4]
    refine Rt.let (Rt.ite (fun e4 => ?_) (fun e4 => ?_))
    · rw [i_eq (by omega) (by omega) (by omega) (by omega)] at e4
      exact Rt.let (at94 _ (by omega) (by omega) (by rw [if_neg (by omega), if_pos (by omega)]))
    · rw [i_eq (by omega) (by omega) (by omega) (by omega)] at e4
      exact at94 (-1) (by omega) (by omega) (by rw [if_neg (by omega), if_neg (by omega)])
end TL
