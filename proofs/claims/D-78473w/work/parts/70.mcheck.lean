/-! THE MODEL's CHECKSUM -/
section MK2
variable {σ : MS} {N : Net} {F : Nat} {A : Ab} {w : Nat → Int}
theorem M_mix_eq (v : Int) : M_mix σ ((i32 v).toInt64) = some (sL σ 5 (mx1 (mL σ 5) v)) := rfl
theorem bstA.kp {τ : MS} {e : Nat} {x : Fq} {h : Int} {iS lS aS bS : List Nat} (hb : bstA σ e x h) (hk : kp iS lS aS bS σ τ) (h4 : 4 ∉ iS := by decide) (h0 : 0 ∉ lS := by decide) (h1 : 1 ∉ lS := by decide) (h2 : 2 ∉ lS := by decide) : bstA τ e x h :=
  ⟨by rw [hk.1 4 h4]; exact hb.1, by rw [hk.2.1 0 h0]; exact hb.2.1, by rw [hk.2.1 1 h1]; exact hb.2.2.1, by rw [hk.2.1 2 h2]; exact hb.2.2.2⟩
theorem kL5 {τ : MS} {v : Int64} : kp [] [5] [] [] τ (sL τ 5 v) := kp.sL
abbrev kpM : MS → MS → Prop := kp [3, 4] [0, 1, 2, 3, 4, 5] [5] [0, 1, 2, 3, 4, 5]
theorem M_mixCenters_eq (hN : mN σ N) (hf : far (nN N) (mA σ 4) (dN N)) (hc : canN N) (hF : 4294967296 < F) : Rt (M_mixCenters F σ) (fun τ => kpM σ τ ∧ mL τ 5 = hS (mL σ 5) (cenL N)) := by
  have z2 := hN.2.sz.2.1
  have hw9 := wS_ok hN.2 (s := 0) (by omega) (by omega)
  obtain ⟨υ, u1, u2, u3⟩ := M_weighs_eq 0 hN (show 8 < F by omega)
  have hI : lcI N (wS N 0) υ := ⟨hN.kp u2, by rw [u2.2.2.1 4 (by decide)]; exact hf, u3⟩
  rw [wS_0] at hw9 hI
  unfold M_mixCenters
  rw [M_many_eq hN]
  refine Rt.let (Rt.let ?_)
  rw [i_c1, i_c31, i_all hN.2]
  show Rt ((M_weighs F σ (i32 0)) >>= _) _
  rw [u1]
  refine Rt.let (Rt.bind (M_centers_eq hI hc.2 hw9 hc.1 (allN_lt hN.2) (by omega)) ?_)
  rintro φ ⟨k1', e, x, b1, b2, b3⟩
  obtain ⟨ox, hr⟩ := bstA_rng (τ := φ) hN.2 hc.2 hw9 b2 b3
  have xq := ox.2.1
  have x0 := ox.1
  have hIf := hI.kp k1'
  have h5 : mL φ 5 = mL σ 5 := by rw [k1'.2.1 5 (by decide), u2.2.1 5 (by decide)]
  show Rt ((M_reduced F (mL φ 2) (mL φ 1) (i32 0)) >>= _) _
  rw [b1.2.2.2, b1.2.2.1, M_reduced_eq hr.1 (by omega) x0 (by omega) (by omega) (by omega) (by omega), valT_of b3 (fun _ _ _ _ => hgt_nn _ _ _ _ _)]
  refine Rt.let ?_
  rw [M_mix_eq]
  refine Rt.let ?_
  show Rt ((M_reduced F (mL φ 2) (mL φ 1) (i32 1)) >>= _) _
  rw [b1.2.2.2, b1.2.2.1, M_reduced_eq hr.1 (by omega) x0 (by omega) (by omega) (by omega) (by omega), valT_of b3 (fun _ _ _ _ => hgt_nn _ _ _ _ _)]
  refine Rt.let ?_
  rw [M_mix_eq]
  refine Rt.let ?_
  generalize hL0 : [valT N (hgt N (wN N) (allN N)) 0, valT N (hgt N (wN N) (allN N)) 1] = L0
  have hs0 : mL (sL (sL φ 5 (mx1 (mL φ 5) (valT N (hgt N (wN N) (allN N)) 0))) 5 (mx1 (mL (sL φ 5 (mx1 (mL φ 5) (valT N (hgt N (wN N) (allN N)) 0))) 5) (valT N (hgt N (wN N) (allN N)) 1))) 5 = hS (mL σ 5) L0 := by
    rw [← hL0, ← h5]; rfl
  have hk0 : kp [] [5] [] [] φ (sL (sL φ 5 (mx1 (mL φ 5) (valT N (hgt N (wN N) (allN N)) 0))) 5 (mx1 (mL (sL φ 5 (mx1 (mL φ 5) (valT N (hgt N (wN N) (allN N)) 0))) 5) (valT N (hgt N (wN N) (allN N)) 1))) := kp.tr kL5 kL5
  generalize sL (sL φ 5 (mx1 (mL φ 5) (valT N (hgt N (wN N) (allN N)) 0))) 5 (mx1 (mL (sL φ 5 (mx1 (mL φ 5) (valT N (hgt N (wN N) (allN N)) 0))) 5) (valT N (hgt N (wN N) (allN N)) 1)) = φ0 at *
  rw [i_c0]
  -- the center
  refine Rt.loop (ι := Nat) (fun k y τ => y = i32 k ∧ k ≤ 3 ∧ kp [] [5] [] [] φ τ ∧ mL τ 5 = hS (mL σ 5) (L0 ++ rL k (fun w => cenT N (hgt N (wN N) (allN N)) w))) (fun k => 3 - k) ?_ F 0 _ _ ⟨rfl, by omega, hk0, by rw [hs0, show rL 0 (fun w => cenT N (hgt N (wN N) (allN N)) w) = [] from rfl, List.append_nil]⟩ (by omega)
  rintro n k _ τ ⟨rfl, hk, hkt, hst⟩ ih
  have bt1 := b1.kp hkt
  unfold M_mixCenters_55
  simp (disch := omega) only [i_c0, i_c1, i_c2, i_c3, i_c4, i_c5, i_c6, i_c8, i_c9, i_c10, i_c12, i_c16, i_c17, i_c18, i_c31, i_c32, i_c45, i_c48, i_c50, i_c54, i_c55, i_c57, i_c58, i_c59, i_c61, i_c64, i_c73, i_c118, i_c119, i_c120, i_c126, i_c365, i_c1000, i_cFAR, i_le, i_lt, i_eq]
  refine Rt.ite (fun h => ?_) (fun h => ?_)
  rotate_left
  · rw [M_centerTold_eq bt1 ox b3 (by omega) (by omega) hF]
    refine Rt.let ?_
    rw [M_mix_eq]
    refine Rt.let (Rt.let ?_)
    rw [i_add]
    refine ih (k + 1) _ _ ⟨rfl, by omega, kp.tr hkt kL5, ?_⟩ (by omega)
    rw [mL_sL, if_pos rfl, hst, rL_succ, ← List.append_assoc, hS_snoc]
  obtain rfl : k = 3 := by omega
  clear ih
  -- the critical nodes
  unfold M_mixCenters_76
  have hIt := hIf.kp hkt
  refine Rt.bind (M_criticalNow_eq hIt hc.2 hw9 (allN_lt hN.2) b3.1 bt1 ox b3.2.1.2.2 hF) ?_
  rintro _ rfl
  rw [crtA_of hw9.ok0 b3, M_mix_eq]
  refine Rt.let ?_
  have hs1 : mL (sL τ 5 (mx1 (mL τ 5) (crtA N (wN N) (allN N)))) 5 = hS (mL σ 5) (L0 ++ rL 3 (fun w => cenT N (hgt N (wN N) (allN N)) w) ++ [(crtA N (wN N) (allN N) : Int)]) := by
    rw [mL_sL, if_pos rfl, hst, hS_snoc]
  generalize hL1 : L0 ++ rL 3 (fun w => cenT N (hgt N (wN N) (allN N)) w) ++ [(crtA N (wN N) (allN N) : Int)] = L1 at hs1
  have hk1 : kp [] [5] [] [] φ (sL τ 5 (mx1 (mL τ 5) (crtA N (wN N) (allN N)))) := kp.tr hkt kL5
  generalize sL τ 5 (mx1 (mL τ 5) (crtA N (wN N) (allN N))) = φ1 at *
  refine Rt.bind (M_medians_eq (hIf.kp hk1) hc.2 hw9 hc.1 (by omega)) ?_
  rintro χ ⟨k2', e', x', c1, c2, c3⟩
  have hIc := (hIf.kp hk1).kp k2'
  have hsc : mL χ 5 = hS (mL σ 5) L1 := by rw [k2'.2.1 5 (by decide)]; exact hs1
  rw [i_c0]
  refine Rt.loop (ι := Nat) (fun k y τ => y = i32 k ∧ k ≤ 5 ∧ kp [] [5] [] [] χ τ ∧ mL τ 5 = hS (mL σ 5) (L1 ++ rL k (fun w => medA N (wN N) w))) (fun k => 5 - k) ?_ F 0 _ _ ⟨rfl, by omega, kp.rf, by rw [hsc, show rL 0 (fun w => medA N (wN N) w) = [] from rfl, List.append_nil]⟩ (by omega)
  rintro n k _ ψ ⟨rfl, hk, hkp, hsp⟩ ih
  have bt2 := c1.kp hkp
  unfold M_mixCenters_92
  simp (disch := omega) only [i_c0, i_c1, i_c2, i_c3, i_c4, i_c5, i_c6, i_c8, i_c9, i_c10, i_c12, i_c16, i_c17, i_c18, i_c31, i_c32, i_c45, i_c48, i_c50, i_c54, i_c55, i_c57, i_c58, i_c59, i_c61, i_c64, i_c73, i_c118, i_c119, i_c120, i_c126, i_c365, i_c1000, i_cFAR, i_le, i_lt, i_eq]
  refine Rt.ite (fun h => ?_) (fun h => ?_)
  rotate_left
  · rw [M_medianTold_eq hN.2 hc.2 hw9 bt2 c2 c3 (by omega) (by omega) hF]
    refine Rt.let ?_
    rw [M_mix_eq]
    refine Rt.let (Rt.let ?_)
    rw [i_add]
    refine ih (k + 1) _ _ ⟨rfl, by omega, kp.tr hkp kL5, ?_⟩ (by omega)
    rw [mL_sL, if_pos rfl, hsp, rL_succ, ← List.append_assoc, hS_snoc]
  obtain rfl : k = 5 := by omega
  clear ih
  -- two centers
  unfold M_mixCenters_113
  have hIp := hIc.kp hkp
  refine Rt.bind (M_laysBound_eq (k := 2) hIp.1 hIp.2.1 hc.2 hc.1 (by omega) (by omega) hF) ?_
  rintro ω ⟨k3', l1, l2, l3, b, l4, l5⟩
  obtain ⟨d1, d2, d3, d4, d5, d6⟩ := l4
  rw [wS_0] at l1 l5
  have hso : mL ω 5 = hS (mL σ 5) (L1 ++ rL 5 (fun w => medA N (wN N) w)) := by rw [k3'.2.1 5 (by decide)]; exact hsp
  show Rt ((M_reduced F (mL ω 3) (mL ω 4) (i32 0)) >>= _) _
  rw [d1, d2, M_reduced_eq d5 (by omega) d3 (by omega) (by omega) (by omega) (by omega), kR_rdc l5 d5]
  refine Rt.let ?_
  rw [M_mix_eq]
  refine Rt.let ?_
  show Rt ((M_reduced F (mL ω 3) (mL ω 4) (i32 1)) >>= _) _
  rw [d1, d2, M_reduced_eq d5 (by omega) d3 (by omega) (by omega) (by omega) (by omega), kR_rdc l5 d5]
  refine Rt.let ?_
  rw [M_mix_eq]
  refine Rt.let ?_
  have hs2 : mL (sL (sL ω 5 (mx1 (mL ω 5) (rdc (kR N (2 : Int).toNat).1 (kR N (2 : Int).toNat).2 0))) 5 (mx1 (mL (sL ω 5 (mx1 (mL ω 5) (rdc (kR N (2 : Int).toNat).1 (kR N (2 : Int).toNat).2 0))) 5) (rdc (kR N (2 : Int).toNat).1 (kR N (2 : Int).toNat).2 1))) 5 = hS (mL σ 5) (L1 ++ rL 5 (fun w => medA N (wN N) w) ++ [rdc (kR N 2).1 (kR N 2).2 0, rdc (kR N 2).1 (kR N 2).2 1]) := by
    rw [hS_app, ← hso]; rfl
  have hk2 : kp [] [5] [] [] ω (sL (sL ω 5 (mx1 (mL ω 5) (rdc (kR N (2 : Int).toNat).1 (kR N (2 : Int).toNat).2 0))) 5 (mx1 (mL (sL ω 5 (mx1 (mL ω 5) (rdc (kR N (2 : Int).toNat).1 (kR N (2 : Int).toNat).2 0))) 5) (rdc (kR N (2 : Int).toNat).1 (kR N (2 : Int).toNat).2 1))) := kp.tr kL5 kL5
  generalize sL (sL ω 5 (mx1 (mL ω 5) (rdc (kR N (2 : Int).toNat).1 (kR N (2 : Int).toNat).2 0))) 5 (mx1 (mL (sL ω 5 (mx1 (mL ω 5) (rdc (kR N (2 : Int).toNat).1 (kR N (2 : Int).toNat).2 0))) 5) (rdc (kR N (2 : Int).toNat).1 (kR N (2 : Int).toNat).2 1)) = ω2 at *
  generalize hL2 : L1 ++ rL 5 (fun w => medA N (wN N) w) ++ [rdc (kR N 2).1 (kR N 2).2 0, rdc (kR N 2).1 (kR N 2).2 1] = L2 at hs2
  have kall : kpM σ ω := kp.tr u2.le (kp.tr k1'.le (kp.tr hk1.le (kp.tr k2'.le (kp.tr hkp.le k3'.le))))
  have cl : cenL N = L2 ++ rLL (eN N) 4 (fun e w => corA N (wN N) e 1 w) := by rw [← hL2, ← hL1, ← hL0]; rfl
  rw [i_c0]
  -- the corners
  refine Rt.loop (ι := Nat) (fun e y τ => y = i32 e ∧ e ≤ eN N ∧ kp [3] [5] [] [0, 1] ω τ ∧ mL τ 5 = hS (mL σ 5) (L2 ++ rLL e 4 (fun e w => corA N (wN N) e 1 w))) (fun e => eN N - e) ?_ F 0 _ _ ⟨rfl, by omega, hk2.le, by rw [hs2, show rLL 0 4 (fun e w => corA N (wN N) e 1 w) = [] from rfl, List.append_nil]⟩ (by omega)
  rintro n g _ ξ ⟨rfl, hg, hkx, hsx⟩ ih
  have hIx := l1.kp hkx
  unfold M_mixCenters_154
  rw [M_edgeMany_eq hIx.1]
  simp (disch := omega) only [Option.bind_eq_bind, Option.bind_some, i_le, i_lt, i_eq]
  refine Rt.ite (fun h => ?_) (fun h => ?_)
  · obtain rfl : g = eN N := by omega
    exact Rt.some ⟨kp.tr kall hkx.le, by rw [hsx, cl]⟩
  have hg' : g < eN N := by omega
  rw [i_c0]
  refine Rt.loop (ι := Nat) (fun k y τ => y = i32 k ∧ k ≤ 4 ∧ kp [3] [5] [] [0, 1] ω τ ∧ mL τ 5 = hS (mL σ 5) (L2 ++ rLL g 4 (fun e w => corA N (wN N) e 1 w) ++ rL k (fun w => corA N (wN N) g 1 w))) (fun k => 4 - k) ?_ F 0 _ _ ⟨rfl, by omega, hkx, by rw [hsx, show rL 0 (fun w => corA N (wN N) g 1 w) = [] from rfl, List.append_nil]⟩ (by omega)
  rintro n2 k _ ζ ⟨rfl, hk, hkz, hsz⟩ ih2
  have hIz := l1.kp hkz
  unfold M_mixCenters_164
  simp (disch := omega) only [i_c0, i_c1, i_c2, i_c3, i_c4, i_c5, i_c6, i_c8, i_c9, i_c10, i_c12, i_c16, i_c17, i_c18, i_c31, i_c32, i_c45, i_c48, i_c50, i_c54, i_c55, i_c57, i_c58, i_c59, i_c61, i_c64, i_c73, i_c118, i_c119, i_c120, i_c126, i_c365, i_c1000, i_cFAR, i_le, i_lt, i_eq]
  refine Rt.ite (fun h2 => ?_) (fun h2 => ?_)
  · obtain rfl : k = 4 := by omega
    unfold M_mixCenters_187
    refine Rt.let ?_
    rw [i_c1, i_add]
    exact ih (g + 1) _ _ ⟨rfl, by omega, hkz, by rw [hsz, rLL_succ, List.append_assoc]⟩ (by omega)
  · refine Rt.bind (M_cornerTold_eq hIz hw9 hc.2 hg' (i := 1) (what := k) (by omega) (by omega) (by omega) (by omega) hF) ?_
    rintro _ ⟨ρ, r, rfl, r1, r2⟩
    rw [corA_of hw9.ok0 r2, M_mix_eq]
    refine Rt.let (Rt.let ?_)
    rw [i_add]
    refine ih2 (k + 1) _ _ ⟨rfl, by omega, kp.tr hkz (kp.tr r1.le kL5.le), ?_⟩ (by omega)
    show mL (sL ρ 5 (mx1 (mL ρ 5) _)) 5 = _
    rw [mL_sL, if_pos rfl, r1.2.1 5 (by decide), hsz, rL_succ, ← List.append_assoc, hS_snoc]
theorem cntN_rng {v : Int} (hN : okN N) : True := trivial
theorem M_checksum_ok (hR : mR σ A) (hF : 4294967296 < F) : Rt (M_checksum F σ) (fun v => v.1 = sp_checksum A ∧ mR v.2 A ∧ mI v.2 1 = i32 0) := by
  have z1 := hR.1.2.sz.1
  have z2 := hR.1.2.sz.2.1
  have z3 := hR.1.2.sz.2.2
  have hkk : kpT σ (sL (sI σ 1 0) 5 18473) := kp.tr kp.sI kp.sL
  have hm1 : mI (sL (sI σ 1 0) 5 18473) 1 = i32 0 := rfl
  have hms : mL (sL (sI σ 1 0) 5 18473) 5 = 18473 := rfl
  unfold M_checksum
  refine Rt.let (Rt.let ?_)
  generalize sL (sI σ 1 0) 5 18473 = σ1 at *
  have hR1 := hR.kp hkk
  clear hR hkk
  have kpK : ∀ {τ υ : MS}, kp [] [5] [4] [] τ υ → kpT τ υ := fun h => h.le
  rw [i_c0]
  refine Rt.loop (ι := Nat) (fun k y τ => y = i32 k ∧ k ≤ 4 ∧ kp [] [5] [4] [] σ1 τ ∧ mL τ 5 = hS 18473 (rL k (fun w => cntN A.1 w))) (fun k => 4 - k) ?_ F 0 _ _ ⟨rfl, by omega, kp.rf, hms⟩ (by omega)
  rintro n k _ τ ⟨rfl, hk, hkt, hst⟩ ih
  have hNt := hR1.1.kp hkt
  unfold M_checksum_14
  simp (disch := omega) only [i_c0, i_c1, i_c2, i_c3, i_c4, i_c5, i_c6, i_c8, i_c9, i_c10, i_c12, i_c16, i_c17, i_c18, i_c31, i_c32, i_c45, i_c48, i_c50, i_c54, i_c55, i_c57, i_c58, i_c59, i_c61, i_c64, i_c73, i_c118, i_c119, i_c120, i_c126, i_c365, i_c1000, i_cFAR, i_le, i_lt, i_eq]
  refine Rt.ite (fun h => ?_) (fun h => ?_)
  rotate_left
  · refine Rt.bind (M_counted_eq (v := k) hNt (by omega) (by omega) hF) ?_
    rintro ⟨v, υ⟩ ⟨rfl, q⟩
    rw [M_mix_eq]
    refine Rt.let (Rt.let ?_)
    rw [i_add]
    refine ih (k + 1) _ _ ⟨rfl, by omega, kp.tr hkt (kp.tr q.le kL5.le), ?_⟩ (by omega)
    show mL (sL υ 5 (mx1 (mL υ 5) _)) 5 = _
    rw [mL_sL, if_pos rfl, q.2.1 5 (by decide), hst, rL_succ, hS_snoc]
  obtain rfl : k = 4 := by omega
  clear ih
  generalize hL1 : rL 4 (fun w => cntN A.1 w) = L1 at hst
  unfold M_checksum_35
  rw [i_c0]
  -- the nodes
  refine Rt.loop (ι := Nat) (fun i y τ => y = i32 i ∧ i ≤ nN A.1 ∧ kp [] [5] [4] [] σ1 τ ∧ mL τ 5 = hS 18473 (L1 ++ rLL i 3 (fun i w => ndW A.1 i w))) (fun i => nN A.1 - i) ?_ F 0 _ _ ⟨rfl, by omega, hkt, by rw [hst, show rLL 0 3 (fun i w => ndW A.1 i w) = [] from rfl, List.append_nil]⟩ (by omega)
  rintro n i _ τ ⟨rfl, hi, hkt, hst⟩ ih
  have hNt := hR1.1.kp hkt
  unfold M_checksum_37
  rw [M_many_eq hNt]
  simp (disch := omega) only [Option.bind_eq_bind, Option.bind_some, i_le, i_lt, i_eq]
  refine Rt.ite (fun h => ?_) (fun h => ?_)
  rotate_left
  · rw [i_c0]
    refine Rt.loop (ι := Nat) (fun k y τ => y = i32 k ∧ k ≤ 3 ∧ kp [] [5] [4] [] σ1 τ ∧ mL τ 5 = hS 18473 (L1 ++ rLL i 3 (fun i w => ndW A.1 i w) ++ rL k (fun w => ndW A.1 i w))) (fun k => 3 - k) ?_ F 0 _ _ ⟨rfl, by omega, hkt, by rw [hst, show rL 0 (fun w => ndW A.1 i w) = [] from rfl, List.append_nil]⟩ (by omega)
    rintro n2 k _ ζ ⟨rfl, hk, hkz, hsz⟩ ih2
    have hNz := hR1.1.kp hkz
    unfold M_checksum_47
    simp (disch := omega) only [i_c0, i_c1, i_c2, i_c3, i_c4, i_c5, i_c6, i_c8, i_c9, i_c10, i_c12, i_c16, i_c17, i_c18, i_c31, i_c32, i_c45, i_c48, i_c50, i_c54, i_c55, i_c57, i_c58, i_c59, i_c61, i_c64, i_c73, i_c118, i_c119, i_c120, i_c126, i_c365, i_c1000, i_cFAR, i_le, i_lt, i_eq]
    refine Rt.ite (fun h2 => ?_) (fun h2 => ?_)
    · obtain rfl : k = 3 := by omega
      unfold M_checksum_69
      refine Rt.let ?_
      rw [i_c1, i_add]
      exact ih (i + 1) _ _ ⟨rfl, by omega, hkz, by rw [hsz, rLL_succ, List.append_assoc]⟩ (by omega)
    · refine Rt.bind (M_nodeTold_eq (i := i) (v := k) hNz ⟨by omega, by omega⟩ (by omega) (by omega) hF) ?_
      rintro _ rfl
      rw [M_mix_eq]
      refine Rt.let (Rt.let ?_)
      rw [i_add]
      refine ih2 (k + 1) _ _ ⟨rfl, by omega, kp.tr hkz kL5.le, ?_⟩ (by omega)
      rw [mL_sL, if_pos rfl, hsz, rL_succ, ← List.append_assoc, hS_snoc]; rfl
  obtain rfl : i = nN A.1 := by omega
  clear ih
  generalize hL2 : L1 ++ rLL (nN A.1) 3 (fun i w => ndW A.1 i w) = L2 at hst
  unfold M_checksum_75
  rw [i_c0]
  -- the edges
  refine Rt.loop (ι := Nat) (fun i y τ => y = i32 i ∧ i ≤ eN A.1 ∧ kp [] [5] [4] [] σ1 τ ∧ mL τ 5 = hS 18473 (L2 ++ rLL i 3 (fun e w => edW A.1 e w))) (fun i => eN A.1 - i) ?_ F 0 _ _ ⟨rfl, by omega, hkt, by rw [hst, show rLL 0 3 (fun e w => edW A.1 e w) = [] from rfl, List.append_nil]⟩ (by omega)
  rintro n i _ τ ⟨rfl, hi, hkt, hst⟩ ih
  have hNt := hR1.1.kp hkt
  unfold M_checksum_77
  rw [M_edgeMany_eq hNt]
  simp (disch := omega) only [Option.bind_eq_bind, Option.bind_some, i_le, i_lt, i_eq]
  refine Rt.ite (fun h => ?_) (fun h => ?_)
  rotate_left
  · rw [i_c0]
    refine Rt.loop (ι := Nat) (fun k y τ => y = i32 k ∧ k ≤ 3 ∧ kp [] [5] [4] [] σ1 τ ∧ mL τ 5 = hS 18473 (L2 ++ rLL i 3 (fun e w => edW A.1 e w) ++ rL k (fun w => edW A.1 i w))) (fun k => 3 - k) ?_ F 0 _ _ ⟨rfl, by omega, hkt, by rw [hst, show rL 0 (fun w => edW A.1 i w) = [] from rfl, List.append_nil]⟩ (by omega)
    rintro n2 k _ ζ ⟨rfl, hk, hkz, hsz⟩ ih2
    have hNz := hR1.1.kp hkz
    unfold M_checksum_87
    simp (disch := omega) only [i_c0, i_c1, i_c2, i_c3, i_c4, i_c5, i_c6, i_c8, i_c9, i_c10, i_c12, i_c16, i_c17, i_c18, i_c31, i_c32, i_c45, i_c48, i_c50, i_c54, i_c55, i_c57, i_c58, i_c59, i_c61, i_c64, i_c73, i_c118, i_c119, i_c120, i_c126, i_c365, i_c1000, i_cFAR, i_le, i_lt, i_eq]
    refine Rt.ite (fun h2 => ?_) (fun h2 => ?_)
    · obtain rfl : k = 3 := by omega
      unfold M_checksum_109
      refine Rt.let ?_
      rw [i_c1, i_add]
      exact ih (i + 1) _ _ ⟨rfl, by omega, hkz, by rw [hsz, rLL_succ, List.append_assoc]⟩ (by omega)
    · rw [M_of_w (e := i) (v := k) hNz ⟨by omega, by omega⟩ (by omega) (by omega)]
      refine Rt.let ?_
      rw [M_mix_eq]
      refine Rt.let (Rt.let ?_)
      rw [i_add]
      refine ih2 (k + 1) _ _ ⟨rfl, by omega, kp.tr hkz kL5.le, ?_⟩ (by omega)
      rw [mL_sL, if_pos rfl, hsz, rL_succ, ← List.append_assoc, hS_snoc]; rfl
  obtain rfl : i = eN A.1 := by omega
  clear ih
  generalize hL3 : L2 ++ rLL (eN A.1) 3 (fun e w => edW A.1 e w) = L3 at hst
  unfold M_checksum_115
  rw [i_c0]
  -- the stretches
  refine Rt.loop (ι := Nat) (fun i y τ => y = i32 i ∧ i ≤ sN A.1 ∧ kp [] [5] [4] [] σ1 τ ∧ mL τ 5 = hS 18473 (L3 ++ rLL i 3 (fun k w => sdW A.1 k w))) (fun i => sN A.1 - i) ?_ F 0 _ _ ⟨rfl, by omega, hkt, by rw [hst, show rLL 0 3 (fun k w => sdW A.1 k w) = [] from rfl, List.append_nil]⟩ (by omega)
  rintro n i _ τ ⟨rfl, hi, hkt, hst⟩ ih
  have hNt := hR1.1.kp hkt
  unfold M_checksum_117
  rw [M_stretchMany_eq hNt]
  simp (disch := omega) only [Option.bind_eq_bind, Option.bind_some, i_le, i_lt, i_eq]
  refine Rt.ite (fun h => ?_) (fun h => ?_)
  rotate_left
  · rw [i_c0]
    refine Rt.loop (ι := Nat) (fun k y τ => y = i32 k ∧ k ≤ 3 ∧ kp [] [5] [4] [] σ1 τ ∧ mL τ 5 = hS 18473 (L3 ++ rLL i 3 (fun k w => sdW A.1 k w) ++ rL k (fun w => sdW A.1 i w))) (fun k => 3 - k) ?_ F 0 _ _ ⟨rfl, by omega, hkt, by rw [hst, show rL 0 (fun w => sdW A.1 i w) = [] from rfl, List.append_nil]⟩ (by omega)
    rintro n2 k _ ζ ⟨rfl, hk, hkz, hsz⟩ ih2
    have hNz := hR1.1.kp hkz
    unfold M_checksum_127
    simp (disch := omega) only [i_c0, i_c1, i_c2, i_c3, i_c4, i_c5, i_c6, i_c8, i_c9, i_c10, i_c12, i_c16, i_c17, i_c18, i_c31, i_c32, i_c45, i_c48, i_c50, i_c54, i_c55, i_c57, i_c58, i_c59, i_c61, i_c64, i_c73, i_c118, i_c119, i_c120, i_c126, i_c365, i_c1000, i_cFAR, i_le, i_lt, i_eq]
    refine Rt.ite (fun h2 => ?_) (fun h2 => ?_)
    · obtain rfl : k = 3 := by omega
      unfold M_checksum_149
      refine Rt.let ?_
      rw [i_c1, i_add]
      exact ih (i + 1) _ _ ⟨rfl, by omega, hkz, by rw [hsz, rLL_succ, List.append_assoc]⟩ (by omega)
    · rw [M_at_w (k := i) (v := k) hNz ⟨by omega, by omega⟩ (by omega) (by omega)]
      refine Rt.let ?_
      rw [M_mix_eq]
      refine Rt.let (Rt.let ?_)
      rw [i_add]
      refine ih2 (k + 1) _ _ ⟨rfl, by omega, kp.tr hkz kL5.le, ?_⟩ (by omega)
      rw [mL_sL, if_pos rfl, hsz, rL_succ, ← List.append_assoc, hS_snoc]; rfl
  obtain rfl : i = sN A.1 := by omega
  clear ih
  generalize hL4 : L3 ++ rLL (sN A.1) 3 (fun k w => sdW A.1 k w) = L4 at hst
  -- the centers, the lengths
  have fin : ∀ (υ : MS) (L : List Int), kpT σ1 υ → mI υ 1 = i32 0 → mL υ 5 = hS 18473 (L4 ++ L) → L = ifc (canN A.1) (cenL A.1) [] → Rt (M_checksum_166 F υ) (fun v => v.1 = sp_checksum A ∧ mR v.2 A ∧ mI v.2 1 = i32 0) := by
    intro υ L q1 q2 q3 q4
    have hRu := hR1.kp q1
    unfold M_checksum_166
    rw [hRu.2.2.1, M_mix_eq]
    refine Rt.let ?_
    rw [mI_sL, hRu.2.1.1, M_mix_eq]
    refine Rt.let (Rt.some ⟨?_, hRu.kp (kp.tr kL5 kL5), q2⟩)
    show mL (sL (sL υ 5 (mx1 (mL υ 5) (A.2.2.length : Int))) 5 (mx1 (mL (sL υ 5 (mx1 (mL υ 5) (A.2.2.length : Int))) 5) (A.2.1.length : Int))) 5 = _
    rw [mL_sL, if_pos rfl, mL_sL, if_pos rfl, q3]
    unfold sp_checksum chkL
    rw [hS_snoc, hS_snoc, hL1, hL2, hL3, hL4, q4]
  unfold M_checksum_155
  obtain ⟨υ, e1, e2, e3⟩ := M_canHave_eq hNt hF
  have m5 : mL υ 5 = hS 18473 L4 := by rw [e2.2.1 5 (by decide)]; exact hst
  have m1 : mI υ 1 = i32 0 := by rw [e2.1 1 (by decide), hkt.1 1 (by decide)]; exact hm1
  refine Rt.tst2 e1 (fun h2 => ?_) (fun h2 => ?_)
  · exact fin υ [] (kp.tr (kpK hkt) e2.le) m1 (by rw [m5, List.append_nil]) (by rw [ifc_neg h2])
  · refine Rt.bind (M_mixCenters_eq (hNt.kp e2) (e3 h2) h2 hF) ?_
    rintro φ ⟨q1, q2⟩
    refine fin φ (cenL A.1) (kp.tr (kpK hkt) (kp.tr e2.le q1.le)) (by rw [q1.1 1 (by decide)]; exact m1) ?_ (by rw [ifc_pos h2])
    rw [q2, m5, hS_app]
end MK2
