/-! THE CLASS's GROUPS and how many centers cover -/
section CL2
variable {S T : St} {b x p : Nat} {N : Net} {w : Nat → Int} {F : Nat} {j : Nat}
theorem C_greatest {a : Fq} {s k : Nat} (hN : okN N) (hw9 : okw9 (nN N) w) (hc : cnN N) (he : 0 < eN N) (ha : 0 ≤ a.1 ∧ a.1 ≤ 10177200000) (ha2 : 0 < a.2 ∧ a.2 ≤ 1000) (hF : 4294967296 < F) (hk : k ≤ 8) (hs : s < 2 ^ nN N) (hd : dv (atM (radF N w) a) (k + 1) s) (hS : plS j b S p x N w) :
    Rt (C_X3_greatest F S p (i32 s) (i32 k) (j64 a.1) (j64 a.2)) (fun v => ∃ T j' g, v = (i32 (g : Nat), T) ∧ frJ b p j j' S T ∧ plS j' b T p x N w ∧ gre (atM (radF N w) a) s k g) := by
  have t2 := two_n hN
  obtain ⟨D0, _, _, _, _, hpl⟩ := hS.pl
  obtain ⟨⟨fs, g0⟩, -⟩ := hpl.g
  obtain ⟨g, g1, g2, g3⟩ := hd
  unfold C_X3_greatest
  rw [g0]
  refine Rt.let ?_
  refine Rt.loop (ι := Nat) (fun t v U => v = i32 t ∧ sub t s ∧ (∀ q, sub q s → t < q → ¬ (atM (radF N w) a q ∧ dv (atM (radF N w) a) k (s ^^^ q))) ∧ ∃ j', frJ b p j j' S U ∧ plS j' b U p x N w) (fun t => t) ?_ F s _ _ ⟨rfl, sub_refl _, fun q hq hl => by have := sub_le hq; omega, j, frJ.rf hS.1, hS⟩ (by omega)
  rintro n t _ U ⟨rfl, ht, hno, j', fU, hU⟩ ih
  have tl : t ≤ s := sub_le ht
  have nxt : ∀ (V : St) (j2 : Nat), frJ b p j j2 S V → plS j2 b V p x N w → ¬ (atM (radF N w) a t ∧ dv (atM (radF N w) a) k (s ^^^ t)) → Rt (C_X3_greatest_30 F (C_X3_greatest_3 F p (i32 s) (i32 k) (j64 a.1) (j64 a.2) n) p (i32 s) (i32 k) (j64 a.1) (j64 a.2) (i32 t) V) (fun v => ∃ T j' g, v = (i32 (g : Nat), T) ∧ frJ b p j j' S T ∧ plS j' b T p x N w ∧ gre (atM (radF N w) a) s k g) := by
    intro V j2 fV hV hn
    have gt : g < t := by
      apply Classical.byContradiction
      intro hg
      by_cases e : g = t
      · rw [e] at g2 g3; exact hn ⟨g2, g3⟩
      · exact hno g g1 (by omega) ⟨g2, g3⟩
    unfold C_X3_greatest_30
    have e1 : i32 (t : Int) - 1 = i32 ((t - 1 : Nat) : Int) := by rw [i_c1, i_sub]; congr 1; omega
    rw [e1, i_and2]
    refine Rt.let (ih ((t - 1) &&& s) _ _ ⟨rfl, pred_sub _ _, fun q hq hl => ?_, j2, fV, hV⟩ (pred_lt (by omega)))
    by_cases e : q = t
    · rw [e]; exact hn
    · by_cases l : t < q
      · exact hno q hq l
      · have := pred_and ht hq (by omega); omega
  unfold C_X3_greatest_3
  refine Rt.bind (C_isAtM hN hw9 hc he (show t < 2 ^ nN N by omega) hU ha ha2 hF) ?_
  rintro _ ⟨V, rfl, v1, v2⟩
  dsimp only
  refine Rt.ite (fun z => ?_) (fun z => ?_)
  · rw [i_c0] at z
    exact nxt V 2 (fU.tr v1) v2 (fun q => tr01_n z q.1)
  · rw [i_c0] at z
    have hA := tr01_y z
    rw [i_xor2]
    refine Rt.bind (C_isDiv (a := a) hN hw9 hc he ha ha2 hF 12 k (s ^^^ t) 2 V (by omega) (by omega) (sub_lt (xr_sub ht) hs) v2) ?_
    rintro _ ⟨X, j2, rfl, x1, x2⟩
    dsimp only
    refine Rt.ite (fun y => ?_) (fun y => ?_)
    · rw [i_c0] at y
      exact nxt X j2 ((fU.tr v1).tr x1) x2 (fun q => tr01_n y q.2)
    · rw [i_c0] at y
      refine Rt.some ⟨X, j2, t, rfl, (fU.tr v1).tr x1, x2, ⟨ht, hA, tr01_y y⟩, fun q hq => ?_⟩
      apply Classical.byContradiction
      intro hl
      exact hno q hq.1 (by omega) hq.2
theorem C_covering {a : Fq} (hN : okN N) (hw9 : okw9 (nN N) w) (hc : cnN N) (he : 0 < eN N) (ha : 0 ≤ a.1 ∧ a.1 ≤ 10177200000) (ha2 : 0 < a.2 ∧ a.2 ≤ 1000) (hF : 4294967296 < F) (hn : ∃ k, 1 ≤ k ∧ k ≤ 8 ∧ dv (atM (radF N w) a) k (allN N)) (hS : plS j b S p x N w) :
    Rt (C_X3_covering F S p (j64 a.1) (j64 a.2)) (fun v => ∃ T j' k, v = (i32 (k : Nat), T) ∧ frJ b p j j' S T ∧ plS j' b T p x N w ∧ lst (atM (radF N w) a) (allN N) k) := by
  have t1 : 1 ≤ 2 ^ nN N := Nat.one_le_two_pow
  have n1 := hN.1
  obtain ⟨k0, k1, k8, kd⟩ := hn
  obtain ⟨D0, _, _, _, _, hpl⟩ := hS.pl
  obtain ⟨⟨fs, g0⟩, -⟩ := hpl.g
  unfold C_X3_covering
  rw [g0]
  refine Rt.let ?_
  show Rt (C_X3_covering_3 F p (j64 a.1) (j64 a.2) F (i32 1) S) _
  refine Rt.loop (ι := Nat) (fun k v U => v = i32 k ∧ 1 ≤ k ∧ k ≤ k0 ∧ (∀ q, q < k → ¬ dv (atM (radF N w) a) q (allN N)) ∧ ∃ j', frJ b p j j' S U ∧ plS j' b U p x N w) (fun k => 9 - k) ?_ F 1 _ _ ⟨rfl, by omega, by omega, fun q hq z => ?_, j, frJ.rf hS.1, hS⟩ (by omega)
  rotate_left
  · rw [show q = 0 by omega] at z
    have z' : allN N = 0 := z
    unfold allN at z'
    have := Nat.pow_le_pow_right (n := 2) (by decide) n1
    omega
  rintro n k _ U ⟨rfl, h1, h2, hno, j', fU, hU⟩ ih
  obtain ⟨D1, _, _, _, _, hpl1⟩ := hU.pl
  obtain ⟨-, -, g2, -⟩ := hpl1.g
  have ea : ((1 : Int32) <<< (i32 (nN N : Int) &&& 31)) - 1 = i32 (allN N : Int) := i_all hN
  unfold C_X3_covering_3
  rw [g2]
  refine Rt.let ?_
  rw [ea]
  refine Rt.bind (C_isDiv (a := a) hN hw9 hc he ha ha2 hF 12 k (allN N) j' U (by omega) (by omega) (by unfold allN; omega) hU) ?_
  rintro _ ⟨X, j2, rfl, x1, x2⟩
  dsimp only
  refine Rt.ite (fun y => ?_) (fun y => ?_)
  · rw [i_c0] at y
    have hn := tr01_n y
    have : k ≠ k0 := by rintro rfl; exact hn kd
    rw [i_c1, i_add]
    refine Rt.let (ih (k + 1) _ _ ⟨rfl, by omega, by omega, fun q hq => ?_, j2, fU.tr x1, x2⟩ (by omega))
    by_cases e : q = k
    · rw [e]; exact hn
    · exact hno q (by omega)
  · rw [i_c0] at y
    refine Rt.some ⟨X, j2, k, rfl, fU.tr x1, x2, tr01_y y, fun q hq => ?_⟩
    apply Classical.byContradiction
    intro hl
    exact hno q (by omega) hq
end CL2
section CM2
variable {S T : St} {b x p : Nat} {N : Net} {w : Nat → Int} {F : Nat} {j : Nat}
/-- the i-th group of k -/
theorem C_planGroup {k i : Nat} (hN : okN N) (hw9 : okw9 (nN N) w) (hc : cnN N) (he : 0 < eN N) (hk : 1 ≤ k) (hk3 : k ≤ 3) (hi : i < k) (hF : 4294967296 < F) (hS : plS j b S p x N w) :
    Rt (C_X3_group F S p (i32 k) (i32 i)) (fun v => ∃ T j' g t, v = (i32 (g : Nat), T) ∧ frJ b p j j' S T ∧ plS j' b T p x N w ∧ isK (radF N w) k (allN N) t ∧ grI (atM (radF N w) t) k i 0 (allN N) g) := by
  have t1 : 1 ≤ 2 ^ nN N := Nat.one_le_two_pow
  have t2 := two_n hN
  obtain ⟨D0, _, _, _, _, hpl⟩ := hS.pl
  obtain ⟨⟨fs, g0⟩, -⟩ := hpl.g
  unfold C_X3_group
  rw [g0]
  refine Rt.let (Rt.bind (C_deciding hN hw9 hc he hk (by omega) hS hF) ?_)
  rintro _ ⟨T, j1, c, rfl, d1, d2, d3, d4, d5⟩
  refine Rt.let ?_
  dsimp only
  have hKc := dec_isK hN hk d4 d5
  refine C_ab (G := fun y4 y6 U => (gI U 3 p 1) >>= fun y7 => (some ((1 <<< (y7 &&& 31)) - 1)) >>= fun y8 => C_X3_group_36 F p (i32 k) (i32 i) y4 y6 F y8 0 0 U) hN hw9 hc he d3 d2 hF (fun U r u1 u2 u3 u4 u5 => ?_)
  have hK := isK_feq hKc u5.1 (feq_symm (isRad_F u3))
  obtain ⟨D1, _, _, _, _, hpl1⟩ := u2.pl
  obtain ⟨-, -, g2, -⟩ := hpl1.g
  have ea : ((1 : Int32) <<< (i32 (nN N : Int) &&& 31)) - 1 = i32 (allN N : Int) := i_all hN
  rw [g2]
  refine Rt.let ?_
  rw [ea]
  refine Rt.let ?_
  show Rt (C_X3_group_36 F p (i32 k) (i32 i) (j64 r.1) (j64 r.2) F (i32 (allN N)) (i32 0) (i32 0) U) _
  refine Rt.loop4 (ι := Nat) (fun q s g v V => v = i32 q ∧ q ≤ i + 1 ∧ ∃ s' g' j', s = i32 (s' : Nat) ∧ g = i32 (g' : Nat) ∧ s' < 2 ^ nN N ∧ frJ b p j j' S V ∧ plS j' b V p x N w ∧ (q ≤ i → dv (atM (radF N w) r) (k - q) s' ∧ ∀ h, grI (atM (radF N w) r) k (i - q) q s' h → grI (atM (radF N w) r) k i 0 (allN N) h) ∧ (q = i + 1 → grI (atM (radF N w) r) k i 0 (allN N) g')) (fun q => i + 1 - q) ?_ F 0 _ _ _ _ ⟨rfl, by omega, allN N, 0, 2, rfl, rfl, by unfold allN; omega, d1.tr u1, u2, fun _ => ⟨(hK.2 r u5.1).mp (fle_refl _), fun h hh => hh⟩, fun z => by omega⟩ (by omega)
  rintro n q _ _ _ V ⟨rfl, hq, s', g', j', rfl, rfl, hs', fV, hV, hst, hend⟩ ih
  unfold C_X3_group_36
  refine Rt.ite (fun z => ?_) (fun z => ?_)
  · rw [i_lt (by omega) (by omega) (by omega) (by omega)] at z
    exact Rt.some ⟨V, j', g', r, rfl, fV, hV, hK, hend (by omega)⟩
  rw [i_lt (by omega) (by omega) (by omega) (by omega)] at z
  obtain ⟨hd, hgo⟩ := hst (by omega)
  have ek : (i32 (k : Int) - 1) - i32 (q : Int) = i32 ((k - 1 - q : Nat) : Int) := by rw [i_c1, i_sub, i_sub]; congr 1; omega
  rw [ek]
  have hd' : dv (atM (radF N w) r) (k - 1 - q + 1) s' := by rw [show k - 1 - q + 1 = k - q by omega]; exact hd
  refine Rt.bind (C_greatest (a := r) hN hw9 hc he ⟨u4.1, by omega⟩ ⟨u5.1, by omega⟩ hF (by omega) hs' hd' hV) ?_
  rintro _ ⟨X, j2, g, rfl, x1, x2, x3⟩
  refine Rt.let ?_
  dsimp only
  rw [i_xor2, i_c1, i_add]
  refine Rt.let (Rt.let (ih (q + 1) _ _ _ _ ⟨rfl, by omega, s' ^^^ g, g, j2, rfl, rfl, sub_lt (xr_sub x3.1.1) hs', fV.tr x1, x2, fun hl => ⟨?_, fun h hh => hgo h ?_⟩, fun hl => hgo g ?_⟩ (by omega)))
  · rw [show k - (q + 1) = k - 1 - q by omega]; exact x3.1.2.2
  · rw [show i - q = (i - (q + 1)) + 1 by omega]; exact ⟨g, x3, hh⟩
  · rw [show i - q = 0 by omega]; exact x3
end CM2
