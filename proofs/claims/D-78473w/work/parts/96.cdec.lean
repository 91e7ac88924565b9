/-! THE CLASS's DECIDING SET: the radius of k centers -/
section CK
variable {S T : St} {b x p : Nat} {N : Net} {w : Nat → Int} {F : Nat} {j : Nat}
theorem dv_grow {A : Nat → Prop} {s k : Nat} (h0 : A 0) (h : A s) (hk : 1 ≤ k) : dv A k s := by
  obtain ⟨k', rfl⟩ : ∃ k', k = k' + 1 := ⟨k - 1, by omega⟩
  exact ⟨s, sub_refl s, h, by rw [Nat.xor_self]; exact dv_zero h0 k'⟩
theorem C_deciding {k : Nat} (hN : okN N) (hw9 : okw9 (nN N) w) (hc : cnN N) (he : 0 < eN N) (hk : 1 ≤ k) (hk2 : k ≤ 8) (hS : plS j b S p x N w) (hF : 4294967296 < F) :
    Rt (C_X3_deciding F S p (i32 k)) (fun v => ∃ T j' c, v = (i32 (c : Nat), T) ∧ frJ b p j j' S T ∧ plS j' b T p x N w ∧ c < 2 ^ nN N ∧ dv (atM (radF N w) (radF N w c)) k (allN N) ∧ ∀ q, q < 2 ^ nN N → dv (atM (radF N w) (radF N w q)) k (allN N) → fle (radF N w c) (radF N w q)) := by
  have t2 := two_n hN
  have t3 : (0 : Int) ≤ ((2 ^ nN N : Nat) : Int) := Int.natCast_nonneg _
  have t1 : 1 ≤ 2 ^ nN N := Nat.one_le_two_pow
  have eA : allN N = 2 ^ nN N - 1 := rfl
  obtain ⟨D0, _, _, _, _, hpl⟩ := hS.pl
  obtain ⟨⟨fs, g0⟩, -, g2, -⟩ := hpl.g
  unfold C_X3_deciding
  rw [g0, g2]
  refine Rt.let (Rt.let ?_)
  have ea : ((1 : Int32) <<< (i32 (nN N : Int) &&& 31)) - 1 = i32 (allN N : Int) := i_all hN
  rw [ea]
  refine Rt.let ?_
  show Rt (C_X3_deciding_14 F p (i32 k) (i32 (allN N)) F (i32 (allN N)) (i32 0) S) _
  refine Rt.loop3 (ι := Nat) (fun q c v U => v = i32 q ∧ q ≤ 2 ^ nN N ∧ ∃ c' j', c = i32 (c' : Nat) ∧ c' < 2 ^ nN N ∧ frJ b p j j' S U ∧ plS j' b U p x N w ∧ dv (atM (radF N w) (radF N w c')) k (allN N) ∧ ∀ a, a < q → dv (atM (radF N w) (radF N w a)) k (allN N) → fle (radF N w c') (radF N w a)) (fun q => 2 ^ nN N - q) ?_ F 0 _ _ _ ⟨rfl, by omega, allN N, j, rfl, by omega, frJ.rf hS.1, hS, dv_grow (atM_0 (radF_pos N w _).2) (fle_refl _) hk, fun a ha => by omega⟩ (by omega)
  rintro n q _ _ U ⟨rfl, hq, c, j', rfl, hcl, fU, hU, hd, hm⟩ ih
  unfold C_X3_deciding_14
  refine Rt.ite (fun z => ?_) (fun z => ?_)
  · rw [i_lt (by omega) (by omega) (by omega) (by omega)] at z
    exact Rt.some ⟨U, j', c, rfl, fU, hU, hcl, hd, fun a ha hda => hm a (by omega) hda⟩
  rw [i_lt (by omega) (by omega) (by omega) (by omega)] at z
  have hq' : q < 2 ^ nN N := by omega
  have nxt : ∀ (V : St) (j2 c2 : Nat), frJ b p j j2 S V → plS j2 b V p x N w → c2 < 2 ^ nN N → dv (atM (radF N w) (radF N w c2)) k (allN N) → (∀ a, a < q + 1 → dv (atM (radF N w) (radF N w a)) k (allN N) → fle (radF N w c2) (radF N w a)) → Rt (C_X3_deciding_72 F (C_X3_deciding_14 F p (i32 k) (i32 (allN N)) n) p (i32 k) (i32 (allN N)) (i32 c2) (i32 q) V) (fun v => ∃ T j' c, v = (i32 (c : Nat), T) ∧ frJ b p j j' S T ∧ plS j' b T p x N w ∧ c < 2 ^ nN N ∧ dv (atM (radF N w) (radF N w c)) k (allN N) ∧ ∀ q, q < 2 ^ nN N → dv (atM (radF N w) (radF N w q)) k (allN N) → fle (radF N w c) (radF N w q)) := by
    intro V j2 c2 fV hV h1 h2 h3
    unfold C_X3_deciding_72
    rw [i_c1, i_add]
    exact Rt.let (ih (q + 1) _ _ _ ⟨rfl, by omega, c2, j2, rfl, h1, fV, hV, h2, h3⟩ (by omega))
  refine C_ab (G := fun r3 r4 U => (C_X3_above F U p (i32 c)) >>= fun r5 => (C_X3_below F r5.2 p (i32 c)) >>= fun r6 => (C_X3_isLess r3 r4 (r5.1) (r6.1)) >>= fun r7 =>
    if r7 = 0 then (
    C_X3_deciding_72 F (C_X3_deciding_14 F p (i32 k) (i32 (allN N)) n) p (i32 k) (i32 (allN N)) (i32 c) (i32 q) r6.2)
    else (
    (C_X3_above F r6.2 p (i32 q)) >>= fun r8 =>
    (C_X3_below F r8.2 p (i32 q)) >>= fun r9 =>
    (C_X3_isDivided F r9.2 p (i32 (allN N)) (i32 k) (r8.1) (r9.1)) >>= fun r10 =>
    if r10.1 = 0 then (
    C_X3_deciding_72 F (C_X3_deciding_14 F p (i32 k) (i32 (allN N)) n) p (i32 k) (i32 (allN N)) (i32 c) (i32 q) r10.2)
    else (
    C_X3_deciding_72 F (C_X3_deciding_14 F p (i32 k) (i32 (allN N)) n) p (i32 k) (i32 (allN N)) (i32 q) (i32 q) r10.2))) hN hw9 hc he hq' hU hF (fun V r v1 v2 v3 v4 v5 => ?_)
  refine C_ab (G := fun r5 r6 U => (C_X3_isLess (j64 r.1) (j64 r.2) r5 r6) >>= fun r7 =>
    if r7 = 0 then (
    C_X3_deciding_72 F (C_X3_deciding_14 F p (i32 k) (i32 (allN N)) n) p (i32 k) (i32 (allN N)) (i32 c) (i32 q) U)
    else (
    (C_X3_above F U p (i32 q)) >>= fun r8 =>
    (C_X3_below F r8.2 p (i32 q)) >>= fun r9 =>
    (C_X3_isDivided F r9.2 p (i32 (allN N)) (i32 k) (r8.1) (r9.1)) >>= fun r10 =>
    if r10.1 = 0 then (
    C_X3_deciding_72 F (C_X3_deciding_14 F p (i32 k) (i32 (allN N)) n) p (i32 k) (i32 (allN N)) (i32 c) (i32 q) r10.2)
    else (
    C_X3_deciding_72 F (C_X3_deciding_14 F p (i32 k) (i32 (allN N)) n) p (i32 k) (i32 (allN N)) (i32 q) (i32 q) r10.2))) hN hw9 hc he hcl v2 hF (fun X r' x1 x2 x3 x4 x5 => ?_)
  have fX := (fU.tr v1).tr x1
  have er := isRad_F v3
  have er' := isRad_F x3
  have pr := radF_pos N w q
  have pc := radF_pos N w c
  refine Rt.tst (C_isLess (a := r) (c := r') ⟨v4.1, by omega⟩ ⟨v5.1, by omega⟩ ⟨x4.1, by omega⟩ ⟨x5.1, by omega⟩) (fun hn => ?_) (fun hy => ?_)
  · refine nxt X 2 c fX x2 hcl hd (fun a ha hda => ?_)
    by_cases e : a = q
    · subst e
      have h1 : fle r' r := Int.not_lt.mp hn
      exact (fle_congl x5.1 pc.1 pr.1 er').mp ((fle_congr v5.1 pr.1 x5.1 er).mp h1)
    · exact hm a (by omega) hda
  · refine C_ab (G := fun r8 r9 U => (C_X3_isDivided F U p (i32 (allN N)) (i32 k) r8 r9) >>= fun r10 =>
      if r10.1 = 0 then (
      C_X3_deciding_72 F (C_X3_deciding_14 F p (i32 k) (i32 (allN N)) n) p (i32 k) (i32 (allN N)) (i32 c) (i32 q) r10.2)
      else (
      C_X3_deciding_72 F (C_X3_deciding_14 F p (i32 k) (i32 (allN N)) n) p (i32 k) (i32 (allN N)) (i32 q) (i32 q) r10.2)) hN hw9 hc he hq' x2 hF (fun Y r2 y1 y2 y3 y4 y5 => ?_)
    have er2 := isRad_F y3
    refine Rt.bind (C_isDiv (a := r2) hN hw9 hc he ⟨y4.1, by omega⟩ ⟨y5.1, by omega⟩ hF 12 k (allN N) 2 Y (by omega) (by omega) (by omega) y2) ?_
    rintro _ ⟨Z, j2, rfl, w1, w2⟩
    dsimp only
    have fZ := (fX.tr y1).tr w1
    have ed : dv (atM (radF N w) r2) k (allN N) ↔ dv (atM (radF N w) (radF N w q)) k (allN N) :=
      ⟨dv_mono (fun s hs => (fle_congr y5.1 pr.1 (radF_pos N w s).1 er2).mp hs), dv_mono (fun s hs => (fle_congr y5.1 pr.1 (radF_pos N w s).1 er2).mpr hs)⟩
    refine Rt.ite (fun z2 => ?_) (fun z2 => ?_)
    · rw [i_c0] at z2
      have hno := tr01_n z2
      refine nxt Z j2 c fZ w2 hcl hd (fun a ha hda => ?_)
      by_cases e : a = q
      · subst e; exact absurd (ed.mpr hda) hno
      · exact hm a (by omega) hda
    · rw [i_c0] at z2
      have hyes := ed.mp (tr01_y z2)
      have hlt : flt (radF N w q) (radF N w c) := by
        apply Classical.byContradiction
        intro hn
        have h1 : fle (radF N w c) (radF N w q) := Int.not_lt.mp hn
        have h2 : fle r' r := (fle_congl x5.1 pc.1 v5.1 er').mpr ((fle_congr v5.1 pr.1 pc.1 er).mpr h1)
        exact absurd hy (Int.not_lt.mpr h2)
      refine nxt Z j2 q fZ w2 hq' hyes (fun a ha hda => ?_)
      by_cases e : a = q
      · subst e; exact fle_refl _
      · exact fle_trans pr.1 pc.1 (radF_pos N w a).1 (Int.le_of_lt hlt) (hm a (by omega) hda)
/-- the deciding set's radius is the radius of k centers -/
theorem dec_isK {k c : Nat} (hN : okN N) (hk : 1 ≤ k) (hd : dv (atM (radF N w) (radF N w c)) k (allN N)) (hm : ∀ q, q < 2 ^ nN N → dv (atM (radF N w) (radF N w q)) k (allN N) → fle (radF N w c) (radF N w q)) : isK (radF N w) k (allN N) (radF N w c) := by
  have hp : ∀ a, 0 < (radF N w a).2 := fun a => (radF_pos N w a).1
  refine ⟨hp c, fun y hy => ⟨fun hf => dv_mono (fun a ha => atM_mono hp (hp c) hy hf a ha) hd, fun hdy => ?_⟩⟩
  obtain ⟨k', rfl⟩ : ∃ k', k = k' + 1 := ⟨k - 1, by omega⟩
  obtain ⟨g, g1, g2, g3⟩ := dv_max hp hy k' (allN N) hdy
  have t1 : 1 ≤ 2 ^ nN N := Nat.one_le_two_pow
  exact fle_trans (hp c) (hp g) hy (hm g (sub_lt g1 (by unfold allN; omega)) g3) g2
/-- the height of all nodes at a point -/
theorem C_heightAt {D P E A Q L B W M u k : Nat} {pts : List (Nat × Fq)} {v5 v6 : Option Nat} {mem : Nat → Prop} (hN : okN N) (hw9 : okw9 (nN N) w) (hc : cnN N) (h1 : plP b S p x D P E A Q L pts B W M u N w v5 v6 mem) (hk : k < pts.length) (hF : 4294967296 < F) :
    C_X3_heightAt F S p (i32 k) = some (j64 (hgt N w (allN N) (ptE pts k) (ptX pts k))) := by
  obtain ⟨⟨fs, g0⟩, g1, g2, -, g3, -⟩ := h1.2.1.g
  obtain ⟨q1, q2, q3, q4⟩ := h1.gP
  obtain ⟨l1, l2, l3⟩ := h1.pt hN hk
  obtain ⟨y1, y2, y3, y4⟩ := h1.px hk
  have o := y2
  obtain ⟨o1, o2, o3, o4⟩ := o
  unfold ptX at o1 o2 o3 o4
  have ea : ((1 : Int32) <<< (i32 (nN N : Int) &&& 31)) - 1 = i32 (allN N : Int) := i_all hN
  have al8 := allN_lt hN
  apply Rt.eq
  unfold C_X3_heightAt
  rw [g0, g2, g3]
  refine Rt.let (Rt.let (Rt.let (Rt.let ?_)))
  rw [q1]
  refine Rt.let ?_
  rw [l1]
  refine Rt.let (Rt.let (Rt.let ?_))
  rw [q2]
  refine Rt.let ?_
  rw [l2]
  refine Rt.let (Rt.let (Rt.let ?_))
  rw [q3]
  refine Rt.let ?_
  rw [l3]
  refine Rt.let ?_
  rw [ea, i_long (by omega) (by omega), i_long (by omega) (by omega)]
  exact Rt.bindE (C_height (s := allN N) hN h1.2.1 hw9 hc al8 y1 y2 y3 hF) (Rt.some rfl)
end CK
