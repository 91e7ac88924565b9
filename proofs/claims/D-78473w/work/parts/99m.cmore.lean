/-! THE CLASS's OTHER CALLS: corners, what is covered, changed radii -/
section TR
variable {S T : St} {x n p dq tx j b : Nat} {h : Int64} {A : Ab} {F : Nat} {N : Net}
theorem wN_le9 (hN : okN N) : ∀ i, i < nN N → wN N i ≤ 9 := fun i hi => (hN.2.2.1 i hi).2.1
theorem C_cornerOf {e : Nat} {i w : Int} (hc : cRo S x A n p dq tx j b h) (hcn : cnN A.1) (he : e < eN A.1) (hi : rng i) (h0 : 0 ≤ w) (h3 : w ≤ 3) (hF : 4294967296 < F) : Rt (C_X1_cornerOf F S x (i32 e) (i32 i) (i32 w)) (fun v => ∃ j', v.1 = i32 (corA A.1 (wN A.1) e i w) ∧ frJ b p j j' S v.2 ∧ cRo v.2 x A n p dq tx j' b h) := by
  obtain ⟨⟨fs, g0⟩, g1, g2, -⟩ := hc.g
  have hN := hc.1.1
  have hi1 := hi.1
  have hi2 := hi.2
  unfold C_X1_cornerOf
  rw [g0]
  refine Rt.let (Rt.ite (fun z => ?_) (fun z => ?_))
  · rw [i_c0, i_le (by omega) (by omega) hi1 hi2] at z
    rw [g2]
    refine Rt.let (Rt.bind (C_corner hN (wN_9 hN) (wN_le9 hN) hcn he z hi2 hc.2.2.1 hF) ?_)
    rintro ⟨v, U⟩ ⟨j', P, E, Ar, Q', pts, u1, u2, u3⟩
    dsimp only at u1 u2 u3 ⊢
    have hcU := hc.fr u1 u2.1
    obtain ⟨-, k1, k2, -⟩ := hcU.g
    unfold C_X1_cornerOf_17
    rcases u3 with ⟨rfl, hcor⟩ | ⟨k, rfl, hk, ek, hcor⟩
    · refine Rt.ite (fun _ => Rt.some ⟨j', ?_, u1, hcU⟩) (fun z => absurd rfl z)
      rw [← corA_of (r := none) (what := w) (wN_9 hN).ok0 (fun _ => hcor), if_neg (by omega)]; rfl
    · obtain ⟨-, D, L, B, W, M, u, v5, v6, h1⟩ := id u2
      have hl := h1.2.2.2.2.1.2.2.2
      have z2 := hN.sz.2.1
      obtain ⟨-, -, -, -, p3, -⟩ := h1.2.1.g
      obtain ⟨q1, q2, q3, q4⟩ := h1.gP
      obtain ⟨l1, l2, l3⟩ := h1.pt hN hk
      obtain ⟨y1, y2, y3, y4⟩ := h1.px hk
      have hr : rdd (ptX pts k) := (h1.2.2.2.2.1.1 k hk).2
      have r1 := rd1 hr
      have ans := corA_of (N := A.1) (w := wN A.1) (e := e) (i := i) (r := some (ptX pts k)) (what := w) (wN_9 hN).ok0 (fun _ => hcor)
      rw [if_neg (by omega)] at ans
      refine Rt.ite (fun z => ?_) (fun _ => ?_)
      · rw [show (-1 : Int32) = i32 (-1) from rfl, i_eq (by omega) (by omega) (by omega) (by omega)] at z; omega
      rw [k2]
      refine Rt.let ?_
      rw [p3]
      refine Rt.let ?_
      have hw : w = 0 ∨ w = 1 ∨ w = 2 ∨ w = 3 := by omega
      have big : 2 ≤ w → ¬ (i32 w = 0) ∧ ¬ (i32 w = 1) := fun hw2 => ⟨by rw [i_c0, i_eq (by omega) (by omega) (by omega) (by omega)]; omega, by rw [i_c1, i_eq (by omega) (by omega) (by omega) (by omega)]; omega⟩
      by_cases h2 : 2 ≤ w
      · refine Rt.ite (fun z => absurd z (big h2).1) (fun _ => Rt.ite (fun z => absurd z (big h2).2) (fun _ => ?_))
        refine Rt.let ?_
        rw [C_heightAt hN (wN_9 hN) hcn h1 hk hF]
        refine Rt.let (Rt.let ?_)
        rw [q3]
        refine Rt.let ?_
        rw [l3]
        refine Rt.let ?_
        have hg := hgt_rng (s := allN A.1) hN hcn (wN_9 hN) y1 y2 y3
        have o1 := y2.1
        have o2 := y2.2.1
        rw [show ((pts.getD k (0, 0, 1)).2.2 : Int) = (ptX pts k).2 from rfl, i_long (by omega) (by omega), i_c2, i_sub, C_partOf hg.1 (by omega) o1 o2 (by omega) (by omega)]
        refine Rt.let (Rt.some ⟨j', ?_, u1, hcU⟩)
        rw [← ans, ek]
        unfold corT
        simp only
        rw [if_neg (by omega)]
      · have hw2 : w = 0 ∨ w = 1 := by omega
        rcases hw2 with e0 | e0
        · subst e0
          refine Rt.ite (fun _ => ?_) (fun z => absurd rfl z)
          refine Rt.let ?_
          rw [q2]
          refine Rt.let ?_
          rw [l2]
          refine Rt.let (Rt.some ⟨j', ?_, u1, hcU⟩)
          rw [← ans]
          unfold corT
          simp only
          rw [if_pos (by decide), r1.1]; rfl
        · subst e0
          refine Rt.ite (fun z => absurd z (by decide)) (fun _ => Rt.ite (fun _ => ?_) (fun z => absurd rfl z))
          refine Rt.let ?_
          rw [q3]
          refine Rt.let ?_
          rw [l3]
          refine Rt.let (Rt.some ⟨j', ?_, u1, hcU⟩)
          rw [← ans]
          unfold corT
          simp only
          rw [if_pos (by decide), r1.2]; rfl
  · rw [i_c0, i_le (by omega) (by omega) hi1 hi2] at z
    unfold C_X1_cornerOf_17
    refine Rt.ite (fun _ => Rt.some ⟨j, ?_, frJ.rf hc.wf, hc⟩) (fun z => absurd rfl z)
    unfold corA
    rw [if_pos (by omega)]; rfl
theorem P_corner {e i w : Int} (hc : cRo S x A n p dq tx j b h) (he : rng e) (hi : rng i) (hw : rng w) (hF : 4294967296 < F) : OpO (fun q => T_X1_corner F q S x (i32 e) (i32 i) (i32 w)) (C_X1_corner F S x (i32 e) (i32 i) (i32 w)) (ec 1 2 3 (sp_corner A e i w).1) S (Qs S x (sp_corner A e i w)) := by
  obtain ⟨⟨fs, g0⟩, g1, g2, -⟩ := hc.g
  have hN := hc.1.1
  obtain ⟨D, v3, v4, v5, v6, hpl⟩ := hc.2.2.1.pl
  unfold T_X1_corner C_X1_corner sp_corner
  rw [g0]
  refine OpO.let (OpO.edge hc he (fun hn => by rw [ifc_pos hn]; rfl) (fun y1 => ?_))
  rw [ifc_neg (fun z => z y1), show C_X1_isIn (i32 w) 0 3 = some (i32 (tr01 (inR w 0 3))) from C_isIn (lo := 0) (hi := 3) hw (by decide) (by decide)]
  refine OpO.let (OpO.checkThat (by decide) (fun hn => by rw [ifc_pos hn]; rfl) (fun y2 => ?_))
  rw [ifc_neg (fun z => z y2), g2]
  refine OpO.let ?_
  rw [C_isConnected hN hpl hF]
  refine OpO.let (OpO.checkState (by decide) (fun hn => by rw [ifc_pos hn]; rfl) (fun y3 => ?_))
  rw [ifc_neg (fun z => z y3)]
  obtain ⟨d, rfl⟩ : ∃ k : Nat, e = k := ⟨e.toNat, by have := y1.1; omega⟩
  refine OpO.fin rfl (Rt.bind (C_cornerOf hc y3 (by have := y1.2; omega) hi y2.1 y2.2 hF) ?_)
  rintro ⟨v, U⟩ ⟨j', u1, u2, u3⟩
  exact Rt.some (Q_fr hc u2 u3 u1 rfl)
theorem hgt_one {i e : Nat} {y : Fq} {w : Nat → Int} (hi : i < nN N) (hn : 0 ≤ w i * awy N i e y) : hgt N w (2 ^ i) e y = w i * awy N i e y := by
  obtain ⟨h1, h2, h3⟩ := hgF_spec (fun i => w i * awy N i e y) (2 ^ i) (nN N)
  have hb : (2 ^ i).testBit i = true := by rw [Nat.testBit_two_pow]; simp
  have := h2 i hi hb
  rcases h3 with h3 | ⟨k, hk, hkb, h3⟩
  · have t2 : w i * awy N i e y ≤ hgF (fun i => w i * awy N i e y) (2 ^ i) (nN N) := this
    unfold hgt; omega
  · rw [Nat.testBit_two_pow] at hkb
    have : i = k := by simpa using hkb
    subst this
    exact h3.symm
theorem P_covered {e t r : Int} (hc : cRo S x A n p dq tx j b h) (he : rng e) (ht : rng t) (hr : rng r) (hF : 4294967296 < F) : OpO (fun q => T_X1_covered F q S x (i32 e) (i32 t) (i32 r)) (C_X1_covered F S x (i32 e) (i32 t) (i32 r)) (ec 1 2 3 (sp_covered A e t r).1) S (Qr A (sp_covered A e t r)) := by
  obtain ⟨⟨fs, g0⟩, g1, g2, -⟩ := hc.g
  have hN := hc.1.1
  have z1 := hN.sz.1
  obtain ⟨D, v3, v4, v5, v6, hpl⟩ := hc.2.2.1.pl
  unfold T_X1_covered C_X1_covered sp_covered
  rw [g0]
  refine OpO.let (OpO.edge hc he (fun hn => by rw [ifc_pos hn]; rfl) (fun y1 => ?_))
  rw [ifc_neg (fun z => z y1)]
  obtain ⟨d, rfl⟩ : ∃ k : Nat, e = k := ⟨e.toNat, by have := y1.1; omega⟩
  have hd : d < eN A.1 := by have := y1.2; omega
  obtain ⟨wa, ta, ea, sa, eq, sq, ⟨fs', k0⟩, k1, k2, k3, k4, k5, k6, k7, k8, k9, k10⟩ := hc.net.get hN.sz
  obtain ⟨q1, q2, q3, q4, q5⟩ := k9 d hd
  obtain ⟨a1, a2, a3, a4, a5⟩ := hN.2.2.2.2.1 d hd
  rw [g1]
  refine OpO.let ?_
  rw [k3]
  refine OpO.let ?_
  rw [q1]
  refine OpO.let ?_
  rw [q5]
  refine OpO.let ?_
  simp only [Int.toNat_natCast]
  have bad : ¬ (inR t 0 (ed A.1 d).2.2 ∧ 0 ≤ r) → ∀ R : Res, OpO (fun q => T_X1_covered_33 F q x (i32 d) (i32 t) (i32 r) S) (C_X1_covered_33 F S x (i32 d) (i32 t) (i32 r)) (ec 1 2 3 (ifc (¬ (inR t 0 (ed A.1 d).2.2 ∧ 0 ≤ r)) (no A 2) R).1) S (Qr A (ifc (¬ (inR t 0 (ed A.1 d).2.2 ∧ 0 ≤ r)) (no A 2) R)) := by
    intro hb R
    unfold T_X1_covered_33 C_X1_covered_33 T_X1_covered_34 C_X1_covered_34
    exact OpO.checkThat0 (by decide) (by rw [ifc_pos hb]; rfl)
  refine OpO.tst (show C_X1_isIn (i32 t) 0 (i32 (ed A.1 d).2.2) = some (i32 (tr01 (inR t 0 (ed A.1 d).2.2))) from C_isIn (lo := 0) ht (by decide) ⟨by omega, by omega⟩) (fun hn => bad (fun z => hn z.1) _) (fun y2 => OpO.ite (fun z => bad (fun w => ?_) _) (fun z => ?_))
  · rw [i_c0, i_lt hr.1 hr.2 (by omega) (by omega)] at z
    have := w.2; omega
  rw [i_c0, i_lt hr.1 hr.2 (by omega) (by omega)] at z
  rw [ifc_neg (fun w => w ⟨y2, by omega⟩)]
  unfold T_X1_covered_34 C_X1_covered_34
  refine OpO.checkThat1 ?_
  rw [g2]
  refine OpO.let ?_
  rw [C_isConnected hN hpl hF]
  refine OpO.let (OpO.checkState (by decide) (fun hn => by rw [ifc_pos hn]; rfl) (fun y5 => ?_))
  rw [ifc_neg (fun z => z y5)]
  refine OpO.fin rfl ?_
  have h21 := y2.1
  have h22 := y2.2
  have hr1 := hr.1
  have hr2 := hr.2
  have ox : okx (t, 1) := ⟨by simp, by simp, h21, by simp only; omega⟩
  have oxl : (t, (1 : Int)).1 ≤ (ed A.1 d).2.2 * (t, (1 : Int)).2 := by simp only; omega
  show Rt (C_X1_covered_53 F S x (i32 d) (i32 t) (i32 r) F (i32 0) (i32 0)) _
  refine Rt.loop (ι := Nat) (fun k c y => y = i32 k ∧ k ≤ nN A.1 ∧ c = i32 (cvdF (fun i => wN A.1 i * awy A.1 i d (t, 1)) r k)) (fun k => nN A.1 - k) ?_ F 0 _ _ ⟨rfl, by omega, rfl⟩ (by omega)
  rintro n0 k _ _ ⟨rfl, hk, rfl⟩ ih
  unfold C_X1_covered_53
  rw [g1]
  refine Rt.let ?_
  rw [C_size hN.sz hc.net]
  refine Rt.let (Rt.ite (fun z => ?_) (fun z => ?_))
  · rw [i_le (by omega) (by omega) (by omega) (by omega)] at z
    obtain rfl : k = nN A.1 := by omega
    exact Rt.some ⟨rfl, rfl⟩
  rw [i_le (by omega) (by omega) (by omega) (by omega)] at z
  have hk' : k < nN A.1 := by omega
  have w9 := wN_9 hN k hk'
  have aw := wa_rng hN y5 hk' hd ox oxl
  have vr := mul_rng (A := 99) (B := 12850000) w9.1 w9.2 aw.1 aw.2
  have sh : (1 : Int32) <<< (i32 (k : Int) &&& 31) = i32 ((2 ^ k : Nat) : Int) := i_shl (by omega)
  have k256 : 2 ^ k < 256 := by
    have := Nat.pow_lt_pow_right (a := 2) (by decide) (show k < 8 by omega)
    exact this
  have nxt : ∀ g : Nat, g = (if wN A.1 k * awy A.1 k d (t, 1) ≤ r then 2 ^ k else 0) → Rt (C_X1_covered_96 F (C_X1_covered_53 F S x (i32 d) (i32 t) (i32 r) n0) S x (i32 d) (i32 t) (i32 r) (i32 k) (i32 (cvdF (fun i => wN A.1 i * awy A.1 i d (t, 1)) r k)) (i32 g)) (Qr A (yes A (cvdF (fun i => wN A.1 i * awy A.1 i d (t, 1)) r (nN A.1)))) := by
    intro g hg
    unfold C_X1_covered_96
    rw [i_or2, i_c1, i_add]
    refine Rt.let (Rt.let (ih (k + 1) _ _ ⟨rfl, by omega, ?_⟩ (by omega)))
    rw [hg]; rfl
  rw [g2]
  refine Rt.let ?_
  rw [sh, i_long ht.1 ht.2, j_c1]
  refine Rt.bindE (C_height (s := 2 ^ k) (y := (t, 1)) hN hpl (wN_9 hN) y5 k256 hd ox oxl hF) ?_
  rw [hgt_one hk' vr.1, i_long hr1 hr2]
  refine Rt.ite (fun z2 => ?_) (fun z2 => ?_)
  · rw [j_lt (by omega) (by omega) (by omega) (by omega)] at z2
    exact nxt 0 (by rw [if_neg (by omega)])
  · rw [j_lt (by omega) (by omega) (by omega) (by omega)] at z2
    exact nxt _ (by rw [if_pos (by omega)])
/-- a plan beside: it is new, all else is kept -/
theorem C_newPlan2 {a : Nat} {w : Nat → Int} {S1 U : St} {c d : Nat} (hw : wfS S) (h1 : S1 = al S (cO 3 df_3) 7) (hN : okN N) (hx : ex c d S1 U) (ho : netC U.2.1 U a N w) (hF : 4294967296 < F) :
    Rt (C_X3_init F U S.2.1 a) (fun T => ex (c + 2) (d + 71) S T ∧ plS 0 U.2.1 T S.2.1 a N w ∧ ∀ {V : St} {k m m' : Nat}, frJ U.2.1 S.2.1 0 k T V → c + 3604 ≤ m → d + 21583 ≤ m' → ex m m' S V) := by
  have x1 : ex 1 7 S S1 := by rw [h1]; exact ex.al hw
  have cp : U.1 S.2.1 = some (cO 3 df_3) := hx.get (by rw [h1]; exact al_me _ _ _)
  have n1 : S1.2.1 = S.2.1 + 1 := by rw [h1]; rfl
  refine Rt.mono (C_newPlan hN hx.1 cp ho (Nat.le_refl _) hF) ?_
  rintro T ⟨t1, t2, t3⟩
  have hU : S.2.1 + 1 ≤ U.2.1 := by have := hx.2.1; omega
  have xT : ex (c + 2) (d + 71) S T := by
    have c1 := x1.cs_
    have c2 := hx.cs_
    have c3 := t1.cs_
    refine ⟨t1.1, ?_, ?_, ?_, fun q e hq => ?_⟩
    · have := c1.1; have := c2.1; have := c3.1; omega
    · have := c1.2.1; have := c2.2.1; have := c3.2.1; omega
    · have := c1.2.2; have := c2.2.2; have := c3.2.2; omega
    · have hl := hw.lt hq
      exact t1.get (hx.get (x1.get hq)) (by omega) (by omega)
  refine ⟨xT, ⟨t1.1, by omega, Or.inl ⟨rfl, _, t3⟩⟩, ?_⟩
  intro V k m m' hV hm hm'
  have hf := hV.2
  obtain ⟨a1, a2, a3⟩ := hV.cs_
  obtain ⟨b1, b2, b3, b4, b5⟩ := id xT
  refine ⟨hf.1, by omega, by omega, by omega, fun q e hq => ?_⟩
  · have hl := hw.lt hq
    exact hf.get (xT.get hq) (by omega) (by omega)
theorem P_changedRadius {s t : Int} (hc : cRo S x A n p dq tx j b h) (hs : rng s) (ht : rng t) (hF : 4294967296 < F) : OpO (fun k => T_X1_changedRadius F k S x (i32 s) (i32 t)) (C_X1_changedRadius F S x (i32 s) (i32 t)) (ec 2 3 0 (sp_changedRadius A s t).1) S (Qs S x (sp_changedRadius A s t)) := by
  obtain ⟨⟨fs, g0⟩, g1, g2, -⟩ := hc.g
  have hN := hc.1.1
  have hw := hc.wf
  obtain ⟨D, v3, v4, v5, v6, hpl⟩ := hc.2.2.1.pl
  unfold T_X1_changedRadius C_X1_changedRadius sp_changedRadius
  rw [g0]
  refine OpO.let ?_
  have bad : ¬ (inR s 0 10 ∧ inR t 0 1) → ∀ R : Res, OpO (fun k => T_X1_changedRadius_21 F k x (i32 s) (i32 t) S) (C_X1_changedRadius_21 F x (i32 s) (i32 t) S) (ec 2 3 0 (ifc (¬ (inR s 0 10 ∧ inR t 0 1)) (no A 1) R).1) S (Qs S x (ifc (¬ (inR s 0 10 ∧ inR t 0 1)) (no A 1) R)) := by
    intro hb R
    unfold T_X1_changedRadius_21 C_X1_changedRadius_21 T_X1_changedRadius_22 C_X1_changedRadius_22
    exact OpO.checkThat0 (by decide) (by rw [ifc_pos hb]; rfl)
  refine OpO.tst (show C_X1_isIn (i32 s) 0 10 = some (i32 (tr01 (inR s 0 10))) from C_isIn (lo := 0) (hi := 10) hs (by decide) (by decide)) (fun hn => bad (fun z => hn z.1) _) (fun y1 => OpO.tst (C_isPart ht) (fun hn => bad (fun z => hn z.2) _) (fun y2 => ?_))
  rw [ifc_neg (fun z => z ⟨y1, y2⟩)]
  unfold T_X1_changedRadius_22 C_X1_changedRadius_22
  refine OpO.checkThat1 ?_
  rw [g2]
  refine OpO.let ?_
  rw [C_isUsable hN hpl hF]
  refine OpO.let (OpO.checkState (by decide) (fun hn => by rw [ifc_pos hn]; rfl) (fun y3 => ?_))
  rw [ifc_neg (fun z => z y3)]
  refine OpO.fin rfl ?_
  rw [nO_eq]
  refine Rt.let ?_
  dsimp only
  have xa : ex 1 7 S (al S (cO 3 df_3) 7) := ex.al hw
  rw [gA_of (k := 0) (xa.get hc.2.1) rfl]
  refine Rt.let (Rt.bind (C_changed hN xa.1 (hc.net.ex xa) hF) ?_)
  rintro ⟨o, U⟩ ⟨u1, u2⟩
  dsimp only at u1 u2 ⊢
  have hw9 := wS_ok hN (s := s) y1.1 y1.2
  have u2' : netC U.2.1 U o A.1 (wS A.1 s) := u2
  refine Rt.bind (C_newPlan2 hw rfl hN u1 u2' hF) ?_
  rintro T ⟨t1, t2, t3⟩
  have hcT := hc.ex t1
  obtain ⟨-, k1, -⟩ := hcT.g
  rw [k1]
  refine Rt.let ?_
  rw [C_size hN.sz hcT.net]
  refine Rt.let ?_
  have ea : ((1 : Int32) <<< (i32 (nN A.1 : Int) &&& 31)) - 1 = i32 (allN A.1 : Int) := i_all hN
  have p1 : 1 ≤ 2 ^ nN A.1 := Nat.one_le_two_pow
  rw [ea]
  refine Rt.bind (C_radius (s := allN A.1) hN hw9 y3.2 y3.1 (by unfold allN; omega) y2.1 y2.2 t2 hF) ?_
  rintro ⟨v, V⟩ ⟨w1, w2, r, hr, w3⟩
  dsimp only at w1 w2 w3 ⊢
  have xV : ex 4000 30000 S V := t3 w1 (by omega) (by omega)
  refine Rt.some ⟨?_, (hc.ex xV).cR, xV.cs_.le (by omega) (by omega)⟩
  obtain ⟨e, y, hct, rfl⟩ := hr
  rw [w3]
  show i32 (rdc (hgt A.1 (wS A.1 s) (allN A.1) e y) y.2 t) = i32 (valT A.1 (hgt A.1 (wS A.1 s) (allN A.1)) t)
  rw [valT_of hct (fun _ _ _ _ => hgt_nn _ _ _ _ _)]
theorem P_radiusWithout {i t : Int} (hc : cRo S x A n p dq tx j b h) (hi : rng i) (ht : rng t) (hF : 4294967296 < F) : OpO (fun k => T_X1_radiusWithout F k S x (i32 i) (i32 t)) (C_X1_radiusWithout F S x (i32 i) (i32 t)) (ec 1 2 0 (sp_radiusWithout A i t).1) S (Qs S x (sp_radiusWithout A i t)) := by
  obtain ⟨⟨fs, g0⟩, g1, g2, -⟩ := hc.g
  have hN := hc.1.1
  have hw := hc.wf
  unfold T_X1_radiusWithout C_X1_radiusWithout sp_radiusWithout
  rw [g0]
  refine OpO.let (OpO.edge hc hi (fun hn => by rw [ifc_pos hn]; rfl) (fun y1 => ?_))
  rw [ifc_neg (fun z => z y1), C_isPart ht]
  refine OpO.let (OpO.checkThat (by decide) (fun hn => by rw [ifc_pos hn]; rfl) (fun y2 => ?_))
  rw [ifc_neg (fun z => z y2)]
  refine OpO.fin rfl ?_
  obtain ⟨k, rfl⟩ : ∃ k : Nat, i = k := ⟨i.toNat, by have := y1.1; omega⟩
  have hk : k < eN A.1 := by have := y1.2; omega
  have hN' := nDis_ok hN hk
  rw [nO_eq]
  refine Rt.let ?_
  dsimp only
  have xa : ex 1 7 S (al S (cO 3 df_3) 7) := ex.al hw
  rw [gA_of (k := 0) (xa.get hc.2.1) rfl]
  refine Rt.let (Rt.bind (C_withoutEdge hN xa.1 (hc.net.ex xa) hk hF) ?_)
  rintro ⟨o, U⟩ ⟨u1, u2⟩
  dsimp only at u1 u2 ⊢
  refine Rt.bind (C_newPlan2 hw rfl hN' u1 u2 hF) ?_
  rintro T ⟨t1, t2, t3⟩
  have hcT := hc.ex t1
  obtain ⟨-, k1, -⟩ := hcT.g
  obtain ⟨D, v3, v4, v5, v6, hpl⟩ := t2.pl
  refine Rt.tst (C_isUsable hN' hpl hF) (fun hn => ?_) (fun y3 => ?_)
  · refine Rt.some ⟨?_, hcT.cR, t1.cs_.le (by omega) (by omega)⟩
    show (-1 : Int32) = i32 (woA (nDis A.1 k) t)
    unfold woA
    rw [ifc_neg hn]; rfl
  rw [k1]
  refine Rt.let ?_
  rw [C_size hN.sz hcT.net]
  refine Rt.let ?_
  have ea : ((1 : Int32) <<< (i32 (nN A.1 : Int) &&& 31)) - 1 = i32 (allN A.1 : Int) := i_all hN
  have p1 : 1 ≤ 2 ^ nN A.1 := Nat.one_le_two_pow
  have en : allN (nDis A.1 k) = allN A.1 := rfl
  rw [ea]
  refine Rt.bind (C_radius (s := allN A.1) hN' (wN_9 hN') y3.2 y3.1 (by show allN A.1 < 2 ^ nN A.1; unfold allN; omega) y2.1 y2.2 t2 hF) ?_
  rintro ⟨v, V⟩ ⟨w1, w2, r, hr, w3⟩
  dsimp only at w1 w2 w3 ⊢
  have xV : ex 4000 30000 S V := t3 w1 (by omega) (by omega)
  refine Rt.some ⟨?_, (hc.ex xV).cR, xV.cs_.le (by omega) (by omega)⟩
  obtain ⟨e, y, hct, rfl⟩ := hr
  rw [w3]
  show i32 (rdc (hgt (nDis A.1 k) (wN (nDis A.1 k)) (allN A.1) e y) y.2 t) = i32 (woA (nDis A.1 k) t)
  unfold woA
  rw [ifc_pos y3, en, valT_of hct (fun _ _ _ _ => hgt_nn _ _ _ _ _)]
end TR
