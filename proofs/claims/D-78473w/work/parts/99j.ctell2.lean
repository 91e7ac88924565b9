/-! THE CLASS's CALLS THAT TELL: points -/
theorem OpO.tst {ρ : Type} {e : Nat} {S : St} {Q : ρ → Prop} {E : Option Int32} {c : Prop} {ic ic' : (r : Int32) → Decidable (r = 0)} {T1 T2 : Int32 → Nat → Option St} {C1 C2 : Int32 → Option ρ} (h : E = some (i32 (tr01 c))) (hn : ¬ c → OpO (T1 (i32 (tr01 c))) (C1 (i32 (tr01 c))) e S Q) (hy : c → OpO (T2 (i32 (tr01 c))) (C2 (i32 (tr01 c))) e S Q) :
    OpO (fun n => E >>= fun r => @_root_.ite _ (r = 0) (ic r) (T1 r n) (T2 r n)) (E >>= fun r => @_root_.ite _ (r = 0) (ic' r) (C1 r) (C2 r)) e S Q := by
  rw [h]
  refine OpO.let (OpO.ite (fun z => ?_) (fun z => ?_))
  · rw [i_c0] at z; exact hn (tr01_n z)
  · rw [i_c0] at z; exact hy (tr01_y z)
section TM_
variable {S T : St} {x n p dq tx j b : Nat} {h : Int64} {A : Ab} {F : Nat} {N : Net}
theorem C_isPart {v : Int} (hv : rng v) : C_X1_isPart (i32 v) = some (i32 (tr01 (inR v 0 1))) := by
  unfold C_X1_isPart
  rw [show C_X1_isIn (i32 v) 0 1 = some (i32 (tr01 (inR v 0 1))) from C_isIn (lo := 0) (hi := 1) hv (by decide) (by decide)]
  simp only [Option.bind_eq_bind, Option.bind_some, zz_tr]
theorem C_isSet {s : Int} (hc : cRo S x A n p dq tx j b h) (hs : rng s) : C_X1_isSet S x (i32 s) = some (i32 (tr01 (isSe A.1 s))) := by
  obtain ⟨⟨fs, g0⟩, g1, -⟩ := hc.g
  have hN := hc.1.1
  have ea : ((1 : Int32) <<< (i32 (nN A.1 : Int) &&& 31)) - 1 = i32 (allN A.1 : Int) := i_all hN
  have p1 : 1 ≤ 2 ^ nN A.1 := Nat.one_le_two_pow
  have p2 := two_n hN
  have pc : ((2 ^ nN A.1 : Nat) : Int) = 2 ^ nN A.1 := by push_cast; rfl
  have al : (allN A.1 : Int) = 2 ^ nN A.1 - 1 := by rw [← pc]; unfold allN; omega
  have a8 := allN_lt hN
  unfold C_X1_isSet
  rw [g0, g1]
  simp only [Option.bind_eq_bind, Option.bind_some]
  rw [C_size hN.sz hc.net]
  simp only [Option.bind_eq_bind, Option.bind_some]
  rw [ea, i_c0, C_isIn hs (by decide) ⟨by omega, by omega⟩]
  simp only [Option.bind_eq_bind, Option.bind_some, zz_tr]
  congr 2
  refine tr01_congr ⟨fun z => ⟨z.1, ?_⟩, fun z => ⟨z.1, ?_⟩⟩
  · have := z.2; rw [al] at this; omega
  · have := z.2; rw [al]; omega
theorem C_isPoint {e u v : Int} (hc : cRo S x A n p dq tx j b h) (he : isEg A.1 e) (hu : rng u) (hv : rng v) : C_X1_isPoint S x (i32 e) (i32 u) (i32 v) = some (i32 (tr01 (isPt A.1 e u v))) := by
  obtain ⟨⟨fs, g0⟩, g1, -⟩ := hc.g
  have hN := hc.1.1
  obtain ⟨k, rfl⟩ : ∃ k : Nat, e = k := ⟨e.toNat, by have := he.1; omega⟩
  have hk : k < eN A.1 := by have := he.2; omega
  obtain ⟨wa, ta, ea, sa, eq, sq, ⟨fs', k0⟩, k1, k2, k3, k4, k5, k6, k7, k8, k9, k10⟩ := hc.net.get hN.sz
  obtain ⟨q1, q2, q3, q4, q5⟩ := k9 k hk
  obtain ⟨a1, a2, a3, a4, a5⟩ := hN.2.2.2.2.1 k hk
  have hu1 := hu.1
  have hu2 := hu.2
  have hv1 := hv.1
  have hv2 := hv.2
  apply Rt.eq
  unfold C_X1_isPoint
  rw [g0]
  refine Rt.let (Rt.tst (show C_X1_isIn (i32 v) 1 1000 = some (i32 (tr01 (inR v 1 1000))) from C_isIn (lo := 1) (hi := 1000) hv (by decide) (by decide)) (fun q => Rt.some (tr_0 (fun z => q z.1))) (fun q => Rt.ite (fun z => Rt.some (tr_0 ?_)) (fun z => ?_)))
  · rw [i_c0, i_lt hu1 hu2 (by omega) (by omega)] at z
    exact fun w => by have := w.2.1; omega
  · rw [i_c0, i_lt hu1 hu2 (by omega) (by omega)] at z
    have m := mul_rng (a := (ed A.1 k).2.2) (b := v) (A := 50) (B := 1000) (by omega) a5 (by have := q.1; omega) q.2
    rw [g1]
    refine Rt.let ?_
    rw [k3]
    refine Rt.let ?_
    rw [q1]
    refine Rt.let ?_
    rw [q5]
    refine Rt.let ?_
    rw [i_long (by omega) (by omega), i_long hv1 hv2, i_long hu1 hu2, j_mul]
    refine Rt.ite (fun z2 => Rt.some (tr_0 ?_)) (fun z2 => Rt.some (tr_1 ?_))
    · rw [j_lt (by omega) (by omega) (by omega) (by omega)] at z2
      intro w
      have := w.2.2
      rw [Int.toNat_natCast] at this
      omega
    · rw [j_lt (by omega) (by omega) (by omega) (by omega)] at z2
      exact ⟨q, by omega, by rw [Int.toNat_natCast]; omega⟩
theorem isMk_all {D : Mx} {n : Nat} {v : Int} {f : Nat → Int} (hf : ∀ i j, i < n → j < n → f (n * i + j) = D i j) (hn : 0 < n) (k0 : 0 ≤ v) (h1 : ∀ q, q < n * n → f q ≤ v) (h2 : v = 0 ∨ ∃ q, q < n * n ∧ f q = v) : isMx D n v := by
  refine ⟨k0, fun i j hi hj => ?_, ?_⟩
  · rw [← hf i j hi hj]; exact h1 _ (idx_lt hi hj)
  · rcases h2 with h | ⟨q, hq, e⟩
    · exact Or.inl h
    · have d1 : q / n < n := Nat.div_lt_of_lt_mul hq
      have d2 : q % n < n := Nat.mod_lt _ hn
      exact Or.inr ⟨q / n, q % n, d1, d2, by rw [← hf _ _ d1 d2, Nat.div_add_mod]; exact e⟩
theorem P_diameter (hc : cRo S x A n p dq tx j b h) (hF : 4294967296 < F) : Rt (C_X1_diameter F S x) (Qr A (sp_diameter A)) := by
  obtain ⟨⟨fs, g0⟩, g1, g2, -⟩ := hc.g
  have hN := hc.1.1
  have s64 := sq64 hN.sz
  obtain ⟨D, v3, v4, v5, v6, hpl⟩ := hc.2.2.1.pl
  obtain ⟨⟨fs', p0⟩, -, -, p2, -⟩ := hpl.g
  obtain ⟨-, -, -, ⟨f, f1, f2⟩, -⟩ := hpl
  have fv : ∀ q, q < nN A.1 * nN A.1 → f q = i32 (dN A.1 (q / nN A.1) (q % nN A.1)) := by
    intro q hq
    have d1 : q / nN A.1 < nN A.1 := Nat.div_lt_of_lt_mul hq
    have d2 : q % nN A.1 < nN A.1 := Nat.mod_lt _ hN.1
    have := f2 _ _ d1 d2
    rwa [Nat.div_add_mod] at this
  unfold C_X1_diameter
  rw [g0]
  refine Rt.let ?_
  show Rt (C_X1_diameter_4 F S x F (i32 0) (i32 0)) _
  refine Rt.loop (ι := Nat) (fun k m q => q = i32 k ∧ k ≤ nN A.1 * nN A.1 ∧ ∃ v : Int, m = i32 v ∧ 0 ≤ v ∧ v ≤ 100000 ∧ (∀ q, q < k → dN A.1 (q / nN A.1) (q % nN A.1) ≤ v) ∧ (v = 0 ∨ ∃ q, q < nN A.1 * nN A.1 ∧ dN A.1 (q / nN A.1) (q % nN A.1) = v)) (fun k => nN A.1 * nN A.1 - k) ?_ F 0 _ _ ⟨rfl, by omega, 0, rfl, by omega, by omega, fun q hq => by omega, Or.inl rfl⟩ (by omega)
  rintro n0 k _ _ ⟨rfl, hk, v, rfl, hv0, hv1, hv2, hv3⟩ ih
  unfold C_X1_diameter_4
  rw [g2]
  refine Rt.let ?_
  rw [p2]
  refine Rt.let ?_
  rw [aN_of f1]
  refine Rt.let (Rt.ite (fun z => ?_) (fun z => ?_))
  · rw [i_le (by show (-2147483648 : Int) ≤ ((nN A.1 * nN A.1 : Nat) : Int); omega) (by show ((nN A.1 * nN A.1 : Nat) : Int) < 2147483648; omega) (by omega) (by omega)] at z
    have z' : ((nN A.1 * nN A.1 : Nat) : Int) ≤ k := z
    have hm : isMx (dN A.1) (nN A.1) v := isMk_all (f := fun q => dN A.1 (q / nN A.1) (q % nN A.1)) (fun i j hi hj => by
      have e := div_idx (n := nN A.1) (i := i) (j := j) hj
      show dN A.1 ((nN A.1 * i + j) / nN A.1) ((nN A.1 * i + j) % nN A.1) = _
      rw [e.1, e.2]) hN.1 hv0 (fun q hq => hv2 q (by omega)) hv3
    unfold C_X1_diameter_36 sp_diameter
    refine Rt.ite (fun z2 => ?_) (fun z2 => ?_)
    · rw [i_cFAR, i_le (by omega) (by omega) (by omega) (by omega)] at z2
      rw [ifc_neg ?_]
      · exact Rt.some ⟨rfl, rfl⟩
      · intro hcn
        rcases hm.2.2 with h0 | ⟨i, j', hi, hj, e⟩
        · omega
        · have := dst_conn hN.1 hN.2.1 (okN_es hN) hcn i j' hi hj
          have e' : dst (nN A.1) A.1.2.1 i j' = v := e
          omega
    · rw [i_cFAR, i_le (by omega) (by omega) (by omega) (by omega)] at z2
      rw [ifc_pos (show cnN A.1 from fun k hk => by have := hm.2.1 0 k hN.1 hk; omega), ← mxA_of hm]
      exact Rt.some ⟨rfl, rfl⟩
  · rw [i_le (by show (-2147483648 : Int) ≤ ((nN A.1 * nN A.1 : Nat) : Int); omega) (by show ((nN A.1 * nN A.1 : Nat) : Int) < 2147483648; omega) (by omega) (by omega)] at z
    have z' : ¬ ((nN A.1 * nN A.1 : Nat) : Int) ≤ k := z
    have dr := dN_rng hN (k / nN A.1) (k % nN A.1)
    refine Rt.let ?_
    rw [p2]
    refine Rt.let ?_
    rw [lI_of f1 (by omega) (by omega) (by omega), Int.toNat_natCast, fv k (by omega)]
    refine Rt.let ?_
    have nxt : ∀ v' : Int, (v' = v ∧ dN A.1 (k / nN A.1) (k % nN A.1) ≤ v ∨ v' = dN A.1 (k / nN A.1) (k % nN A.1) ∧ v < v') → Rt ((some (i32 v')) >>= fun y7 => (some (i32 (k : Int) + 1)) >>= fun y8 => C_X1_diameter_4 F S x n0 y7 y8) (Qr A (sp_diameter A)) := by
      intro v' hv'
      rw [i_c1, i_add]
      refine Rt.let (Rt.let (ih (k + 1) _ _ ⟨rfl, by omega, v', rfl, by omega, by omega, fun q hq => ?_, ?_⟩ (by omega)))
      · by_cases e : q = k
        · rw [e]; omega
        · have := hv2 q (by omega); omega
      · rcases hv' with ⟨rfl, -⟩ | ⟨e, -⟩
        · exact hv3
        · exact Or.inr ⟨k, by omega, e.symm⟩
    by_cases hlt : i32 v < i32 (dN A.1 (k / nN A.1) (k % nN A.1))
    · rw [if_pos hlt]
      rw [i_lt (by omega) (by omega) (by omega) (by omega)] at hlt
      exact nxt _ (Or.inr ⟨rfl, hlt⟩)
    · rw [if_neg hlt]
      rw [i_lt (by omega) (by omega) (by omega) (by omega)] at hlt
      exact nxt _ (Or.inl ⟨rfl, by omega⟩)
theorem P_distanceTo {i e u v t : Int} (hc : cRo S x A n p dq tx j b h) (hi : rng i) (he : rng e) (hu : rng u) (hv : rng v) (ht : rng t) : OpO (fun k => T_X1_distanceTo k S x (i32 i) (i32 e) (i32 u) (i32 v) (i32 t)) (C_X1_distanceTo S x (i32 i) (i32 e) (i32 u) (i32 v) (i32 t)) (ec 1 2 3 (sp_distanceTo A i e u v t).1) S (Qr A (sp_distanceTo A i e u v t)) := by
  obtain ⟨⟨fs, g0⟩, g1, g2, -⟩ := hc.g
  have hN := hc.1.1
  obtain ⟨D, v3, v4, v5, v6, hpl⟩ := hc.2.2.1.pl
  unfold T_X1_distanceTo C_X1_distanceTo sp_distanceTo
  rw [g0]
  refine OpO.let (OpO.node hc hi (fun hn => by rw [ifc_pos (fun z => hn z.1)]; rfl) (fun y1 => OpO.edge hc he (fun hn => by rw [ifc_pos (fun z => hn z.2)]; rfl) (fun y2 => ?_)))
  rw [ifc_neg (fun z => z ⟨y1, y2⟩)]
  have bad : ¬ (isPt A.1 e u v ∧ inR t 0 1) → OpO (fun k => T_X1_distanceTo_33 k x (i32 i) (i32 e) (i32 u) (i32 v) (i32 t) S) (C_X1_distanceTo_33 S x (i32 i) (i32 e) (i32 u) (i32 v) (i32 t)) (ec 1 2 3 (ifc (¬ (isPt A.1 e u v ∧ inR t 0 1)) (no A 2) (ifc (¬ dN A.1 i.toNat (ed A.1 e.toNat).1 < 100000) (no A 3) (yes A (rdc (awy A.1 i.toNat e.toNat (u, v)) v t)))).1) S (Qr A (ifc (¬ (isPt A.1 e u v ∧ inR t 0 1)) (no A 2) (ifc (¬ dN A.1 i.toNat (ed A.1 e.toNat).1 < 100000) (no A 3) (yes A (rdc (awy A.1 i.toNat e.toNat (u, v)) v t))))) := by
    intro hb
    unfold T_X1_distanceTo_33 C_X1_distanceTo_33 T_X1_distanceTo_34 C_X1_distanceTo_34
    exact OpO.checkThat0 (by decide) (by rw [ifc_pos hb]; rfl)
  refine OpO.tst (C_isPoint hc y2 hu hv) (fun hn => bad (fun z => hn z.1)) (fun y3 => OpO.tst (C_isPart ht) (fun hn => bad (fun z => hn z.2)) (fun y4 => ?_))
  rw [ifc_neg (fun z => z ⟨y3, y4⟩)]
  obtain ⟨ox, hin⟩ := isPt_okx hN y2 y3
  obtain ⟨k, rfl⟩ : ∃ k : Nat, i = k := ⟨i.toNat, by have := y1.1; omega⟩
  obtain ⟨d, rfl⟩ : ∃ k : Nat, e = k := ⟨e.toNat, by have := y2.1; omega⟩
  have hk : k < nN A.1 := by have := y1.2; omega
  have hd : d < eN A.1 := by have := y2.2; omega
  obtain ⟨wa, ta, ea, sa, eq, sq, ⟨fs', k0⟩, k1, k2, k3, k4, k5, k6, k7, k8, k9, k10⟩ := hc.net.get hN.sz
  obtain ⟨q1, q2, q3, q4, q5⟩ := k9 d hd
  obtain ⟨a1, a2, a3, a4, a5⟩ := hN.2.2.2.2.1 d hd
  have dr := dN_rng hN k (ed A.1 d).1
  simp only [Int.toNat_natCast] at hin ⊢
  unfold T_X1_distanceTo_34 C_X1_distanceTo_34
  refine OpO.checkThat1 ?_
  rw [g2]
  refine OpO.let ?_
  rw [g1]
  refine OpO.let ?_
  rw [k3]
  refine OpO.let ?_
  rw [q1]
  refine OpO.let ?_
  rw [q3]
  refine OpO.let ?_
  rw [C_distance hN.sz hpl hk a1]
  refine OpO.let (OpO.ite (fun z => ?_) (fun z => ?_))
  · rw [i_cFAR, i_le (by omega) (by omega) (by omega) (by omega)] at z
    unfold T_X1_distanceTo_67 C_X1_distanceTo_67
    exact OpO.checkState0 (by decide) (by rw [ifc_pos (by omega)]; rfl)
  · rw [i_cFAR, i_le (by omega) (by omega) (by omega) (by omega)] at z
    unfold T_X1_distanceTo_67 C_X1_distanceTo_67
    rw [ifc_neg (by omega)]
    refine OpO.checkState1 (OpO.fin rfl ?_)
    have ar := awy_rng hN hk hd ox
    have an := awy_nn (i := k) hN hd hin
    have al : awy A.1 k d (u, v) ≤ 100050000 := Int.le_trans (Int.min_le_left _ _) ar.2.1
    rw [g2, i_long hu.1 hu.2, i_long hv.1 hv.2]
    refine Rt.let (Rt.bindE (C_distanceTo (y := (u, v)) hN hpl hk hd ox) ?_)
    have o1 := ox.1
    have o2 := ox.2.1
    simp only at o1 o2
    rw [C_partOf an (by omega) o1 o2 y4.1 y4.2]
    exact Rt.let (Rt.some ⟨rfl, rfl⟩)
theorem P_isAllowed {e u v : Int} (hc : cRo S x A n p dq tx j b h) (he : rng e) (hu : rng u) (hv : rng v) (hF : 4294967296 < F) : OpO (fun k => T_X1_isAllowed F k S x (i32 e) (i32 u) (i32 v)) (C_X1_isAllowed F S x (i32 e) (i32 u) (i32 v)) (ec 1 2 0 (sp_isAllowed A e u v).1) S (Qr A (sp_isAllowed A e u v)) := by
  obtain ⟨⟨fs, g0⟩, g1, g2, -⟩ := hc.g
  have hN := hc.1.1
  unfold T_X1_isAllowed C_X1_isAllowed sp_isAllowed
  rw [g0]
  refine OpO.let (OpO.edge hc he (fun hn => by rw [ifc_pos hn]; rfl) (fun y2 => ?_))
  rw [ifc_neg (fun z => z y2), C_isPoint hc y2 hu hv]
  refine OpO.let (OpO.checkThat (by decide) (fun hn => by rw [ifc_pos hn]; rfl) (fun y3 => ?_))
  rw [ifc_neg (fun z => z y3)]
  refine OpO.fin rfl ?_
  obtain ⟨ox, hin⟩ := isPt_okx hN y2 y3
  obtain ⟨d, rfl⟩ : ∃ k : Nat, e = k := ⟨e.toNat, by have := y2.1; omega⟩
  rw [g1, i_long hu.1 hu.2, i_long hv.1 hv.2]
  refine Rt.let (Rt.bindE (C_isAllowed (y := (u, v)) hN hc.net (by have := y2.2; omega) ox hF) ?_)
  rw [zz_tr]
  exact Rt.let (Rt.some ⟨rfl, rfl⟩)
theorem P_height {s e u v t : Int} (hc : cRo S x A n p dq tx j b h) (hs : rng s) (he : rng e) (hu : rng u) (hv : rng v) (ht : rng t) (hF : 4294967296 < F) : OpO (fun k => T_X1_height F k S x (i32 s) (i32 e) (i32 u) (i32 v) (i32 t)) (C_X1_height F S x (i32 s) (i32 e) (i32 u) (i32 v) (i32 t)) (ec 1 2 3 (sp_height A s e u v t).1) S (Qr A (sp_height A s e u v t)) := by
  obtain ⟨⟨fs, g0⟩, g1, g2, -⟩ := hc.g
  have hN := hc.1.1
  obtain ⟨D, v3, v4, v5, v6, hpl⟩ := hc.2.2.1.pl
  unfold T_X1_height C_X1_height sp_height
  rw [g0]
  refine OpO.let (OpO.edge hc he (fun hn => by rw [ifc_pos hn]; rfl) (fun y2 => ?_))
  rw [ifc_neg (fun z => z y2)]
  have bad : ¬ (isSe A.1 s ∧ isPt A.1 e u v ∧ inR t 0 1) → ∀ R : Res, OpO (fun k => T_X1_height_36 F k x (i32 s) (i32 e) (i32 u) (i32 v) (i32 t) S) (C_X1_height_36 F S x (i32 s) (i32 e) (i32 u) (i32 v) (i32 t)) (ec 1 2 3 (ifc (¬ (isSe A.1 s ∧ isPt A.1 e u v ∧ inR t 0 1)) (no A 2) R).1) S (Qr A (ifc (¬ (isSe A.1 s ∧ isPt A.1 e u v ∧ inR t 0 1)) (no A 2) R)) := by
    intro hb R
    unfold T_X1_height_36 C_X1_height_36 T_X1_height_37 C_X1_height_37
    exact OpO.checkThat0 (by decide) (by rw [ifc_pos hb]; rfl)
  refine OpO.tst (C_isSet hc hs) (fun hn => bad (fun z => hn z.1) _) (fun y1 => OpO.tst (C_isPoint hc y2 hu hv) (fun hn => bad (fun z => hn z.2.1) _) (fun y3 => OpO.tst (C_isPart ht) (fun hn => bad (fun z => hn z.2.2) _) (fun y4 => ?_)))
  rw [ifc_neg (fun z => z ⟨y1, y3, y4⟩)]
  obtain ⟨ox, hin⟩ := isPt_okx hN y2 y3
  obtain ⟨k, rfl⟩ : ∃ k : Nat, s = k := ⟨s.toNat, by have := y1.1; omega⟩
  obtain ⟨d, rfl⟩ : ∃ k : Nat, e = k := ⟨e.toNat, by have := y2.1; omega⟩
  have p2 := two_n hN
  have pc : ((2 ^ nN A.1 : Nat) : Int) = 2 ^ nN A.1 := by push_cast; rfl
  have hk : k < 256 := by have := y1.2; rw [← pc] at this; omega
  have hd : d < eN A.1 := by have := y2.2; omega
  simp only [Int.toNat_natCast] at hin ⊢
  unfold T_X1_height_37 C_X1_height_37
  refine OpO.checkThat1 ?_
  rw [g2]
  refine OpO.let ?_
  rw [C_isConnected hN hpl hF]
  refine OpO.let (OpO.checkState (by decide) (fun hn => by rw [ifc_pos hn]; rfl) (fun y5 => ?_))
  rw [ifc_neg (fun z => z y5)]
  refine OpO.fin rfl ?_
  rw [i_long hu.1 hu.2, i_long hv.1 hv.2]
  have hr := hgt_rng (s := k) hN y5 (wN_9 hN) hd ox hin.2.2
  refine Rt.let (Rt.bindE (C_height (y := (u, v)) hN hpl (wN_9 hN) y5 hk hd ox hin.2.2 hF) ?_)
  have o1 := ox.1
  have o2 := ox.2.1
  simp only at o1 o2
  rw [C_partOf hr.1 (by omega) o1 o2 y4.1 y4.2]
  exact Rt.let (Rt.some ⟨rfl, rfl⟩)
theorem P_cost {e u v t : Int} (hc : cRo S x A n p dq tx j b h) (he : rng e) (hu : rng u) (hv : rng v) (ht : rng t) (hF : 4294967296 < F) : OpO (fun k => T_X1_cost F k S x (i32 e) (i32 u) (i32 v) (i32 t)) (C_X1_cost F S x (i32 e) (i32 u) (i32 v) (i32 t)) (ec 1 2 3 (sp_cost A e u v t).1) S (Qr A (sp_cost A e u v t)) := by
  obtain ⟨⟨fs, g0⟩, g1, g2, -⟩ := hc.g
  have hN := hc.1.1
  obtain ⟨D, v3, v4, v5, v6, hpl⟩ := hc.2.2.1.pl
  unfold T_X1_cost C_X1_cost sp_cost
  rw [g0]
  refine OpO.let (OpO.edge hc he (fun hn => by rw [ifc_pos hn]; rfl) (fun y2 => ?_))
  rw [ifc_neg (fun z => z y2)]
  have bad : ¬ (isPt A.1 e u v ∧ inR t 0 1) → ∀ R : Res, OpO (fun k => T_X1_cost_27 F k x (i32 e) (i32 u) (i32 v) (i32 t) S) (C_X1_cost_27 F S x (i32 e) (i32 u) (i32 v) (i32 t)) (ec 1 2 3 (ifc (¬ (isPt A.1 e u v ∧ inR t 0 1)) (no A 2) R).1) S (Qr A (ifc (¬ (isPt A.1 e u v ∧ inR t 0 1)) (no A 2) R)) := by
    intro hb R
    unfold T_X1_cost_27 C_X1_cost_27 T_X1_cost_28 C_X1_cost_28
    exact OpO.checkThat0 (by decide) (by rw [ifc_pos hb]; rfl)
  refine OpO.tst (C_isPoint hc y2 hu hv) (fun hn => bad (fun z => hn z.1) _) (fun y3 => OpO.tst (C_isPart ht) (fun hn => bad (fun z => hn z.2) _) (fun y4 => ?_))
  rw [ifc_neg (fun z => z ⟨y3, y4⟩)]
  obtain ⟨ox, hin⟩ := isPt_okx hN y2 y3
  obtain ⟨d, rfl⟩ : ∃ k : Nat, e = k := ⟨e.toNat, by have := y2.1; omega⟩
  have hd : d < eN A.1 := by have := y2.2; omega
  simp only [Int.toNat_natCast] at hin ⊢
  unfold T_X1_cost_28 C_X1_cost_28
  refine OpO.checkThat1 ?_
  rw [g2]
  refine OpO.let ?_
  rw [C_isConnected hN hpl hF]
  refine OpO.let (OpO.checkState (by decide) (fun hn => by rw [ifc_pos hn]; rfl) (fun y5 => ?_))
  rw [ifc_neg (fun z => z y5)]
  refine OpO.fin rfl ?_
  rw [i_long hu.1 hu.2, i_long hv.1 hv.2]
  have hr := cos_rng hN y5 (wN_9 hN) hd ox hin.2.2
  refine Rt.let (Rt.bindE (C_cost (y := (u, v)) hN hpl (wN_9 hN) hd ox hF) ?_)
  have o1 := ox.1
  have o2 := ox.2.1
  simp only at o1 o2
  rw [C_partOf hr.1 (by omega) o1 o2 y4.1 y4.2]
  exact Rt.let (Rt.some ⟨rfl, rfl⟩)
end TM_
