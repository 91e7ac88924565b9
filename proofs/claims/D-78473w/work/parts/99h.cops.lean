/-! THE CLASS's CALLS: what they throw, what they answer -/
def OpO {ρ : Type} (T : Nat → Option St) (C : Option ρ) (e : Nat) (S : St) (Q : ρ → Prop) : Prop := (e ≠ 0 → T e = some (thr S)) ∧ (e = 0 → Rt C Q)
section OP
variable {ρ α : Type} {e : Nat} {S : St} {Q : ρ → Prop}
theorem OpO.let {T : α → Nat → Option St} {C : α → Option ρ} {v : α} (k : OpO (T v) (C v) e S Q) : OpO (fun n => (some v) >>= fun y => T y n) ((some v) >>= C) e S Q := k
theorem OpO.bind {E : Option α} {P : α → Prop} {T : α → Nat → Option St} {C : α → Option ρ} (h : Rt E P) (k : ∀ v, P v → OpO (T v) (C v) e S Q) : OpO (fun n => E >>= fun y => T y n) (E >>= C) e S Q := by
  obtain ⟨v, h1, h2⟩ := h
  rw [h1]; exact k v h2
theorem OpO.ite {c : Prop} {ic ic' : Decidable c} {U V : Nat → Option St} {C D : Option ρ} (ha : c → OpO U C e S Q) (hb : ¬ c → OpO V D e S Q) : OpO (fun n => @_root_.ite _ c ic (U n) (V n)) (@_root_.ite _ c ic' C D) e S Q := by
  by_cases h : c
  · have : (fun n => @_root_.ite _ c ic (U n) (V n)) = U := by funext n; rw [if_pos h]
    rw [this, if_pos h]; exact ha h
  · have : (fun n => @_root_.ite _ c ic (U n) (V n)) = V := by funext n; rw [if_neg h]
    rw [this, if_neg h]; exact hb h
theorem OpO.fin {C : Option ρ} (he : e = 0) (h : Rt C Q) : OpO (fun _ => none) C e S Q := ⟨fun z => absurd he z, fun _ => h⟩
theorem OpO.thr0 {T : Nat → Option St} {C : Option ρ} {k : Nat} (hk : k ≠ 0) (he : e = k) (h : T k = some (thr S)) : OpO T C e S Q := ⟨fun _ => by rw [he]; exact h, fun z => absurd (he.symm.trans z) hk⟩
theorem tchk0 {k : Nat} : T_X1_check k k S 0 = some (thr S) := by unfold T_X1_check; rw [if_pos rfl, if_pos rfl]
theorem tchk1 {k n : Nat} : T_X1_check k n S 1 = none := by unfold T_X1_check; rw [if_neg (by decide)]
theorem OpO.checkThat0 {T : Nat → Option St} {C : Option ρ} {k : Nat} (hk : k ≠ 0) (he : e = k) : OpO (fun n => tor (T_X1_check k n S 0) ((C_X1_checkThat 0) >>= fun _ => T n)) ((C_X1_checkThat 0) >>= fun _ => C) e S Q := OpO.thr0 hk he (by rw [tchk0]; rfl)
theorem OpO.checkThat1 {T : Nat → Option St} {C : Option ρ} {k : Nat} (h : OpO T C e S Q) : OpO (fun n => tor (T_X1_check k n S 1) ((C_X1_checkThat 1) >>= fun _ => T n)) ((C_X1_checkThat 1) >>= fun _ => C) e S Q := by
  have e1 : (fun n => tor (T_X1_check k n S 1) ((C_X1_checkThat 1) >>= fun _ => T n)) = T := by
    funext n
    rw [tchk1]; rfl
  rw [e1]; exact h
theorem OpO.checkThat {T : Nat → Option St} {C : Option ρ} {k : Nat} {c : Prop} (hk : k ≠ 0) (h1 : ¬ c → e = k) (h2 : c → OpO T C e S Q) : OpO (fun n => tor (T_X1_check k n S (i32 (tr01 c))) ((C_X1_checkThat (i32 (tr01 c))) >>= fun _ => T n)) ((C_X1_checkThat (i32 (tr01 c))) >>= fun _ => C) e S Q := by
  by_cases h : c
  · rw [tr01_pos h]; exact OpO.checkThat1 (h2 h)
  · rw [tr01_neg h]; exact OpO.checkThat0 hk (h1 h)
theorem OpO.checkIndex0 {T : Nat → Option St} {C : Option ρ} {k : Nat} (hk : k ≠ 0) (he : e = k) : OpO (fun n => tor (T_X1_check k n S 0) ((C_X1_checkIndex 0) >>= fun _ => T n)) ((C_X1_checkIndex 0) >>= fun _ => C) e S Q := OpO.thr0 hk he (by rw [tchk0]; rfl)
theorem OpO.checkIndex1 {T : Nat → Option St} {C : Option ρ} {k : Nat} (h : OpO T C e S Q) : OpO (fun n => tor (T_X1_check k n S 1) ((C_X1_checkIndex 1) >>= fun _ => T n)) ((C_X1_checkIndex 1) >>= fun _ => C) e S Q := by
  have e1 : (fun n => tor (T_X1_check k n S 1) ((C_X1_checkIndex 1) >>= fun _ => T n)) = T := by
    funext n
    rw [tchk1]; rfl
  rw [e1]; exact h
theorem OpO.checkIndex {T : Nat → Option St} {C : Option ρ} {k : Nat} {c : Prop} (hk : k ≠ 0) (h1 : ¬ c → e = k) (h2 : c → OpO T C e S Q) : OpO (fun n => tor (T_X1_check k n S (i32 (tr01 c))) ((C_X1_checkIndex (i32 (tr01 c))) >>= fun _ => T n)) ((C_X1_checkIndex (i32 (tr01 c))) >>= fun _ => C) e S Q := by
  by_cases h : c
  · rw [tr01_pos h]; exact OpO.checkIndex1 (h2 h)
  · rw [tr01_neg h]; exact OpO.checkIndex0 hk (h1 h)
theorem OpO.checkState0 {T : Nat → Option St} {C : Option ρ} {k : Nat} (hk : k ≠ 0) (he : e = k) : OpO (fun n => tor (T_X1_check k n S 0) ((C_X1_checkState 0) >>= fun _ => T n)) ((C_X1_checkState 0) >>= fun _ => C) e S Q := OpO.thr0 hk he (by rw [tchk0]; rfl)
theorem OpO.checkState1 {T : Nat → Option St} {C : Option ρ} {k : Nat} (h : OpO T C e S Q) : OpO (fun n => tor (T_X1_check k n S 1) ((C_X1_checkState 1) >>= fun _ => T n)) ((C_X1_checkState 1) >>= fun _ => C) e S Q := by
  have e1 : (fun n => tor (T_X1_check k n S 1) ((C_X1_checkState 1) >>= fun _ => T n)) = T := by
    funext n
    rw [tchk1]; rfl
  rw [e1]; exact h
theorem OpO.checkState {T : Nat → Option St} {C : Option ρ} {k : Nat} {c : Prop} (hk : k ≠ 0) (h1 : ¬ c → e = k) (h2 : c → OpO T C e S Q) : OpO (fun n => tor (T_X1_check k n S (i32 (tr01 c))) ((C_X1_checkState (i32 (tr01 c))) >>= fun _ => T n)) ((C_X1_checkState (i32 (tr01 c))) >>= fun _ => C) e S Q := by
  by_cases h : c
  · rw [tr01_pos h]; exact OpO.checkState1 (h2 h)
  · rw [tr01_neg h]; exact OpO.checkState0 hk (h1 h)
end OP
def ec (a b c k : Nat) : Nat := if k = 1 then a else if k = 2 then b else if k = 3 then c else 0
section OQ
variable {S T : St} {x n p dq tx j b : Nat} {h : Int64} {A : Ab} {F : Nat} {N : Net}
/-- what a call leaves and answers -/
def Qs (S : St) (x : Nat) (r : Res) (v : Int32 × St) : Prop := v.1 = i32 r.2.1 ∧ cR v.2 x r.2.2 ∧ cs_ 9000 100000 S v.2
def Qr (A : Ab) (r : Res) (v : Int32) : Prop := v = i32 r.2.1 ∧ r.2.2 = A
theorem OpO.node {ρ : Type} {T : Nat → Option St} {C : Option ρ} {Q : ρ → Prop} {e : Nat} {i : Int} (hc : cRo S x A n p dq tx j b h) (hi : rng i) (h1 : ¬ isNd A.1 i → e = 1) (h2 : isNd A.1 i → OpO T C e S Q) : OpO (fun k => tor (T_X1_checkNode k S x (i32 i)) ((C_X1_checkNode S x (i32 i)) >>= fun _ => T k)) ((C_X1_checkNode S x (i32 i)) >>= fun _ => C) e S Q := by
  obtain ⟨⟨fs, g0⟩, g1, -⟩ := hc.g
  have e1 := C_isNode (hc.1.1.sz) hc.net hi
  by_cases hh : isNd A.1 i
  · have t0 : ∀ k, T_X1_checkNode k S x (i32 i) = none := by
      intro k
      unfold T_X1_checkNode
      rw [g0, g1]
      simp only [Option.bind_eq_bind, Option.bind_some]
      rw [e1, tr01_pos hh]
      show tor (T_X1_check 1 k S 1) _ = none
      rw [tchk1]; rfl
    have c0 : C_X1_checkNode S x (i32 i) = some () := by
      unfold C_X1_checkNode
      rw [g0, g1]
      simp only [Option.bind_eq_bind, Option.bind_some]
      rw [e1, tr01_pos hh]
      rfl
    have e2 : (fun k => tor (T_X1_checkNode k S x (i32 i)) ((C_X1_checkNode S x (i32 i)) >>= fun _ => T k)) = T := by
      funext k
      rw [t0, c0]; rfl
    rw [e2, c0]
    exact h2 hh
  · refine OpO.thr0 (k := 1) (by decide) (h1 hh) ?_
    unfold T_X1_checkNode
    rw [g0, g1]
    simp only [Option.bind_eq_bind, Option.bind_some]
    rw [e1, tr01_neg hh]
    simp only [Option.bind_eq_bind, Option.bind_some]
    rw [show T_X1_check 1 1 S (i32 0) = some (thr S) from tchk0]; rfl
/-- an index of the edges, of the stretches -/
theorem C_idx {m : Nat} {i : Int} (hm : m ≤ 12) (hi : rng i) : C_X1_isIn (i32 i) 0 (i32 (m : Int) - 1) = some (i32 (tr01 (0 ≤ i ∧ i < m))) := by
  rw [i_c1, i_sub, i_c0, C_isIn hi (by decide) ⟨by omega, by omega⟩]
  congr 2
  exact tr01_congr ⟨fun z => ⟨z.1, by have := z.2; omega⟩, fun z => ⟨z.1, by have := z.2; omega⟩⟩
theorem OpO.edge {ρ : Type} {T : Nat → Option St} {C : Option ρ} {Q : ρ → Prop} {e : Nat} {i : Int} (hc : cRo S x A n p dq tx j b h) (hi : rng i) (h1 : ¬ isEg A.1 i → e = 1) (h2 : isEg A.1 i → OpO T C e S Q) : OpO (fun k => tor (T_X1_checkEdge k S x (i32 i)) ((C_X1_checkEdge S x (i32 i)) >>= fun _ => T k)) ((C_X1_checkEdge S x (i32 i)) >>= fun _ => C) e S Q := by
  obtain ⟨⟨fs, g0⟩, g1, -⟩ := hc.g
  have hz := hc.1.1.sz
  obtain ⟨wa, ta, ea, sa, eq, sq, ⟨fs', h0⟩, -, -, h3, h4, -, h6, h7, -⟩ := hc.net.get hz
  have z2 := hz.2.1
  have z3 := hz.2.2
  have e1 := C_idx (m := eN A.1) (i := i) (by omega) hi
  by_cases hh : isEg A.1 i
  · have t0 : ∀ k, T_X1_checkEdge k S x (i32 i) = none := by
      intro k
      unfold T_X1_checkEdge
      rw [g0, g1]
      simp only [Option.bind_eq_bind, Option.bind_some]
      rw [h3]
      simp only [Option.bind_eq_bind, Option.bind_some]
      rw [h6]
      simp only [Option.bind_eq_bind, Option.bind_some]
      rw [e1, tr01_pos hh]
      show tor (T_X1_check 1 k S 1) _ = none
      rw [tchk1]; rfl
    have c0 : C_X1_checkEdge S x (i32 i) = some () := by
      unfold C_X1_checkEdge
      rw [g0, g1]
      simp only [Option.bind_eq_bind, Option.bind_some]
      rw [h3]
      simp only [Option.bind_eq_bind, Option.bind_some]
      rw [h6]
      simp only [Option.bind_eq_bind, Option.bind_some]
      rw [e1, tr01_pos hh]
      rfl
    have e2 : (fun k => tor (T_X1_checkEdge k S x (i32 i)) ((C_X1_checkEdge S x (i32 i)) >>= fun _ => T k)) = T := by
      funext k
      rw [t0, c0]; rfl
    rw [e2, c0]
    exact h2 hh
  · refine OpO.thr0 (k := 1) (by decide) (h1 hh) ?_
    unfold T_X1_checkEdge
    rw [g0, g1]
    simp only [Option.bind_eq_bind, Option.bind_some]
    rw [h3]
    simp only [Option.bind_eq_bind, Option.bind_some]
    rw [h6]
    simp only [Option.bind_eq_bind, Option.bind_some]
    rw [e1, tr01_neg hh]
    simp only [Option.bind_eq_bind, Option.bind_some]
    rw [show T_X1_check 1 1 S (i32 0) = some (thr S) from tchk0]; rfl
theorem OpO.stretch {ρ : Type} {T : Nat → Option St} {C : Option ρ} {Q : ρ → Prop} {e : Nat} {i : Int} (hc : cRo S x A n p dq tx j b h) (hi : rng i) (h1 : ¬ isSt A.1 i → e = 1) (h2 : isSt A.1 i → OpO T C e S Q) : OpO (fun k => tor (T_X1_checkStretch k S x (i32 i)) ((C_X1_checkStretch S x (i32 i)) >>= fun _ => T k)) ((C_X1_checkStretch S x (i32 i)) >>= fun _ => C) e S Q := by
  obtain ⟨⟨fs, g0⟩, g1, -⟩ := hc.g
  have hz := hc.1.1.sz
  obtain ⟨wa, ta, ea, sa, eq, sq, ⟨fs', h0⟩, -, -, h3, h4, -, h6, h7, -⟩ := hc.net.get hz
  have z2 := hz.2.1
  have z3 := hz.2.2
  have e1 := C_idx (m := sN A.1) (i := i) (by omega) hi
  by_cases hh : isSt A.1 i
  · have t0 : ∀ k, T_X1_checkStretch k S x (i32 i) = none := by
      intro k
      unfold T_X1_checkStretch
      rw [g0, g1]
      simp only [Option.bind_eq_bind, Option.bind_some]
      rw [h4]
      simp only [Option.bind_eq_bind, Option.bind_some]
      rw [h7]
      simp only [Option.bind_eq_bind, Option.bind_some]
      rw [e1, tr01_pos hh]
      show tor (T_X1_check 1 k S 1) _ = none
      rw [tchk1]; rfl
    have c0 : C_X1_checkStretch S x (i32 i) = some () := by
      unfold C_X1_checkStretch
      rw [g0, g1]
      simp only [Option.bind_eq_bind, Option.bind_some]
      rw [h4]
      simp only [Option.bind_eq_bind, Option.bind_some]
      rw [h7]
      simp only [Option.bind_eq_bind, Option.bind_some]
      rw [e1, tr01_pos hh]
      rfl
    have e2 : (fun k => tor (T_X1_checkStretch k S x (i32 i)) ((C_X1_checkStretch S x (i32 i)) >>= fun _ => T k)) = T := by
      funext k
      rw [t0, c0]; rfl
    rw [e2, c0]
    exact h2 hh
  · refine OpO.thr0 (k := 1) (by decide) (h1 hh) ?_
    unfold T_X1_checkStretch
    rw [g0, g1]
    simp only [Option.bind_eq_bind, Option.bind_some]
    rw [h4]
    simp only [Option.bind_eq_bind, Option.bind_some]
    rw [h7]
    simp only [Option.bind_eq_bind, Option.bind_some]
    rw [e1, tr01_neg hh]
    simp only [Option.bind_eq_bind, Option.bind_some]
    rw [show T_X1_check 1 1 S (i32 0) = some (thr S) from tchk0]; rfl
theorem C_mayConnect {a c l : Int} (hN : okN N) (hn : netC b S x N (wN N)) (ha : rng a) (hc : rng c) (hl : rng l) : C_X2_mayConnect S x (i32 a) (i32 c) (i32 l) = some (i32 (tr01 (¬ (a = c ∨ ¬ inR l 1 50)))) := by
  obtain ⟨wa, ta, ea, sa, eq, sq, ⟨fs', h0⟩, -⟩ := hn.get hN.sz
  have e1 : C_X1_isIn (i32 l) 1 50 = some (i32 (tr01 (inR l 1 50))) := C_isIn (lo := 1) (hi := 50) hl (by decide) (by decide)
  apply Rt.eq
  unfold C_X2_mayConnect
  rw [h0]
  refine Rt.let (Rt.ite (fun z => Rt.some (tr_0 ?_)) (fun z => ?_))
  · rw [i_eq ha.1 ha.2 hc.1 hc.2] at z
    exact fun q => q (Or.inl z)
  · rw [i_eq ha.1 ha.2 hc.1 hc.2] at z
    refine Rt.tst e1 (fun q => Rt.some (tr_0 (fun w => w (Or.inr q)))) (fun q => Rt.some (tr_1 ?_))
    rintro (w | w)
    · exact z w
    · exact w q
theorem C_hasRoom {a c : Int} (hN : okN N) (hn : netC b S x N (wN N)) (ha : rng a) (hc : rng c) (hF : 4294967296 < F) : C_X2_hasRoomFor F S x (i32 a) (i32 c) = some (i32 (tr01 (¬ (joinN N a c ∨ eN N = 12)))) := by
  have z2 := hN.sz.2.1
  obtain ⟨wa, ta, ea, sa, eq, sq, ⟨fs', h0⟩, -, -, h3, h4, -, h6, -⟩ := hn.get hN.sz
  apply Rt.eq
  unfold C_X2_hasRoomFor
  rw [h0]
  refine Rt.let (Rt.tst (C_isJoined hN hn ha hc hF) (fun q => ?_) (fun q => Rt.some (tr_0 (fun w => w (Or.inl q)))))
  rw [h3]
  refine Rt.let ?_
  rw [h6]
  refine Rt.let (Rt.ite (fun z => Rt.some (tr_0 ?_)) (fun z => Rt.some (tr_1 ?_)))
  · rw [i_c12, i_le (by omega) (by omega) (by omega) (by omega)] at z
    exact fun w => w (Or.inr (by omega))
  · rw [i_c12, i_le (by omega) (by omega) (by omega) (by omega)] at z
    rintro (w | w)
    · exact q w
    · omega
theorem C_mayForbid {e : Nat} {a c : Int} (hN : okN N) (hn : netC b S x N (wN N)) (he : e < eN N) (ha : rng a) (hc : rng c) : C_X2_mayForbid S x (i32 e) (i32 a) (i32 c) = some (i32 (tr01 (0 ≤ a ∧ a < c ∧ c ≤ (ed N e).2.2))) := by
  obtain ⟨wa, ta, ea, sa, eq, sq, ⟨fs', h0⟩, -, -, h3, h4, -, h6, -, -, h9, -⟩ := hn.get hN.sz
  obtain ⟨e1, e2, e3, e4, e5⟩ := h9 e he
  obtain ⟨b1, b2, b3, b4, b5⟩ := hN.2.2.2.2.1 e he
  have ha' := ha.1
  have ha'' := ha.2
  have hc' := hc.1
  have hc'' := hc.2
  apply Rt.eq
  unfold C_X2_mayForbid
  rw [h0]
  refine Rt.let (Rt.ite (fun z => Rt.some (tr_0 ?_)) (fun z => Rt.ite (fun z2 => Rt.some (tr_0 ?_)) (fun z2 => ?_)))
  · rw [i_c0, i_lt ha' ha'' (by omega) (by omega)] at z; omega
  · rw [i_le hc' hc'' ha' ha''] at z2; omega
  · rw [i_c0, i_lt ha' ha'' (by omega) (by omega)] at z
    rw [i_le hc' hc'' ha' ha''] at z2
    rw [h3]
    refine Rt.let ?_
    rw [e1]
    refine Rt.let ?_
    rw [e5]
    refine Rt.let (Rt.ite (fun z3 => Rt.some (tr_0 ?_)) (fun z3 => Rt.some (tr_1 ?_)))
    · rw [i_lt (by omega) (by omega) hc' hc''] at z3; omega
    · rw [i_lt (by omega) (by omega) hc' hc''] at z3; omega
/-- the end of a changing call -/
theorem C_chg {o c d : Nat} {U : St} (hc : cRo S x A n p dq tx j b h) (hx : ex c d S U) (ho : netC U.2.1 U o N (wN N)) (hN : okN N) (h8 : c ≤ 8000) (h9 : d ≤ 90000) (hF : 4294967296 < F) : Rt (C_X1_become F U x o) (fun T => cs_ 9000 100000 S T ∧ ∃ p' b', cRo T x (push A N) o p' dq tx 0 b' h) := by
  refine Rt.mono (C_become (hc.ex hx) ho hN hF) ?_
  rintro T ⟨t1, t2⟩
  exact ⟨hx.cs_.tr t1 (by omega) (by omega), t2⟩
theorem P_reset {m : Int} (hc : cRo S x A n p dq tx j b h) (hr : rng m) (hF : 4294967296 < F) : OpO (fun k => T_X1_reset F k S x (i32 m)) (C_X1_reset F S x (i32 m)) (ec 2 0 0 (sp_reset A m).1) S (Qs S x (sp_reset A m)) := by
  obtain ⟨⟨fs, g0⟩, g1, -⟩ := hc.g
  have hw := hc.wf
  unfold T_X1_reset C_X1_reset sp_reset
  rw [g0]
  have e1 : C_X1_isIn (i32 m) 1 8 = some (i32 (tr01 (inR m 1 8))) := C_isIn (lo := 1) (hi := 8) hr (by decide) (by decide)
  rw [e1]
  refine OpO.let (OpO.let (OpO.checkThat (by decide) (fun hn => by rw [ifc_neg hn]; rfl) (fun hy => ?_)))
  rw [ifc_pos hy]
  refine OpO.fin rfl ?_
  rw [g1]
  refine Rt.let ?_
  rw [C_size hc.1.1.sz hc.net]
  refine Rt.let ?_
  rw [nO_eq]
  refine Rt.let ?_
  dsimp only
  have y1 := hy.1
  have y2 := hy.2
  obtain ⟨k, rfl⟩ : ∃ k : Nat, m = k := ⟨m.toNat, by omega⟩
  have xa : ex 1 4 S (al S (cO 2 df_2) 4) := ex.al hw
  refine Rt.bind (C_newNet (n := k) xa.1 (al_me _ _ _) (by omega) hF) ?_
  rintro U ⟨u1, u2, u3, u4⟩
  have hU : ex 5 20 S U := by
    obtain ⟨v1, v2, v3, v4, -⟩ := u2
    have n1 : (al S (cO 2 df_2) 4).2.1 = S.2.1 + 1 := rfl
    have n2 : (al S (cO 2 df_2) 4).2.2.1 = S.2.2.1 + 1 := rfl
    have n3 : (al S (cO 2 df_2) 4).2.2.2 = S.2.2.2 + 4 := rfl
    exact ⟨v1, by omega, by omega, by omega, fun q e hq => u3 q e (xa.get hq) (by have := hw.lt hq; omega)⟩
  refine Rt.bind (C_chg hc hU u4 (nReset_ok (by omega) (by omega)) (by omega) (by omega) hF) ?_
  rintro T ⟨t1, p', b', t2⟩
  exact Rt.some ⟨rfl, t2.cR, t1⟩
theorem P_connect {a c l : Int} (hc : cRo S x A n p dq tx j b h) (ha : rng a) (hcc : rng c) (hl : rng l) (hF : 4294967296 < F) : OpO (fun k => T_X1_connect F k S x (i32 a) (i32 c) (i32 l)) (C_X1_connect F S x (i32 a) (i32 c) (i32 l)) (ec 1 2 3 (sp_connect A a c l).1) S (Qs S x (sp_connect A a c l)) := by
  obtain ⟨⟨fs, g0⟩, g1, -⟩ := hc.g
  have hw := hc.wf
  have hN := hc.1.1
  unfold T_X1_connect C_X1_connect sp_connect
  rw [g0]
  have m1 := C_mayConnect hN hc.net ha hcc hl
  have m2 := C_hasRoom hN hc.net ha hcc hF
  refine OpO.let (OpO.node hc ha (fun hn => ?_) (fun y1 => OpO.node hc hcc (fun hn => ?_) (fun y2 => ?_)))
  · have : cdCon A.1 a c l = 1 := ifc_pos (fun z => hn z.1)
    rw [this]; rfl
  · have : cdCon A.1 a c l = 1 := ifc_pos (fun z => hn z.2)
    rw [this]; rfl
  have d1 : cdCon A.1 a c l = ifc (a = c ∨ ¬ inR l 1 50) 2 (ifc (joinN A.1 a c ∨ eN A.1 = 12) 3 0) := ifc_neg (fun z => z ⟨y1, y2⟩)
  rw [g1]
  refine OpO.let ?_
  rw [m1]
  refine OpO.let (OpO.checkThat (by decide) (fun hn => ?_) (fun y3 => ?_))
  · rw [d1, ifc_pos (Classical.not_not.mp hn)]; rfl
  rw [ifc_neg y3] at d1
  refine OpO.let ?_
  rw [m2]
  refine OpO.let (OpO.checkState (by decide) (fun hn => ?_) (fun y4 => ?_))
  · rw [d1, ifc_pos (Classical.not_not.mp hn)]; rfl
  rw [ifc_neg y4] at d1
  rw [if_pos d1]
  refine OpO.fin rfl (Rt.let ?_)
  rw [nO_eq]
  refine Rt.let ?_
  dsimp only
  obtain ⟨a', rfl⟩ : ∃ k : Nat, a = k := ⟨a.toNat, by have := y1.1; omega⟩
  obtain ⟨c', rfl⟩ : ∃ k : Nat, c = k := ⟨c.toNat, by have := y2.1; omega⟩
  rw [C_init5 (show (al S (cO 4 df_4) 3).1 S.2.1 = some (cO 4 [.int 0, .int 0, .int 0]) from al_me _ _ _), put_al]
  refine Rt.let ?_
  have xa : ex 1 3 S (al S (cO 4 [.int (i32 a'), .int (i32 c'), .int (i32 l)]) 3) := ex.al hw
  obtain ⟨o, U, e1, e2, e3⟩ := C_withEdge (a := a') (c := c') (l := l) hN xa.1 (hc.net.ex xa) (al_me _ _ _)
  rw [e1]
  refine Rt.let ?_
  dsimp only
  have hN' : okN (nCon A.1 a' c' l) := nCon_okc (a := (a' : Int)) (b := (c' : Int)) hN d1
  refine Rt.bind (C_chg hc (xa.tr e2 (Nat.le_refl _) (Nat.le_refl _)) e3 hN' (by omega) (by omega) hF) ?_
  rintro T ⟨t1, p', b', t2⟩
  obtain ⟨-, k1, -⟩ := t2.g
  obtain ⟨wa, ta, ea, sa, eq, sq, -, -, -, h3, -, -, h6, -⟩ := t2.net.get (show okN (nCon A.1 a' c' l) from hN').sz
  rw [k1]
  refine Rt.let ?_
  rw [h3]
  refine Rt.let ?_
  rw [h6]
  refine Rt.let (Rt.some ⟨?_, t2.cR, t1⟩)
  show i32 (eN (nCon A.1 a' c' l) : Int) - 1 = i32 (eN A.1 : Int)
  rw [nCon_e, i_c1, i_sub]; congr 1; omega
theorem P_disconnect {i : Int} (hc : cRo S x A n p dq tx j b h) (hi : rng i) (hF : 4294967296 < F) : OpO (fun k => T_X1_disconnect F k S x (i32 i)) (C_X1_disconnect F S x (i32 i)) (ec 1 0 0 (sp_disconnect A i).1) S (Qs S x (sp_disconnect A i)) := by
  obtain ⟨⟨fs, g0⟩, g1, -⟩ := hc.g
  have hw := hc.wf
  have hN := hc.1.1
  unfold T_X1_disconnect C_X1_disconnect sp_disconnect
  rw [g0]
  refine OpO.let (OpO.edge hc hi (fun hn => by rw [ifc_neg hn]; rfl) (fun hy => ?_))
  rw [ifc_pos hy]
  refine OpO.fin rfl ?_
  obtain ⟨k, rfl⟩ : ∃ k : Nat, i = k := ⟨i.toNat, by have := hy.1; omega⟩
  have hk : k < eN A.1 := by have := hy.2; omega
  obtain ⟨wa, ta, ea, sa, eq, sq, ⟨fs', h0⟩, -, -, h3, h4, -, h6, h7, -⟩ := hc.net.get hN.sz
  rw [g1]
  refine Rt.let ?_
  rw [h4]
  refine Rt.let ?_
  rw [h7]
  refine Rt.let (Rt.let ?_)
  refine Rt.bind (C_withoutEdge hN hw hc.net hk hF) ?_
  rintro ⟨o, U⟩ ⟨u1, u2⟩
  dsimp only at u1 u2 ⊢
  refine Rt.bind (C_chg (N := nDis A.1 k) hc u1 u2 (nDis_ok hN hk) (by omega) (by omega) hF) ?_
  rintro T ⟨t1, p', b', t2⟩
  obtain ⟨-, k1, -⟩ := t2.g
  obtain ⟨wa, ta, ea, sa, eq, sq, -, -, -, -, h4', -, -, h7', -⟩ := t2.net.get (show okN (nDis A.1 k) from nDis_ok hN hk).sz
  rw [k1]
  refine Rt.let ?_
  rw [h4']
  refine Rt.let ?_
  rw [h7']
  refine Rt.let (Rt.some ⟨?_, t2.cR, t1⟩)
  show i32 (sN A.1 : Int) - i32 (sN (nDis A.1 k) : Int) = i32 ((sN A.1 : Int) - sN (nDis A.1 k))
  rw [i_sub]
theorem P_setWeight {i v : Int} (hc : cRo S x A n p dq tx j b h) (hi : rng i) (hv : rng v) (hF : 4294967296 < F) : OpO (fun k => T_X1_setWeight F k S x (i32 i) (i32 v)) (C_X1_setWeight F S x (i32 i) (i32 v)) (ec 1 2 0 (sp_setWeight A i v).1) S (Qs S x (sp_setWeight A i v)) := by
  obtain ⟨⟨fs, g0⟩, g1, -⟩ := hc.g
  have hw := hc.wf
  have hN := hc.1.1
  have e1 : C_X1_isIn (i32 v) 0 9 = some (i32 (tr01 (inR v 0 9))) := C_isIn (lo := 0) (hi := 9) hv (by decide) (by decide)
  unfold T_X1_setWeight C_X1_setWeight sp_setWeight
  rw [g0]
  refine OpO.let (OpO.node hc hi (fun hn => ?_) (fun y1 => ?_))
  · have : cdSet A.1 i v = 1 := ifc_pos hn
    rw [this]; rfl
  have d1 : cdSet A.1 i v = ifc (¬ inR v 0 9) 2 0 := ifc_neg (fun z => z y1)
  rw [e1]
  refine OpO.let (OpO.checkThat (by decide) (fun hn => ?_) (fun y2 => ?_))
  · rw [d1, ifc_pos hn]; rfl
  rw [ifc_neg (fun z => z y2)] at d1
  rw [if_pos d1]
  refine OpO.fin rfl ?_
  obtain ⟨k, rfl⟩ : ∃ k : Nat, i = k := ⟨i.toNat, by have := y1.1; omega⟩
  have hk : k < nN A.1 := by have := y1.2; omega
  obtain ⟨wa, ta, ea, sa, eq, sq, ⟨fs', h0⟩, h1, h2, h3, h4, -, h6, h7, h8, -⟩ := hc.net.get hN.sz
  rw [g1]
  refine Rt.let ?_
  rw [h1]
  refine Rt.let ?_
  rw [(h8 k hk).1]
  refine Rt.let (Rt.let ?_)
  obtain ⟨o, U, e2, e3, e4⟩ := C_withWeight (v := v) hN hw hc.net hk
  rw [e2]
  refine Rt.let ?_
  dsimp only
  rw [show (fun j => if j = k then v else wN A.1 j) = wN (nWei A.1 k v) from funext (fun j => ((nWei_w hk).1).symm)] at e4
  refine Rt.bind (C_chg hc e3 e4 (nWei_ok hN hk y2.1 y2.2) (by omega) (by omega) hF) ?_
  rintro T ⟨t1, p', b', t2⟩
  exact Rt.some ⟨rfl, t2.cR, t1⟩
theorem P_setTrend {i v : Int} (hc : cRo S x A n p dq tx j b h) (hi : rng i) (hv : rng v) (hF : 4294967296 < F) : OpO (fun k => T_X1_setTrend F k S x (i32 i) (i32 v)) (C_X1_setTrend F S x (i32 i) (i32 v)) (ec 1 2 0 (sp_setTrend A i v).1) S (Qs S x (sp_setTrend A i v)) := by
  obtain ⟨⟨fs, g0⟩, g1, -⟩ := hc.g
  have hw := hc.wf
  have hN := hc.1.1
  have e1 : C_X1_isIn (i32 v) 0 9 = some (i32 (tr01 (inR v 0 9))) := C_isIn (lo := 0) (hi := 9) hv (by decide) (by decide)
  unfold T_X1_setTrend C_X1_setTrend sp_setTrend
  rw [g0]
  refine OpO.let (OpO.node hc hi (fun hn => ?_) (fun y1 => ?_))
  · have : cdSet A.1 i v = 1 := ifc_pos hn
    rw [this]; rfl
  have d1 : cdSet A.1 i v = ifc (¬ inR v 0 9) 2 0 := ifc_neg (fun z => z y1)
  rw [e1]
  refine OpO.let (OpO.checkThat (by decide) (fun hn => ?_) (fun y2 => ?_))
  · rw [d1, ifc_pos hn]; rfl
  rw [ifc_neg (fun z => z y2)] at d1
  rw [if_pos d1]
  refine OpO.fin rfl ?_
  obtain ⟨k, rfl⟩ : ∃ k : Nat, i = k := ⟨i.toNat, by have := y1.1; omega⟩
  have hk : k < nN A.1 := by have := y1.2; omega
  obtain ⟨wa, ta, ea, sa, eq, sq, ⟨fs', h0⟩, h1, h2, h3, h4, -, h6, h7, h8, -⟩ := hc.net.get hN.sz
  rw [g1]
  refine Rt.let ?_
  rw [h2]
  refine Rt.let ?_
  rw [(h8 k hk).2]
  refine Rt.let (Rt.let ?_)
  obtain ⟨o, U, e2, e3, e4⟩ := C_withTrend (v := v) hN hw hc.net hk
  rw [e2]
  refine Rt.let ?_
  dsimp only
  rw [show wN A.1 = wN (nTre A.1 k v) from funext (fun j => ((nTre_w hk).1).symm)] at e4
  refine Rt.bind (C_chg hc e3 e4 (nTre_ok hN hk y2.1 y2.2) (by omega) (by omega) hF) ?_
  rintro T ⟨t1, p', b', t2⟩
  exact Rt.some ⟨rfl, t2.cR, t1⟩
theorem P_forbid {i u v : Int} (hc : cRo S x A n p dq tx j b h) (hi : rng i) (hu : rng u) (hv : rng v) (hF : 4294967296 < F) : OpO (fun k => T_X1_forbid F k S x (i32 i) (i32 u) (i32 v)) (C_X1_forbid F S x (i32 i) (i32 u) (i32 v)) (ec 1 2 3 (sp_forbid A i u v).1) S (Qs S x (sp_forbid A i u v)) := by
  obtain ⟨⟨fs, g0⟩, g1, -⟩ := hc.g
  have hw := hc.wf
  have hN := hc.1.1
  have z3 := hN.sz.2.2
  unfold T_X1_forbid C_X1_forbid sp_forbid
  rw [g0]
  refine OpO.let (OpO.edge hc hi (fun hn => ?_) (fun y1 => ?_))
  · have : cdFor A.1 i u v = 1 := ifc_pos hn
    rw [this]; rfl
  have d1 : cdFor A.1 i u v = ifc (¬ (0 ≤ u ∧ u < v ∧ v ≤ (ed A.1 i.toNat).2.2)) 2 (ifc (sN A.1 = 6) 3 0) := ifc_neg (fun z => z y1)
  obtain ⟨k, rfl⟩ : ∃ k : Nat, i = k := ⟨i.toNat, by have := y1.1; omega⟩
  have hk : k < eN A.1 := by have := y1.2; omega
  obtain ⟨wa, ta, ea, sa, eq, sq, ⟨fs', h0⟩, h1, h2, h3, h4, -, h6, h7, h8, -⟩ := hc.net.get hN.sz
  rw [g1]
  refine OpO.let ?_
  rw [C_mayForbid hN hc.net hk hu hv]
  rw [Int.toNat_natCast] at d1
  refine OpO.let (OpO.checkThat (by decide) (fun hn => ?_) (fun y2 => ?_))
  · rw [d1, ifc_pos hn]; rfl
  rw [ifc_neg (fun z => z y2)] at d1
  refine OpO.let ?_
  rw [h4]
  refine OpO.let ?_
  rw [h7]
  refine OpO.let (OpO.ite (fun z => ?_) (fun z => ?_))
  · rw [i_c6, i_le (by omega) (by omega) (by omega) (by omega)] at z
    unfold T_X1_forbid_36 C_X1_forbid_36
    refine OpO.checkState0 (by decide) ?_
    rw [d1, ifc_pos (by omega)]; rfl
  rw [i_c6, i_le (by omega) (by omega) (by omega) (by omega)] at z
  rw [ifc_neg (by omega)] at d1
  rw [if_pos d1]
  unfold T_X1_forbid_36 C_X1_forbid_36
  refine OpO.checkState1 (OpO.fin rfl ?_)
  rw [g1]
  refine Rt.let ?_
  rw [nO_eq]
  refine Rt.let ?_
  dsimp only
  rw [C_init6 (show (al S (cO 5 df_5) 3).1 S.2.1 = some (cO 5 [.int 0, .int 0, .int 0]) from al_me _ _ _), put_al]
  refine Rt.let ?_
  have xa : ex 1 3 S (al S (cO 5 [.int (i32 k), .int (i32 u), .int (i32 v)]) 3) := ex.al hw
  obtain ⟨o, U, e1, e2, e3⟩ := C_withStretch (e := k) (u := u) (v := v) hN xa.1 (hc.net.ex xa) (al_me _ _ _)
  rw [e1]
  refine Rt.let ?_
  dsimp only
  have hN' : okN (nFor A.1 k u v) := nFor_ok hN hk y2.1 y2.2.1 y2.2.2 (by omega)
  refine Rt.bind (C_chg hc (xa.tr e2 (Nat.le_refl _) (Nat.le_refl _)) e3 hN' (by omega) (by omega) hF) ?_
  rintro T ⟨t1, p', b', t2⟩
  obtain ⟨-, k1, -⟩ := t2.g
  obtain ⟨wa, ta, ea, sa, eq, sq, -, -, -, -, h4', -, -, h7', -⟩ := t2.net.get (show okN (nFor A.1 k u v) from hN').sz
  rw [k1]
  refine Rt.let ?_
  rw [h4']
  refine Rt.let ?_
  rw [h7']
  refine Rt.let (Rt.some ⟨?_, t2.cR, t1⟩)
  show i32 (sN (nFor A.1 k u v) : Int) - 1 = i32 (sN A.1 : Int)
  rw [nFor_s, i_c1, i_sub]; congr 1; omega
theorem P_allow {i : Int} (hc : cRo S x A n p dq tx j b h) (hi : rng i) (hF : 4294967296 < F) : OpO (fun k => T_X1_allow F k S x (i32 i)) (C_X1_allow F S x (i32 i)) (ec 1 0 0 (sp_allow A i).1) S (Qs S x (sp_allow A i)) := by
  obtain ⟨⟨fs, g0⟩, g1, -⟩ := hc.g
  have hw := hc.wf
  have hN := hc.1.1
  unfold T_X1_allow C_X1_allow sp_allow
  rw [g0]
  refine OpO.let (OpO.stretch hc hi (fun hn => by rw [ifc_neg hn]; rfl) (fun hy => ?_))
  rw [ifc_pos hy]
  refine OpO.fin rfl ?_
  obtain ⟨k, rfl⟩ : ∃ k : Nat, i = k := ⟨i.toNat, by have := hy.1; omega⟩
  have hk : k < sN A.1 := by have := hy.2; omega
  obtain ⟨wa, ta, ea, sa, eq, sq, ⟨fs', h0⟩, h1, h2, h3, h4, -, h6, h7, h8, -, h10⟩ := hc.net.get hN.sz
  obtain ⟨s1, -, s2, -⟩ := h10 k hk
  rw [g1]
  refine Rt.let ?_
  rw [h4]
  refine Rt.let ?_
  rw [s1]
  refine Rt.let ?_
  rw [s2]
  refine Rt.let (Rt.let ?_)
  obtain ⟨o, U, e1, e2, e3⟩ := C_withoutStretch hN hw hc.net hk
  rw [e1]
  refine Rt.let ?_
  dsimp only
  refine Rt.bind (C_chg hc e2 e3 (nAll_ok hN hk) (by omega) (by omega) hF) ?_
  rintro T ⟨t1, p', b', t2⟩
  exact Rt.some ⟨rfl, t2.cR, t1⟩
theorem P_type {c : Int} (hc : cRo S x A n p dq tx j b h) (hcr : rng c) : OpO (fun k => T_X1_type k S x (i32 c)) (C_X1_type S x (i32 c)) (ec 2 3 0 (sp_type A c).1) S (Qs S x (sp_type A c)) := by
  obtain ⟨⟨fs, g0⟩, g1, -, -, g4⟩ := hc.g
  have hw := hc.wf
  have ht := hc.2.2.2.2
  have hl := hc.1.2.2.2.1
  have e1 : C_X1_isIn (i32 c) 32 126 = some (i32 (tr01 (inR c 32 126))) := C_isIn (lo := 32) (hi := 126) hcr (by decide) (by decide)
  unfold T_X1_type C_X1_type sp_type
  rw [g0, e1]
  refine OpO.let (OpO.let (OpO.checkThat (by decide) (fun hn => by rw [ifc_pos hn]; rfl) (fun hy => ?_)))
  rw [ifc_neg (fun z => z hy), g4]
  refine OpO.let ?_
  rw [C_length ht]
  refine OpO.let (OpO.ite (fun z => ?_) (fun z => ?_))
  · rw [i_c120, i_le (by omega) (by omega) (by omega) (by omega)] at z
    unfold T_X1_type_28 C_X1_type_28
    refine OpO.checkState0 (by decide) ?_
    rw [ifc_pos (by omega)]; rfl
  rw [i_c120, i_le (by omega) (by omega) (by omega) (by omega)] at z
  rw [ifc_neg (by omega)]
  unfold T_X1_type_28 C_X1_type_28
  refine OpO.checkState1 (OpO.fin rfl ?_)
  rw [g4]
  refine Rt.let ?_
  obtain ⟨T, e2, e3, e4, e5, e6, e7, e8⟩ := C_append hw ht (show A.2.2.length < 120 by omega) (show 0 ≤ c by have := hy.1; omega) hy.2
  have y1 := hy.1
  have y2 := hy.2
  rw [(ch_z (z := c) (by omega) y2).2.2.2.2, e2]
  refine Rt.let ?_
  dsimp only
  rw [gA_of (k := 3) (e7 _ _ hc.2.1 tk_1) rfl]
  refine Rt.let ?_
  rw [C_length e8]
  have kT : kn S T := fun q e hq hn => e7 q e hq (tk_of hn)
  refine Rt.let (Rt.some ⟨?_, ⟨n, p, dq, tx, j, b, h, ?_, e7 _ _ hc.2.1 tk_1, hc.2.2.1.kn kT e3 e4, hc.2.2.2.1.ke (fun q e hq hn => e7 q e hq (tk_dk hn)) (fun a N hN => hN.kn kT), e8⟩, ⟨e4, by show T.2.2.1 ≤ _; omega, by show T.2.2.2 ≤ _; omega⟩⟩)
  · rw [List.length_append]; rfl
  · obtain ⟨o1, o2, o3, o4, o5⟩ := hc.1
    refine ⟨o1, o2, o3, by rw [List.length_append]; show A.2.2.length + 1 ≤ 120; omega, fun z hz => ?_⟩
    rcases List.mem_append.mp hz with q | q
    · exact o5 z q
    · rw [List.mem_singleton.mp q]; exact hy
theorem P_clearText (hc : cRo S x A n p dq tx j b h) : Rt (C_X1_clearText F S x) (Qs S x (sp_clearText A)) := by
  obtain ⟨⟨fs, g0⟩, g1, -, -, g4⟩ := hc.g
  have hw := hc.wf
  have ht := hc.2.2.2.2
  obtain ⟨T, e2, e3, e4, e7, e8⟩ := C_clear (F := F) hw ht hc.1.2.2.2.1
  unfold C_X1_clearText
  rw [g0, g4]
  refine Rt.let (Rt.let ?_)
  rw [C_length ht]
  refine Rt.let (Rt.let ?_)
  rw [e2]
  have kT : kn S T := fun q e hq hn => e7 q e hq (tk_of hn)
  refine Rt.let (Rt.some ⟨rfl, ⟨n, p, dq, tx, j, b, h, ?_, e7 _ _ hc.2.1 tk_1, hc.2.2.1.kn kT e3 (by rw [e4]; exact Nat.le_refl _), hc.2.2.2.1.ke (fun q e hq hn => e7 q e hq (tk_dk hn)) (fun a N hN => hN.kn kT), e8⟩, ?_⟩)
  · obtain ⟨o1, o2, o3, o4, o5⟩ := hc.1
    exact ⟨o1, o2, o3, by show ([] : List Int).length ≤ 120; simp, fun z hz => by cases hz⟩
  · show cs_ 9000 100000 S T
    unfold cs_
    rw [e4]; exact ⟨Nat.le_refl _, by omega, by omega⟩
theorem P_undo (hc : cRo S x A n p dq tx j b h) (hF : 4294967296 < F) : OpO (fun k => T_X1_undo F k S x) (C_X1_undo F S x) (ec 3 0 0 (sp_undo A).1) S (Qs S x (sp_undo A)) := by
  obtain ⟨⟨fs, g0⟩, g1, -, g3, -⟩ := hc.g
  have hw := hc.wf
  have hd := hc.2.2.2.1
  unfold T_X1_undo C_X1_undo sp_undo
  rw [g0, g3]
  refine OpO.let (OpO.let ?_)
  rw [C_isEmpty hd]
  refine OpO.let (OpO.ite (fun z => ?_) (fun z => ?_))
  · rw [i_c0] at z
    have hne := tr01_n z
    rw [ifc_neg hne]
    unfold T_X1_undo_15 C_X1_undo_15
    refine OpO.checkState1 (OpO.fin rfl ?_)
    rw [g3]
    refine Rt.let ?_
    obtain ⟨q, U, e1, e2, e3, e4, e5, e6⟩ := C_dlast hw hd hne
    rw [e1]
    refine Rt.let ?_
    dsimp only
    have hl : 0 < A.2.1.length := List.length_pos_iff.mpr hne
    have hg : A.2.1.getD (A.2.1.length - 1) nt0 = A.2.1.getLastD A.1 := by
      rw [getD_at (by omega), List.getLastD_eq_getLast?, List.getLast?_eq_getElem?, List.getElem?_eq_getElem (by omega)]; rfl
    rw [hg] at e6
    have hN : okN (A.2.1.getLastD A.1) := by
      rw [← hg, getD_at (by omega)]
      exact hc.1.2.2.1 _ (List.getElem_mem _)
    obtain ⟨_, _, _, _, _, _, _, _, _, _, ⟨-, c2⟩, -⟩ := id e6
    rw [gO_of c2]
    refine Rt.let ?_
    have kU : kn S U := fun q e hq hn => e4 q e hq (dk_of hn)
    have hb := hc.2.2.1.2.1
    refine Rt.bind (C_stand (t := A.2.2) e2 (e4 _ _ hc.2.1 dk_1) e6 (by rw [e3]; exact hb) hN e5 (hc.2.2.2.2.ke (fun q e hq hn => e4 q e hq (dk_tk hn))) ?_ hF) ?_
    · obtain ⟨o1, o2, o3, o4⟩ := hc.1
      exact ⟨hN, by rw [List.length_dropLast]; omega, fun M hM => o3 M (List.dropLast_subset _ hM), o4⟩
    rintro T ⟨t1, t2⟩
    obtain ⟨-, -, -, k3, -⟩ := t2.g
    rw [k3]
    refine Rt.let ?_
    rw [C_dsize t2.2.2.2.1]
    refine Rt.let (Rt.some ⟨?_, t2.cR, ?_⟩)
    · show i32 (A.2.1.dropLast.length : Int) = i32 ((A.2.1.length : Int) - 1)
      rw [List.length_dropLast]; congr 1; omega
    · obtain ⟨a, b, c⟩ := t1
      rw [e3] at a b c
      exact ⟨a, by show T.2.2.1 ≤ _; omega, by show T.2.2.2 ≤ _; omega⟩
  · rw [i_c0] at z
    have he := tr01_y z
    rw [ifc_pos he]
    unfold T_X1_undo_15 C_X1_undo_15
    exact OpO.checkState0 (by decide) rfl
end OQ
