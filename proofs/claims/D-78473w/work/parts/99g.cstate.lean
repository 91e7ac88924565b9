/-! THE CLASS's STATE, and how it changes -/
def cRo (S : St) (x : Nat) (A : Ab) (n p dq tx j b : Nat) (h : Int64) : Prop := okA A ∧ S.1 x = some (cO 1 [.ref n, .ref p, .ref dq, .ref tx, .long h]) ∧ plS j b S p n A.1 (wN A.1) ∧ dqC b S dq A.2.1 ∧ txC S tx A.2.2
def cR (S : St) (x : Nat) (A : Ab) : Prop := ∃ n p dq tx j b h, cRo S x A n p dq tx j b h
/-- what it costs -/
def cs_ (c d : Nat) (S T : St) : Prop := S.2.1 ≤ T.2.1 ∧ T.2.2.1 ≤ S.2.2.1 + c ∧ T.2.2.2 ≤ S.2.2.2 + d
theorem cs_.tr {c d c' d' m k : Nat} {S T U : St} (h : cs_ c d S T) (h2 : cs_ c' d' T U) (hm : c + c' ≤ m) (hk : d + d' ≤ k) : cs_ m k S U := by
  obtain ⟨a, b, c⟩ := h
  obtain ⟨a', b', c'⟩ := h2
  exact ⟨by omega, by omega, by omega⟩
theorem cs_.le {c d c' d' : Nat} {S T : St} (h : cs_ c d S T) (hc : c ≤ c') (hd : d ≤ d') : cs_ c' d' S T := ⟨h.1, by have := h.2.1; omega, by have := h.2.2; omega⟩
theorem cs_.rf {c d : Nat} {S : St} : cs_ c d S S := ⟨Nat.le_refl _, by omega, by omega⟩
theorem ex.cs_ {c d : Nat} {S T : St} (h : ex c d S T) : cs_ c d S T := ⟨h.2.1, h.2.2.1, h.2.2.2.1⟩
theorem fr.cs_ {b p c d : Nat} {S T : St} (h : fr b p c d S T) : cs_ c d S T := ⟨h.2.1, h.2.2.1, h.2.2.2.1⟩
theorem frJ.cs_ {b p j k : Nat} {S T : St} (h : frJ b p j k S T) : cs_ 3602 21512 S T := by
  have := h.2.cs_.le (c' := 3602) (d' := 21512) ?_ ?_
  · exact this
  · unfold jcC; split
    · omega
    · split <;> omega
  · unfold jcS; split
    · omega
    · split <;> omega
theorem nk_dk {e : Cel} (h : ¬ dk e) : nk e = true := by
  match e, h with
  | .inl (k, q), h =>
    have z : k = 6 := Classical.byContradiction (fun z => h z)
    subst z; rfl
  | .inr (ci, q), h =>
    have z : ci = 11 := Classical.byContradiction (fun z => h z)
    subst z; rfl
theorem nk_tk {e : Cel} (h : ¬ tk e) : nk e = true := by
  match e, h with
  | .inl (k, q), h =>
    have z : k = 2 := Classical.byContradiction (fun z => h z)
    subst z; rfl
  | .inr (ci, q), h =>
    have z : ci = 12 := Classical.byContradiction (fun z => h z)
    subst z; rfl
theorem tk_of {e : Cel} (h : nk e = false) : tk e := Classical.byContradiction (fun z => by rw [nk_tk z] at h; cases h)
theorem tk_dk {e : Cel} (h : ¬ dk e) : tk e := by
  match e, h with
  | .inl (k, q), h =>
    have z : k = 6 := Classical.byContradiction (fun z => h z)
    subst z; exact (by decide : (6 : Nat) ≠ 2)
  | .inr (ci, q), h =>
    have z : ci = 11 := Classical.byContradiction (fun z => h z)
    subst z; exact (by decide : (11 : Nat) ≠ 12)
theorem dk_tk {e : Cel} (h : ¬ tk e) : dk e := by
  match e, h with
  | .inl (k, q), h =>
    have z : k = 2 := Classical.byContradiction (fun z => h z)
    subst z; exact (by decide : (2 : Nat) ≠ 6)
  | .inr (ci, q), h =>
    have z : ci = 12 := Classical.byContradiction (fun z => h z)
    subst z; exact (by decide : (12 : Nat) ≠ 11)
theorem dk_1 {f : List Value} : dk (cO 1 f) := (by decide : (1 : Nat) ≠ 11)
theorem tk_1 {f : List Value} : tk (cO 1 f) := (by decide : (1 : Nat) ≠ 12)
section ST
variable {S T : St} {x n p dq tx j j' b : Nat} {h : Int64} {A : Ab} {F : Nat} {N : Net}
theorem cRo.cR (hc : cRo S x A n p dq tx j b h) : cR S x A := ⟨n, p, dq, tx, j, b, h, hc⟩
theorem cRo.wf (hc : cRo S x A n p dq tx j b h) : wfS S := hc.2.2.1.1
/-- the plan has worked -/
theorem cRo.fr (hc : cRo S x A n p dq tx j b h) (hf : frJ b p j j' S T) (hp : plS j' b T p n A.1 (wN A.1)) : cRo T x A n p dq tx j' b h := by
  obtain ⟨a1, a2, a3, a4, a5⟩ := hc
  obtain ⟨D, v3, v4, v5, v6, hpl⟩ := a3.pl
  have np : ∀ {q : Nat} {e : Cel}, S.1 q = some e → nk e = true → q ≠ p := by
    rintro q e hq hn rfl
    rw [hpl.2.1] at hq; cases hq; cases hn
  have kk : ∀ q e, S.1 q = some e → nk e = true → T.1 q = some e := fun q e hq hn => hf.2.2.2.2.2 q e hq (np hq hn) (Or.inr hn)
  exact ⟨a1, kk _ _ a2 rfl, hp, a4.ke (fun q e hq hn => kk q e hq (nk_dk hn)) (fun a N hN => hN.fr hpl.2.1 hf.2), a5.ke (fun q e hq hn => kk q e hq (nk_tk hn))⟩
/-- something new was made -/
theorem cRo.ex {c d : Nat} (hc : cRo S x A n p dq tx j b h) (hx : ex c d S T) : cRo T x A n p dq tx j b h := by
  obtain ⟨a1, a2, a3, a4, a5⟩ := hc
  exact ⟨a1, hx.get a2, a3.kn (fun q e hq _ => hx.get hq) hx.1 hx.2.1, a4.ke (fun q e hq _ => hx.get hq) (fun a N hN => hN.ex hx), a5.ke (fun q e hq _ => hx.get hq)⟩
/-- the heap's size grows -/
theorem cRo.grow {m : Nat} {k : Nat × Nat} (hc : cRo S x A n p dq tx j b h) (hm : S.2.1 ≤ m) : cRo (S.1, m, k) x A n p dq tx j b h := by
  obtain ⟨a1, a2, a3, a4, a5⟩ := hc
  have hw : wfS (S.1, m, k) := fun q hq => a3.1 q (by have : m ≤ q := hq; omega)
  exact ⟨a1, a2, a3.kn (T := (S.1, m, k)) (fun q e hq _ => hq) hw hm, a4.ke (T := (S.1, m, k)) (fun q e hq _ => hq) (fun a N hN => hN.mono (Nat.le_refl _) (fun _ _ _ _ he => he)), a5.ke (T := (S.1, m, k)) (fun q e hq _ => hq)⟩
theorem cR.grow {m : Nat} {k : Nat × Nat} (hc : cR S x A) (hm : S.2.1 ≤ m) : cR (S.1, m, k) x A := by
  obtain ⟨n, p, dq, tx, j, b, h, hc⟩ := hc
  exact (hc.grow hm).cR
/-- what is read of it -/
theorem cRo.g (hc : cRo S x A n p dq tx j b h) : (∃ fs, gO S 1 x = some fs) ∧ gA S 1 x 0 = some n ∧ gA S 1 x 1 = some p ∧ gA S 1 x 2 = some dq ∧ gA S 1 x 3 = some tx := by
  obtain ⟨a1, a2, -⟩ := hc
  exact ⟨⟨_, gO_of a2⟩, gA_of a2 rfl, gA_of a2 rfl, gA_of a2 rfl, gA_of a2 rfl⟩
theorem cRo.net (hc : cRo S x A n p dq tx j b h) : netC b S n A.1 (wN A.1) := hc.2.2.1.net
theorem C_save (hc : cRo S x A n p dq tx j b h) : Rt (C_X1_save F S x) (fun T => wfS T ∧ T.2 = S.2 ∧ (∀ q e, S.1 q = some e → dk e → T.1 q = some e) ∧ dqC b T dq (sv A.2.1 A.1)) := by
  obtain ⟨⟨fs, g0⟩, g1, g2, g3, g4⟩ := hc.g
  have hd := hc.2.2.2.1
  have l6 := hc.1.2.1
  have fin : ∀ (U : St) (P : List Net), wfS U → U.2 = S.2 → (∀ q e, S.1 q = some e → dk e → U.1 q = some e) → dqC b U dq P → P.length < 6 → Rt (C_X1_save_20 F x U) (fun T => wfS T ∧ T.2 = S.2 ∧ (∀ q e, S.1 q = some e → dk e → T.1 q = some e) ∧ dqC b T dq (P ++ [A.1])) := by
    intro U P hw h2 hk hP hl
    have c1 := hk _ _ hc.2.1 dk_1
    unfold C_X1_save_20
    rw [gA_of (k := 2) c1 rfl, gA_of (k := 0) c1 rfl]
    refine Rt.let (Rt.let ?_)
    obtain ⟨T, e1, e2, e3, e4, e5⟩ := C_dadd (F := F) (fs := []) hw hP hl (hc.net.kn (fun q e hq hn => hk q e hq (dk_of hn)))
    rw [e1]
    exact Rt.let (Rt.some ⟨e2, by rw [e3, h2], fun q e hq hn => e4 q e (hk q e hq hn) hn, e5⟩)
  unfold C_X1_save
  rw [g0, g3]
  refine Rt.let (Rt.let ?_)
  rw [C_dsize hd]
  unfold sv
  refine Rt.let (Rt.ite (fun z => ?_) (fun z => ?_))
  · rw [i_c6, i_eq (by omega) (by omega) (by omega) (by omega)] at z
    have z' : A.2.1.length = 6 := by omega
    rw [if_pos z']
    obtain ⟨q, T, e1, e2, e3, e4, e5⟩ := C_dfirst hc.wf hd (by intro e; rw [e] at z'; simp at z')
    refine Rt.let ?_
    rw [e1]
    exact Rt.let (fin T _ e2 e3 e4 e5 (by rw [List.length_drop]; omega))
  · rw [i_c6, i_eq (by omega) (by omega) (by omega) (by omega)] at z
    rw [if_neg (by omega)]
    exact fin S _ hc.wf rfl (fun q e hq _ => hq) hd (by omega)
/-- another network stands -/
theorem C_stand {o B : Nat} {P : List Net} {t : List Int} {v0 v1 : Value} (hw : wfS S) (hx : S.1 x = some (cO 1 [v0, v1, .ref dq, .ref tx, .long h])) (ho : netC B S o N (wN N)) (hB : B ≤ S.2.1) (hN : okN N) (hd : dqC B S dq P) (ht : txC S tx t) (hA : okA (N, P, t)) (hF : 4294967296 < F) :
    Rt (C_X1_stand F S x o) (fun T => cs_ 2 71 S T ∧ cRo T x (N, P, t) o S.2.1 dq tx 0 S.2.1 h) := by
  have xl := hw.lt hx
  unfold C_X1_stand
  rw [gO_of hx]
  refine Rt.let ?_
  have p1 : gP S 1 x 0 (.ref o) = some (put S x (cO 1 [.ref o, v1, .ref dq, .ref tx, .long h])) := gP_of hx (by simp)
  rw [p1]
  refine Rt.let ?_
  have w1 := hw.put (c := cO 1 [.ref o, v1, .ref dq, .ref tx, .long h]) hx
  have c1 := put_me S x (cO 1 [.ref o, v1, .ref dq, .ref tx, .long h])
  have n1 : (put S x (cO 1 [.ref o, v1, .ref dq, .ref tx, .long h])).2 = S.2 := rfl
  have k1 : ∀ q e, S.1 q = some e → q ≠ x → (put S x (cO 1 [.ref o, v1, .ref dq, .ref tx, .long h])).1 q = some e := fun q e hq hn => by rw [put_ne hn]; exact hq
  generalize put S x (cO 1 [.ref o, v1, .ref dq, .ref tx, .long h]) = S1 at *
  have nx : ∀ {q : Nat} {e : Cel}, S.1 q = some e → (∀ f, e ≠ cO 1 f) → q ≠ x := by
    rintro q e hq hn rfl
    rw [hx] at hq; cases hq; exact hn _ rfl
  have kn1 : kn S S1 := fun q e hq hn => k1 q e hq (nx hq (fun f hf => by rw [hf] at hn; cases hn))
  have ho1 : netC S.2.1 S1 o N (wN N) := (ho.up hB).kn kn1
  have hd1 : dqC S.2.1 S1 dq P := (hd.ke (fun q e hq hn => k1 q e hq (nx hq (fun f hf => by rw [hf] at hn; exact hn dk_1))) (fun a N hN => hN.kn kn1)).up hB
  have ht1 : txC S1 tx t := ht.ke (fun q e hq hn => k1 q e hq (nx hq (fun f hf => by rw [hf] at hn; exact hn tk_1)))
  rw [nO_eq]
  refine Rt.let ?_
  dsimp only
  have xa : ex 1 7 S1 (al S1 (cO 3 df_3) 7) := ex.al w1
  have ca := al_me S1 7 (cO 3 df_3)
  have na : (al S1 (cO 3 df_3) 7).2.1 = S.2.1 + 1 := by show S1.2.1 + 1 = _; rw [n1]
  have hs1 : S1.2.1 = S.2.1 := by rw [n1]
  have ka : kn S1 (al S1 (cO 3 df_3) 7) := fun q e hq _ => xa.get hq
  have ho2 := ho1.kn ka
  have cst1 : cs_ 1 7 S (al S1 (cO 3 df_3) 7) := ⟨by omega, by show S1.2.2.1 + 1 ≤ _; rw [n1]; omega, by show S1.2.2.2 + 7 ≤ _; rw [n1]; omega⟩
  have w2 := xa.1
  have k2 : ∀ q e, S1.1 q = some e → (al S1 (cO 3 df_3) 7).1 q = some e := fun q e hq => xa.get hq
  have xlt : ∀ q e, S1.1 q = some e → q < S.2.1 := fun q e hq => by have := w1.lt hq; omega
  rw [hs1] at ca ⊢
  clear xa ka
  generalize al S1 (cO 3 df_3) 7 = S2 at *
  refine Rt.bind (C_newPlan hN w2 ca ho2 (by omega) hF) ?_
  rintro T ⟨t1, t2, t3⟩
  have kT : ∀ q e, S1.1 q = some e → T.1 q = some e := fun q e hq => t1.get (k2 q e hq) (xlt q e hq) (by have := xlt q e hq; omega)
  have cT := kT _ _ c1
  have p2 : gP T 1 x 1 (.ref S.2.1) = some (put T x (cO 1 [.ref o, .ref S.2.1, .ref dq, .ref tx, .long h])) := gP_of cT (by simp)
  rw [p2]
  have nxT : ∀ {q : Nat} {e : Cel}, T.1 q = some e → (∀ f, e ≠ cO 1 f) → q ≠ x := by
    rintro q e hq hn rfl
    rw [cT] at hq; cases hq; exact hn _ rfl
  have kf : ∀ q e, T.1 q = some e → (∀ f, e ≠ cO 1 f) → (put T x (cO 1 [.ref o, .ref S.2.1, .ref dq, .ref tx, .long h])).1 q = some e := fun q e hq hn => by rw [put_ne (nxT hq hn)]; exact hq
  have knf : kn T (put T x (cO 1 [.ref o, .ref S.2.1, .ref dq, .ref tx, .long h])) := fun q e hq hn => kf q e hq (fun f hf => by rw [hf] at hn; cases hn)
  have ct := t1.cs_
  refine Rt.let (Rt.some ⟨(cst1.tr ct (Nat.le_refl _) (Nat.le_refl _) : cs_ 2 71 S T), hA, put_me _ _ _, ⟨t1.1.put cT, ?_, Or.inl ⟨rfl, _, t3.kn knf⟩⟩, ?_, ?_⟩)
  · show S.2.1 ≤ T.2.1; omega
  · exact hd1.ke (fun q e hq hn => kf q e (kT q e hq) (fun f hf => by rw [hf] at hn; exact hn dk_1)) (fun a N hN => (hN.kn (fun q e hq _ => kT q e hq)).kn knf)
  · exact ht1.ke (fun q e hq hn => kf q e (kT q e hq) (fun f hf => by rw [hf] at hn; exact hn tk_1))
/-- another network stands, the old one is saved -/
theorem C_become {o : Nat} (hc : cRo S x A n p dq tx j b h) (ho : netC S.2.1 S o N (wN N)) (hN : okN N) (hF : 4294967296 < F) : Rt (C_X1_become F S x o) (fun T => cs_ 2 71 S T ∧ ∃ p' b', cRo T x (push A N) o p' dq tx 0 b' h) := by
  obtain ⟨⟨fs, g0⟩, -⟩ := hc.g
  have hb := hc.2.2.1.2.1
  unfold C_X1_become
  rw [g0]
  refine Rt.let (Rt.bind (C_save hc) ?_)
  rintro U ⟨u1, u2, u3, u4⟩
  have kU : kn S U := fun q e hq hn => u3 q e hq (dk_of hn)
  refine Rt.bind (C_stand (N := N) (B := S.2.1) (P := sv A.2.1 A.1) (t := A.2.2) u1 (u3 _ _ hc.2.1 dk_1) (ho.kn kU) (by rw [u2]; exact Nat.le_refl _) hN (u4.up hb) (hc.2.2.2.2.ke (fun q e hq hn => u3 q e hq (dk_tk hn))) (push_ok hc.1 hN) hF) ?_
  rintro T ⟨t1, t2⟩
  refine Rt.some ⟨?_, _, _, t2⟩
  obtain ⟨a, b, c⟩ := t1
  rw [u2] at a b c
  exact ⟨a, b, c⟩
end ST
