/-! BODIES THAT THROW an object that is known (Fault) -/
def UM (l : Launch) (P : GP) (y : MethodName) (ws : List Cond) (fr lo : Nat) (args : List Value) (S : St) (E : String) (r : Nat × St) : Prop :=
  leG S r.2 ∧ fx_Met l y ws (rmOf (OG P) fr lo S r.2) (va_Pc args (fun U => (OG P).1 S U.heap ∧ (OG P).2.2.2.1 U)) (fun _ _ _ _ => False) (Xf (OG P) S E (f_ma r)) (((OG P).2.1 r.2).1 - ((OG P).2.1 S).1) (((OG P).2.1 r.2).2 - ((OG P).2.1 S).2) ((OG P).2.2.1 S)
section UH
variable {P : GP} {X : Ctx} {l : Launch} {cc : ByteArray} {nL fr lo : Nat} {own : String} {ret : Option FieldType} {S0 S : St} {E : Option (Nat × St)} {pc : Nat} {lv : List (Nat × Value)} {st : List Value}
theorem UM.of {y : MethodName} {args : List Value} {r : Nat × St} {Ex : String} (hO : okG P) (hy : plainName y.cls = true) (hc : y.cls = own) (hn : (lg_sl args).length ≤ nL) (hlv : lv_args 0 args = lv) (hE : E = some r) (hLE : leG S r.2)
    (body : ∀ X : Ctx, CX (OG P) X l cc nL own ret → X.2.2.2.2.2.2.2.2.2 = some (.inr Ex) → (∀ x ∈ X.2.2.2.2.2.2.2.2.1.exceptionTable.toList, False) → VF (OG P) X nL fr lo S f_ma E S 0 lv []) : UM l P y (ws_ y cc nL ret) fr lo args S Ex r := by
  refine ⟨hLE, fx_ofW (cc := cc) (maxL := nL) (ret := ret) hy rfl ?_⟩
  intro p e s m args' below meth c s₁ B hml hnt hv
  obtain ⟨rfl, hI, hT⟩ := hv
  have hts := atoms_spec (ws := ws_ y cc nL ret) B.pre
  have hl := lv_entry args (n := nL) hn
  rw [hlv] at hl
  rw [lg_entry_eq]
  have hown : s.vm.findClass own = some m.cls := by rw [← hc]; exact findClass_of_methodNamed B.named
  have hX := body (p, l, e, s, m, args.toArray, below, meth, c, some (.inr Ex)) ⟨B.exec, B.bytes, hml, hown, fun w h => hts w (List.mem_cons_of_mem _ h), B.returns, B.notSynchronized, hT, rfl, OG_ok P hO⟩ rfl hnt r hE LE.rf
  have h0 := hX.2 s.heap [] _ hI va_S.rf hl
  rw [Nat.sub_self, Nat.sub_self] at h0
  exact h0
/-- throw of an object of class ci -/
theorem g_athrow {a ci N : Nat} {Cn : String} {T : u_T} (C : CX (OG P) X l cc nL own ret) (hm : X.2.2.2.2.2.2.2.2.2 = some (.inr Cn)) (hnt : ∀ x ∈ X.2.2.2.2.2.2.2.2.1.exceptionTable.toList, False) (hc : clG[ci]? = some (Cn, T, N)) (hd : decode cc pc = .ok (.athrow, 1)) : VF (OG P) X nL fr lo S0 f_ma (gO S ci a >>= fun _ => some (a, S)) S pc lv (.ref a :: st) := by
  refine VF.bind (fun fs hfs => ?_)
  intro r hr hL
  cases hr
  refine ⟨LE.rf, fun H locs ls hI hS hlv => ?_⟩
  show W _ _ _ _ _ _ _ _ _ _ _ _ _ _ (Qz (OG P) X S0 _) _
  unfold Qz
  rw [hm]
  obtain ⟨r', h1, cell, q1, q2, q3, -⟩ := (hI.2.2.1 a _ (gO_at hfs)).2
  refine vx_athrow C.1 C.2.1 hd ?_
  exact fx_out (Qc := fun _ _ _ _ => False) (XC := Xf (OG P) S0 Cn (f_ma (a, S))) (free := (OG P).2.2.1 S0) (fun x hx => (hnt x hx).elim) C.2.2.2.2.2.2.1 q1 q3 (by rw [q2]; exact (C.2.2.2.2.2.2.2.1.1.1 ci _ hc).2.1) (fun t' ht' _ => ⟨rfl, rfl, by rw [ht']; exact hI, hS.F ht'⟩) hS.2.2 (Nat.le_refl _) (Nat.le_refl _)
theorem v_thrownU {Ex : String} {r1 : Nat × St} {st0 : List Value} (C : CX (OG P) X l cc nL own ret) (hm : X.2.2.2.2.2.2.2.2.2 = some (.inr Ex)) (hnt : ∀ x ∈ X.2.2.2.2.2.2.2.2.1.exceptionTable.toList, covers x pc = false) (hL : LE (OG P) S0 S) (hLE : leG S r1.2)
    (hrun : ∀ (H : Heap) (locs : List Loc) (ls : Array Slot), (OG P).1 S H → lv_has ls nL lv → ((OG P).2.1 S).1 - ((OG P).2.1 S0).1 + (((OG P).2.1 r1.2).1 - ((OG P).2.1 S).1) ≤ (rmOf (OG P) fr lo S0 r1.2).cells ∧ ((OG P).2.1 S).2 - ((OG P).2.1 S0).2 + (((OG P).2.1 r1.2).2 - ((OG P).2.1 S).2) ≤ (rmOf (OG P) fr lo S0 r1.2).slots → fx_Run X.1 X.2.1 X.2.2.1 (headSpec [] (rmOf (OG P) fr lo S0 r1.2)).room X.2.2.2.1 X.2.2.2.2.1 X.2.2.2.2.2.1 X.2.2.2.2.2.2.1 X.2.2.2.2.2.2.2.1 X.2.2.2.2.2.2.2.2.1 H locs (((OG P).2.1 S).1 - ((OG P).2.1 S0).1) (((OG P).2.1 S).2 - ((OG P).2.1 S0).2) (((OG P).2.1 r1.2).1 - ((OG P).2.1 S).1) (((OG P).2.1 r1.2).2 - ((OG P).2.1 S).2) (F0 X.2.2.2.2.1 pc ls st0) st (fun _ _ _ => False) (Xf (OG P) S Ex (f_ma r1)) (frG P S)) :
    VF (OG P) X nL fr lo S0 f_ma (some r1) S pc lv st0 := by
  intro r hr hL2
  cases hr
  refine ⟨hLE.LE, fun H locs ls hI hS hlv => ?_⟩
  show W _ _ _ _ _ _ _ _ _ _ _ _ _ _ (Qz (OG P) X S0 _) _
  unfold Qz
  rw [hm]
  obtain ⟨e1, e2⟩ := LE.sub hL (hLE.LE (P := P))
  intro T hT Y
  rcases hrun H locs ls hI hlv (by rw [e1, e2]; exact ⟨Nat.le_refl _, Nat.le_refl _⟩) T hT Y with ⟨v, st₀, t, T', L, h0, Y', hL', t1, t2, hf, go⟩ | ⟨q, st₀, t, T', L, E', ce, h0, Y', hL', t1, t2, ⟨hE, hq, hX, hz, hk⟩, hce, hcv, hcl, go⟩
  · exact hf.elim
  · subst hE
    rw [h0] at hz hk
    rw [e1, e2] at Y'
    have hS' : va_S ((OG P).2.2.1 S0) X.2.2.2.1.heap T'.heap (locs ++ L) := ⟨Nat.le_trans hS.1 (by rw [t1]; exact hz), fun q q1 q2 => by rw [t1, hk q (Nat.lt_of_lt_of_le q1 hS.1) (fun z => q2 (hL.2.2 q z))]; exact hS.2.1 q q1 q2, fun q hq => by
      rcases List.mem_append.mp hq with h | h
      · exact hS.2.2 q h
      · exact hL.2.2 _ (hL' q h)⟩
    obtain ⟨t3, a1, b1⟩ := fx_out (Qc := fun _ _ _ _ => False) (XC := Xf (OG P) S0 E' (f_ma r1)) (free := (OG P).2.2.1 S0) (pc := pc) (ls := ls) (rest := st) (H := T'.heap) (locs := locs ++ L) (mc := ((OG P).2.1 r1.2).1 - ((OG P).2.1 S0).1) (ms := ((OG P).2.1 r1.2).2 - ((OG P).2.1 S0).2) hnt C.2.2.2.2.2.2.1 (by rw [t1]; exact hce) hcv hcl (fun t' ht' _ => ⟨rfl, hq, by rw [ht', t1]; exact hX, hS'.F ht'⟩) hS'.2.2 (Nat.le_refl _) (Nat.le_refl _) T' rfl Y'
    exact ⟨t3, go.trans a1, b1⟩
theorem g_callUV {idx : Nat} {y : MethodName} {b : ByteArray} {L n fr' lo' : Nat} {r' : Option FieldType} {o ci N : Nat} {Cn : String} {T : u_T} {As : List Value} {Ex : String} {r1 : Nat × St} (C : CX (OG P) X l cc nL own ret) (hm : X.2.2.2.2.2.2.2.2.2 = some (.inr Ex)) (hnt : ∀ x ∈ X.2.2.2.2.2.2.2.2.1.exceptionTable.toList, covers x pc = false) (lk : LkV own idx y b L r' n) (hd : decode cc pc = .ok (.invokevirtual idx, 3)) (hn : As.length = n) (hfr : fr' + 1 ≤ fr) (hlo : 8 + (L + 11) + lo' ≤ lo) (hst : (st.map fun v => v.category).sum ≤ 8) (hc : clG[ci]? = some (Cn, T, N)) (hcn : Cn = y.cls) (hrc : ∃ fs, gO S ci o = some fs) (hM : UM l P y (ws_ y b L r') fr' lo' (.ref o :: As) S Ex r1) : VF (OG P) X nL fr lo S0 f_ma (some r1) S pc lv (As.reverse ++ .ref o :: st) := by
  intro r hr hL
  obtain ⟨hLE, hM⟩ := hM
  obtain ⟨fs, hfs⟩ := hrc
  refine v_thrownU (st := st) C hm hnt hL hLE (fun H locs ls hI hl hf => ?_) r hr hL
  rw [show l = X.2.1 from C.2.2.2.2.2.2.2.2.1.symm] at hM
  have hp := FM.pre (l' := l) (As := (.ref o :: As)) C hI
  exact fx_runV (n := n) (C := y.cls) ⟨C.1, C.2.1, C.2.2.1, C.2.2.2.1, C.2.2.2.2.1⟩ hM (cwV n C.2.2.2.2.1 lk.1 rfl rfl rfl ⟨rfl, lk.2⟩ ⟨hfr, hlo⟩) ⟨hp.1, hcn ▸ g_recv hc C hfs H hI, hp.2⟩ rfl hn hl.1 rfl (lv_room hst) hd hf
def torU (a b : Option (Nat × St)) : Option (Nat × St) := match a with
  | some s => some s
  | none => b
theorem v_torU {F E2 : Option (Nat × St)} (kT : ∀ r1, F = some r1 → VF (OG P) X nL fr lo S0 f_ma (some r1) S pc lv st) (kN : F = none → VF (OG P) X nL fr lo S0 f_ma E2 S pc lv st) : VF (OG P) X nL fr lo S0 f_ma (torU F E2) S pc lv st := by
  cases h : F with
  | none => exact kN h
  | some s => exact kT s h
theorem mf_torU {F E2 : Option (Nat × St)} (hT : ∀ r1, F = some r1 → leG S r1.2) (hN : MF mf_p E2 S) : MF mf_p (torU F E2) S := by
  intro r hr
  cases h : F with
  | none => rw [h] at hr; exact hN r hr
  | some s2 => rw [h] at hr; cases hr; exact hT _ h
/-- a String constant -/
theorem g_ldcS {ρ : Type} {fin : ρ → Option Value × St} {E0 : Option ρ} {tx : String} {idx q : Nat} (C : CX (OG P) X l cc nL own ret) (hd : decode cc pc = .ok (.ldc idx, 2)) (hz : ∀ U : State, P.2.2.2.2.1 U → vk_R own idx tx q U) (k : VF (OG P) X nL fr lo S0 fin E0 S (pc + 2) lv (.ref q :: st)) : VF (OG P) X nL fr lo S0 fin E0 S pc lv st :=
  VF.lift k (fun _ _ _ _ _ _ _ _ w => va_ldcS C.1 C.2.1 C.2.2.2.1 (hz _ C.2.2.2.2.2.2.2.1.2.2.2.2.2.1) hd w)
end UH
