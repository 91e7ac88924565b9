/-! METHODS WITH HANDLERS -/
section CH
variable {ρ : Type} {P : GP} {X : Ctx} {l : Launch} {cc : ByteArray} {nL fr lo : Nat} {own : String} {ret : Option FieldType} {S0 S : St} {fin : ρ → Option Value × St} {E : Option ρ} {pc : Nat} {lv : List (Nat × Value)} {st : List Value}
/-- the contract of a method with handlers out of its walk -/
theorem FM.ofW {y : MethodName} {args : List Value} {r : ρ} {hh : List (Nat × Nat × Nat × Nat)} (hO : okG P) (hy : plainName y.cls = true) (hc : y.cls = own) (hn : (lg_sl args).length ≤ nL) (hlv : lv_args 0 args = lv) (hE : E = some r) (hLE : LE (OG P) S (fin r).2)
    (body : ∀ X : Ctx, CX (OG P) X l cc nL own ret → X.2.2.2.2.2.2.2.2.2 = none → X.2.2.2.2.2.2.2.2.1.exceptionTable.toList = tableOf hh → VF (OG P) X nL fr lo S fin E S 0 lv []) : FM l (OG P) y (wsW_ y cc nL ret hh) fr lo args S (fin r) := by
  refine ⟨hLE, va_MetW (cc := cc) (maxL := nL) (ret := ret) (hh := hh) hy rfl ?_⟩
  intro p e s m args' below meth c s₁ B hml hv
  obtain ⟨rfl, hI, hT⟩ := hv
  have hts := atoms_spec (ws := wsW_ y cc nL ret hh) B.pre
  have hl := lv_entry args (n := nL) hn
  rw [hlv] at hl
  rw [lg_entry_eq]
  have hown : s.vm.findClass own = some m.cls := by rw [← hc]; exact findClass_of_methodNamed B.named
  have hX := body (p, l, e, s, m, args.toArray, below, meth, c, none) ⟨B.exec, B.bytes, hml, hown, fun w h => hts w (List.mem_cons_of_mem _ h), B.returns, B.notSynchronized, hT, rfl, OG_ok P hO⟩ rfl (vx_table (x := y) B (hts _ List.mem_cons_self)) r hE LE.rf
  have h0 := hX.2 s.heap [] _ hI va_S.rf hl
  rw [Nat.sub_self, Nat.sub_self] at h0
  exact h0
/-- a call of a method with handlers -/
def LkVW (own : String) (idx : Nat) (y : MethodName) (b : ByteArray) (L : Nat) (r : Option FieldType) (hh : List (Nat × Nat × Nat × Nat)) (n : Nat) : Prop := GoodIn lw_all (wsV own idx y.cls y (wsW_ y b L r hh)) ∧ y.cls ≠ "java/lang/invoke/MethodHandle" ∧ y.cls ≠ "java/lang/invoke/VarHandle" ∧ (parseMethodDescriptor y.desc).map (fun d => d.parameters.length) = some n
theorem g_callVW {idx : Nat} {y : MethodName} {b : ByteArray} {L n fr' lo' : Nat} {r' : Option FieldType} {hh : List (Nat × Nat × Nat × Nat)} {o ci N : Nat} {Cn : String} {T : u_T} {As : List Value} {α : Type} {F : Option α} {fin' : α → Option Value × St} {G : α → Option ρ} (C : CX (OG P) X l cc nL own ret) (lk : LkVW own idx y b L r' hh n) (hd : decode cc pc = .ok (.invokevirtual idx, 3)) (hn : As.length = n) (hfr : fr' + 1 ≤ fr) (hlo : 8 + (L + 11) + lo' ≤ lo) (hst : (st.map fun v => v.category).sum ≤ 8) (hc : clG[ci]? = some (Cn, T, N)) (hcn : Cn = y.cls) (hrc : ∀ a, F = some a → ∃ fs, gO S ci o = some fs) (hM : ∀ a, F = some a → FM l (OG P) y (wsW_ y b L r' hh) fr' lo' (.ref o :: As) S (fin' a)) (k : ∀ a, F = some a → VF (OG P) X nL fr lo S0 fin (G a) (fin' a).2 (pc + 3) lv ((fin' a).1.toList ++ st)) : VF (OG P) X nL fr lo S0 fin (F >>= G) S pc lv (As.reverse ++ .ref o :: st) := by
  intro r hr hL
  cases hF : F with
  | none => rw [hF] at hr; cases hr
  | some a =>
    rw [hF] at hr
    obtain ⟨hLE, hM⟩ := hM a hF
    refine v_after (av := (Value.ref o :: As).toArray) hL hLE (k a hF) hr fun H locs ls hI hl hf => ?_
    rw [show l = X.2.1 from C.2.2.2.2.2.2.2.2.1.symm] at hM
    have hp := FM.pre (l' := l) (As := (.ref o :: As)) C hI
    have hts := C.2.2.2.2.1
    obtain ⟨fs, hfs⟩ := hrc a hF
    exact vx_runVW (n := n) (C := y.cls) ⟨C.1, C.2.1, C.2.2.1, C.2.2.2.1, hts⟩ hM (vx_cwVW n hts lk.1 rfl rfl rfl ⟨rfl, lk.2⟩ ⟨hfr, hlo⟩) ⟨hp.1, hcn ▸ g_recv hc C hfs H hI, hp.2⟩ rfl hn hl.1 rfl (lv_room hst) hd hf
theorem g_callVW_mi {idx : Nat} {y : MethodName} {b : ByteArray} {L n fr' lo' : Nat} {r' : Option FieldType} {hh : List (Nat × Nat × Nat × Nat)} {o ci N : Nat} {Cn : String} {T : u_T} {As : List Value} {F : Option (Int32 × St)} {G : (Int32 × St) → Option ρ} (C : CX (OG P) X l cc nL own ret) (lk : LkVW own idx y b L r' hh n) (hd : decode cc pc = .ok (.invokevirtual idx, 3)) (hn : As.length = n) (hfr : fr' + 1 ≤ fr) (hlo : 8 + (L + 11) + lo' ≤ lo) (hst : (st.map fun v => v.category).sum ≤ 8) (hc : clG[ci]? = some (Cn, T, N)) (hcn : Cn = y.cls) (hrc : ∀ a, F = some a → ∃ fs, gO S ci o = some fs) (hM : ∀ a, F = some a → FM l (OG P) y (wsW_ y b L r' hh) fr' lo' (.ref o :: As) S (f_mi a)) (k : ∀ r : Int32 × St, F = some r → VF (OG P) X nL fr lo S0 fin (G r) r.2 (pc + 3) lv (.int r.1 :: st)) : VF (OG P) X nL fr lo S0 fin (F >>= G) S pc lv (As.reverse ++ .ref o :: st) := g_callVW (fin' := f_mi) C lk hd hn hfr hlo hst hc hcn hrc hM k
/-- either of two: what is thrown is caught here -/
def catU (a : Option (Nat × St)) (h : (Nat × St) → Option ρ) (b : Option ρ) : Option ρ := match a with
  | some e => h e
  | none => b
theorem v_cat {F : Option (Nat × St)} {Hd : (Nat × St) → Option ρ} {E2 : Option ρ} (kT : ∀ e, F = some e → VF (OG P) X nL fr lo S0 fin (Hd e) S pc lv st) (kN : F = none → VF (OG P) X nL fr lo S0 fin E2 S pc lv st) : VF (OG P) X nL fr lo S0 fin (catU F Hd E2) S pc lv st := by
  cases h : F with
  | none => exact kN h
  | some s => exact kT s h
theorem mf_cat {sf : ρ → St} {F : Option (Nat × St)} {Hd : (Nat × St) → Option ρ} {E2 : Option ρ} (hT : ∀ e, F = some e → MF sf (Hd e) S) (hN : MF sf E2 S) : MF sf (catU F Hd E2) S := by
  intro r hr
  cases h : F with
  | none => rw [h] at hr; exact hN r hr
  | some s2 => rw [h] at hr; exact hT _ h r hr
theorem mf_le {sf : ρ → St} {S1 : St} (h : leG S S1) (k : MF sf E S1) : MF sf E S := fun r hr => h.tr (k r hr)
/-- a call that throws what the method's only handler catches -/
theorem g_callCV {idx : Nat} {y : MethodName} {b : ByteArray} {L n fr' lo' : Nat} {r' : Option FieldType} {o ci N : Nat} {Cn : String} {T : u_T} {As : List Value} {Ex : String} {r1 : Nat × St} {Eh : Option ρ} {t0 t1 hpc ct : Nat} (C : CX (OG P) X l cc nL own ret) (htab : X.2.2.2.2.2.2.2.2.1.exceptionTable.toList = tableOf [(t0, t1, hpc, ct)]) (hcov : ∀ x, tableOf [(t0, t1, hpc, ct)] = [x] → covers x pc = true ∧ x.catchType = ct ∧ x.handlerPc = hpc) (h1 : ∃ x, tableOf [(t0, t1, hpc, ct)] = [x]) (hct : ct ≠ 0) (hlink : Cond.classLink own ct Ex ∈ lw_all) (hcast : Cond.castable Ex Ex ∈ lw_tbl) (lk : LkV own idx y b L r' n) (hd : decode cc pc = .ok (.invokevirtual idx, 3)) (hn : As.length = n) (hfr : fr' + 1 ≤ fr) (hlo : 8 + (L + 11) + lo' ≤ lo) (hst : (st.map fun v => v.category).sum ≤ 8) (hc : clG[ci]? = some (Cn, T, N)) (hcn : Cn = y.cls) (hrc : ∃ fs, gO S ci o = some fs) (hM : UM l P y (ws_ y b L r') fr' lo' (.ref o :: As) S Ex r1) (k : VF (OG P) X nL fr lo S0 fin Eh r1.2 hpc lv [.ref r1.1]) : VF (OG P) X nL fr lo S0 fin Eh S pc lv (As.reverse ++ .ref o :: st) := by
  intro r hr hL
  obtain ⟨hLE, hM⟩ := hM
  obtain ⟨fs, hfs⟩ := hrc
  obtain ⟨x, hx⟩ := h1
  obtain ⟨x1, x2, x3⟩ := hcov x hx
  obtain ⟨h1, h2⟩ := k r hr (hL.tr hLE.LE)
  refine ⟨hLE.LE.tr h1, fun H locs ls hI hS hl T hT Y => ?_⟩
  obtain ⟨e1, e2⟩ := LE.sub hL (hLE.LE (P := P))
  rw [show l = X.2.1 from C.2.2.2.2.2.2.2.2.1.symm] at hM
  have hp := FM.pre (l' := l) (As := (.ref o :: As)) C hI
  have hrun := fx_runV (n := n) (C := y.cls) (H := H) (locs := locs) (cells := ((OG P).2.1 S).1 - ((OG P).2.1 S0).1) (slots := ((OG P).2.1 S).2 - ((OG P).2.1 S0).2) (R := (headSpec [] (rmOf (OG P) fr lo S0 (fin r).2)).room) (g := F0 X.2.2.2.2.1 pc ls (As.reverse ++ .ref o :: st)) (rest := st) (e := X.2.2.1) (below := X.2.2.2.2.2.2.1) (meth := X.2.2.2.2.2.2.2.1) ⟨C.1, C.2.1, C.2.2.1, C.2.2.2.1, C.2.2.2.2.1⟩ hM (cwV n C.2.2.2.2.1 lk.1 rfl rfl rfl ⟨rfl, lk.2⟩ ⟨hfr, hlo⟩) ⟨hp.1, hcn ▸ g_recv hc C hfs H hI, hp.2⟩ rfl hn hl.1 rfl (lv_room hst) hd (by
    rw [e1, e2]
    exact ⟨Nat.sub_le_sub_right h1.1 _, Nat.sub_le_sub_right h1.2.1 _⟩)
  rcases hrun T hT Y with ⟨v, st₀, t, T', L, h0, Y', hL', t1, t2, hf, go⟩ | ⟨q, st₀, t, T', L, E', ce, h0, Y', hL', t1, t2, ⟨hE, hq, hX, hz, hk⟩, hce, hcv, hcl, go⟩
  · exact hf.elim
  · subst hE
    have hqe : q = r1.1 := by
      have := Option.some.inj hq
      cases this
      rfl
    subst hqe
    rw [h0] at hz hk
    rw [e1, e2] at Y'
    have hS' : va_S ((OG P).2.2.1 S0) X.2.2.2.1.heap T'.heap (locs ++ L) := ⟨Nat.le_trans hS.1 (by rw [t1]; exact hz), fun q q1 q2 => by rw [t1, hk q (Nat.lt_of_lt_of_le q1 hS.1) (fun z => q2 (hL.2.2 q z))]; exact hS.2.1 q q1 q2, fun q hq => by
      rcases List.mem_append.mp hq with h | h
      · exact hS.2.2 q h
      · exact hL.2.2 _ (hL' q h)⟩
    obtain ⟨t3, a1, b1⟩ := vx_catch (own := own) (name := E') (E := E') (pc := pc) (ls := ls) (rest := st) (H := T'.heap) C.2.2.2.1 [] x [] (by rw [htab, hx]; rfl) (fun z hz => by cases hz) x1 (by rw [x2]; exact hct) (by rw [x2]; exact C.2.2.2.2.1 _ hlink) (va_Nw.use rfl (C.2.2.2.2.2.2.2.1.2.1 _ hcast rfl)) (by rw [t1]; exact hce) hcv hcl (by rw [x3]; exact h2 T'.heap (locs ++ L) ls (by rw [t1]; exact hX) hS' hl) T' rfl Y'
    exact ⟨t3, go.trans a1, b1⟩
end CH
/-- the contract of a method with handlers that throws, out of its walk -/
theorem TM.ofW {P : GP} {l : Launch} {cc : ByteArray} {nL fr lo : Nat} {own : String} {ret : Option FieldType} {S : St} {E : Option St} {lv : List (Nat × Value)} {y : MethodName} {args : List Value} {S1 : St} {Ex : String} {hh : List (Nat × Nat × Nat × Nat)} (hO : okG P) (hy : plainName y.cls = true) (hc : y.cls = own) (hn : (lg_sl args).length ≤ nL) (hlv : lv_args 0 args = lv) (hE : E = some S1) (hLE : leG S S1)
    (body : ∀ X : Ctx, CX (OG P) X l cc nL own ret → X.2.2.2.2.2.2.2.2.2 = some (.inl Ex) → X.2.2.2.2.2.2.2.2.1.exceptionTable.toList = tableOf hh → iG P S X.2.2.2.1.heap → VF (OG P) X nL fr lo S f_mv E S 0 lv []) : TM l P y (wsW_ y cc nL ret hh) fr lo args S Ex S1 := by
  refine ⟨hLE, vx_ofWH (cc := cc) (maxL := nL) (ret := ret) (hh := hh) hy rfl ?_⟩
  intro p e s m args' below meth c s₁ B hml hv
  obtain ⟨rfl, hI, hT⟩ := hv
  have hts := atoms_spec (ws := wsW_ y cc nL ret hh) B.pre
  have hl := lv_entry args (n := nL) hn
  rw [hlv] at hl
  rw [lg_entry_eq]
  have hown : s.vm.findClass own = some m.cls := by rw [← hc]; exact findClass_of_methodNamed B.named
  have hX := body (p, l, e, s, m, args.toArray, below, meth, c, some (.inl Ex)) ⟨B.exec, B.bytes, hml, hown, fun w h => hts w (List.mem_cons_of_mem _ h), B.returns, B.notSynchronized, hT, rfl, OG_ok P hO⟩ rfl (vx_table (x := y) B (hts _ List.mem_cons_self)) hI S1 hE LE.rf
  have h0 := hX.2 s.heap [] _ hI va_S.rf hl
  rw [Nat.sub_self, Nat.sub_self] at h0
  exact h0
