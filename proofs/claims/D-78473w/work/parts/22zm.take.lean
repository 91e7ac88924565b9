/-! THE LAMBDA IS CALLED: Use.take, through the made class's method, to lambda$layEdge$0 -/
theorem lookL {U : State} {y : MethodName} {t : MethodId} (hn : U.methodNamed? y = some t) (hy : y.cls ≠ "java/lang/invoke/MethodHandle" ∧ y.cls ≠ "java/lang/invoke/VarHandle") :
    ∀ cI kI, U.vm.findClass y.cls = some cI → U.vm.classes[cI]? = some kI → ((methodIn cI y.name y.desc kI.isInterface none).ask { classPath := fun _ => none } U.vm).1 = .ok t := by
  intro cI kI hf hk
  have h1 : U.methodFound? y.cls y.name y.desc = some t := State.methodFound?_of_named hn hy
  simp only [State.methodFound?, hf, hk, Option.bind_eq_bind, Option.bind_some] at h1
  cases hq : ((methodIn cI y.name y.desc kI.isInterface none).ask { classPath := fun _ => none } U.vm).1 with
  | ok v => rw [hq] at h1; exact congrArg Except.ok (Option.some.inj h1)
  | error x => rw [hq] at h1; cases h1
section TAK
variable {ρ : Type} {P : GP} {X : Ctx} {l : Launch} {cc : ByteArray} {nL fr lo : Nat} {own : String} {ret : Option FieldType} {S0 S : St} {fin : ρ → Option Value × St} {pc : Nat} {lv : List (Nat × Value)} {st : List Value}
/-- the lambda's class at a state of the world -/
theorem lamAt (hO : okG P) {U : State} {A : Array Value} (ht : tbG P U) (hOb : (Cond.instantiable "java/lang/Object" 0).before A U = true) :
    ∃ (d : ClassId) (k tk : Class) (file : ClassFile) (methk : Method) (ck : Code) (toy : ClassId) (t : MethodId) (f0 : Field) (f1 : Field),
      Lambda.isMade { classPath := fun _ => none } U.vm d shL (P.1.1 17) = true ∧ U.lambdaCallable shL (P.1.1 17) = true ∧
      U.vm.classes[P.1.1 17]? = some k ∧ k.name = "NetworkCenters$Plan$$Lambda" ∧ k.cf = some file ∧ file.constantPool = fileL.constantPool ∧
      U.vm.method? ⟨P.1.1 17, 1⟩ = some methk ∧ methk.code = some ck ∧ ck.code = codeL ∧ ck.maxLocals = 5 ∧ methk.locks = false ∧ methk.accessFlags = 0x0001 ∧ methk.sig.returnType = none ∧
      U.vm.findClass "NetworkCenters$Plan" = some toy ∧ U.vm.classes[toy]? = some tk ∧ tk.isInterface = false ∧ ((methodIn toy "lambda$layEdge$0" "(IJJ)V" tk.isInterface none).ask { classPath := fun _ => none } U.vm).1 = .ok t ∧
      U.vm.methodReady (P.1.1 17) 27 t ∧ U.vm.classReady (P.1.1 17) 23 toy ∧ U.vm.fieldReady (P.1.1 17) 17 (P.1.1 17) f0 ∧ f0.isStatic = false ∧ f0.slot = 0 ∧ U.vm.fieldReady (P.1.1 17) 19 (P.1.1 17) f1 ∧ f1.isStatic = false ∧ f1.slot = 1 := by
  have hla := (hO.2.2.2.2.2.2.2.1 _ ht.2.2.2.2.2.1).1
  obtain ⟨m0, kq, cf, i0, p0, lk, hm0, hk0, hcf, hsh, hin, hfind, hmade, hcan, hl2⟩ := State.lambdaAt?_spec hla
  obtain ⟨k9, hk9, hnm9⟩ := className_of_methodNamed hm0
  cases hk0.symm.trans hk9
  obtain ⟨kK, tk, file, methk, ck, toy, t, f0, f1, hr⟩ := madeL hk0 hnm9 hmade (objZ hOb)
  exact ⟨m0.cls, kK, tk, file, methk, ck, toy, t, f0, f1, hmade, hcan, hr⟩
theorem g_take {count o fr' lo' : Nat} {a b : Int64} {FL : Nat → Int32 → Option St} {G : Nat → Int32 → St → Option ρ} (hO : okG P) (C : CX (OG P) X l cc nL RX3 ret) (hd : decode cc pc = .ok (.invokeinterface 82 count, 5)) (hfr : fr' + 2 ≤ fr) (hlo : 8 + (5 + 11) + (8 + (6 + 11) + lo') ≤ lo) (hst : (st.map fun v => v.category).sum ≤ 8)
    (hrc : ∀ th kk r, FL th kk = some r → ∃ fs, gO S 3 th = some fs)
    (hM : ∀ th kk r, FL th kk = some r → FM l (OG P) yX3_lambda_layEdge_0 (ws_ yX3_lambda_layEdge_0 cX3_lambda_layEdge_0 6 none) fr' lo' [.ref th, .int kk, .long a, .long b] S (f_mv r))
    (k : ∀ th kk r, VF (OG P) X nL fr lo S0 fin (G th kk r) r (pc + 5) lv st) :
    VF (OG P) X nL fr lo S0 fin ((gA S 17 o 0) >>= fun th => (gI S 17 o 1) >>= fun kk => (FL th kk) >>= fun r => G th kk r) S pc lv (.long b :: .long a :: .ref o :: st) := by
  intro r hr hL
  obtain ⟨th, h1, hr⟩ := ob hr
  obtain ⟨kk, h2, hr⟩ := ob hr
  obtain ⟨x, hF, hr⟩ := ob hr
  obtain ⟨hLE, hMM⟩ := hM th kk x hF
  obtain ⟨fsT, hfsT⟩ := hrc th kk x hF
  refine v_after5 (fin' := f_mv) (G := fun r => G th kk r) (a := x) (av := #[.ref th, .int kk, .long a, .long b]) hL hLE (k th kk x) hr fun H locs ls hI hl hf => ?_
  rw [show l = X.2.1 from C.2.2.2.2.2.2.2.2.1.symm] at hMM
  have hp := FM.pre (l' := l) (As := [.ref th, .int kk, .long a, .long b]) C hI
  have hts := C.2.2.2.2.1
  have htb := C.2.2.2.2.2.2.2.1
  intro T hT Y
  -- the object's cell
  obtain ⟨v0, hv0, e0⟩ := ob (show (gV S 17 o 0) >>= vA = some th from h1)
  obtain ⟨v1, hv1, e1⟩ := ob (show (gV S 17 o 1) >>= vI = some kk from h2)
  obtain ⟨fs, hfs, hv0⟩ := ob (show (gO S 17 o) >>= (fun fs => fs[0]?) = some v0 from hv0)
  obtain ⟨fs', hfs', hv1⟩ := ob (show (gO S 17 o) >>= (fun fs => fs[1]?) = some v1 from hv1)
  cases hfs.symm.trans hfs'
  have q0 : v0 = .ref th := vA_of e0
  have q1 : v1 = .int kk := vI_of e1
  subst q0; subst q1
  obtain ⟨row, hrow, cellK, hcK, hclsK, hvmK, hslK⟩ := (hI.2.2.1 o _ (gO_at hfs)).2
  have hrow2 : row = ("", TX8, 2) := by simpa [clH, clG] using hrow.symm
  subst hrow2
  have s0 : cellK.slots[0]? = some (.ref th) := by
    have := hslK 0 (by decide)
    rw [hO.2.2.2.2.2.2.2.2] at this
    rw [this]; simp [vp_V, List.getD, hv0]
  have s1 : cellK.slots[1]? = some (.int kk) := by
    have := hslK 1 (by decide)
    rw [hO.2.2.2.2.2.2.2.2] at this
    rw [this]; simp [vp_V, List.getD, hv1]
  -- the receiver of the inner call
  obtain ⟨cellB, hcB, hoB, hclB⟩ := g_recv cls_3.1 C hfsT H hI
  -- through the interface
  obtain ⟨d, kK, tk, file, methk, ck, toy, t, f0, f1, hmade, hcan, hkK, hkn, hfile, hpool, hmk, hck, hby, hmlk, hlkk, hfl, hretk, htoy, htk, hitf, hlook, hready, hclsR, hf0, hf0s, hf0n, hf1, hf1s, hf1n⟩ := lamAt hO htb (hts _ q2588)
  have hface := va_Nw.use (A := X.2.2.2.2.2.1) rfl (hO.2.2.2.2.2.2.2.1 _ htb.2.2.2.2.2.1).2
  have hdecl := va_Nw.use (A := X.2.2.2.2.2.1) rfl (htb.2.1 _ q959 rfl)
  obtain ⟨r0, rM, hn, hrm, hstR, hsigR⟩ := Cond.declares_spec hdecl
  obtain ⟨cL, kL, r1, hcL, hkL, hiL, hfoundL, hn1⟩ := Cond.interfaceMethod_spec hface
  cases hn.symm.trans hn1
  have hr0cls : r0.cls = cL := Option.some.inj ((findClass_of_methodNamed hn).symm.trans hcL)
  obtain ⟨hnameR, hdescR⟩ := name_of_methodNamed hn hrm
  obtain ⟨-, -, -, -, -, -, -, iface', -, -, -, -, found, -, -, -, -, -, hi', -, -, -, -, -, -, hfound', -, -, -, -, -, -, -, -, -, -, hsel⟩ := Lambda.isMade_spec hmade
  cases hcL.symm.trans hi'
  have hfr0 : found = r0 := by
    have h1 : X.2.2.2.1.methodFound? "NetworkCenters$Use" "take" "(JJ)V" = some r0 := hfoundL
    have hcL' : X.2.2.2.1.vm.findClass "NetworkCenters$Use" = some cL := hcL
    simp only [State.methodFound?, hcL', hkL, hiL, Option.bind_eq_bind, Option.bind_some] at h1
    have h2 : ((methodIn cL "take" "(JJ)V" true none).ask { classPath := fun _ => none } X.2.2.2.1.vm).1 = .ok found := hfound'
    rw [h2] at h1
    exact Option.some.inj h1
  subst hfr0
  obtain ⟨i2, hi2, hasg, hway⟩ := State.lambdaCallable_spec hcan
  cases hcL.symm.trans hi2
  have hselP : selectMethod X.2.2.1.platform X.2.2.2.1.vm cellK.cls found = .method ⟨P.1.1 17, 1⟩ := by rw [Launch.admits_selectMethod Y.admits, hclsK]; exact hsel
  obtain ⟨vm₁, Y1, hstep⟩ := Y.invokeinterface C.1 C.2.2.2.1 (hts _ q957) hn hrm hstR (by rw [hr0cls]; exact hkL) hiL (by decide) (a := o) (cell := cellK) (kcell := kK) (by rw [hT]; exact hcK)
    (fun z h => by rw [hvmK] at h; cases h) (by rw [hclsK]; exact hkK) (by rw [hr0cls, hclsK]; exact hasg) hselP hmk (by rw [hnameR, hdescR, hclsK]; exact hway) (by rw [hfl]; decide) (by simp [Method.isAbstract, hfl, hasFlag, Acc.abstract])
    (g := F0 X.2.2.2.2.1 pc ls (.long b :: .long a :: .ref o :: st)) rfl (argsL := [.long a, .long b]) (rest := st) (by
      have h9 : parseMethodDescriptor "(JJ)V" = some ⟨[.long, .long], none⟩ := by decide +kernel
      have h8 := hsigR
      rw [show parseMethodDescriptor _ = _ from h9] at h8
      rw [← Option.some.inj h8]; rfl) rfl (by rw [C.2.1]; exact hd)
  have hW1 : X.2.2.2.1.WarmedH vm₁ := Y1.warmed
  generalize hT1 : T.setVm vm₁ = T1 at Y1 hstep
  have hv1' : T1.vm = vm₁ := by rw [← hT1]; rfl
  have hh1 : T1.heap = H := by rw [← hT1, ← hT]; rfl
  have hW1' : X.2.2.2.1.WarmedH T1.vm := by rw [hv1']; exact hW1
  -- the lambda's class there
  have ht1 : tbG P T1 := C.2.2.2.2.2.2.2.2.2.1 _ _ hW1' htb
  have w1 : ∀ {w : Cond}, w ∈ lw_all → (w.onTables && w.keeps) = true → ∀ (A : Array Value), w.before A T1 = true := fun hw hg A => word_at hW1' (Or.inl hg) (hts _ hw)
  obtain ⟨d', kK', tk', file', methk', ck', toy', t', f0', f1', hmade', hcan', hkK', hkn', hfile', hpool', hmk', hck', hby', hmlk', hlkk', hfl', hretk', htoy', htk', hitf', hlook', hready', hclsR', hf0', hf0s', hf0n', hf1', hf1s', hf1n'⟩ := lamAt hO ht1 (w1 q2588 rfl #[])
  have hpk : T1.plainMethod ⟨P.1.1 17, 1⟩ := State.plainMethod.of_name (fun k' hk' => by cases hkK'.symm.trans hk'; rw [hkn']; decide)
  obtain ⟨Y₀, hin⟩ := Y1.into (g := F0 X.2.2.2.2.1 pc ls st) rfl (hl.1.trans C.2.2.1.symm) (by rw [C.2.1]; exact hd) #[.ref o, .long a, .long b]
    (R' := { frames := fr' + 1, cells := ((OG P).2.1 x).1 - ((OG P).2.1 S).1, slots := ((OG P).2.1 x).2 - ((OG P).2.1 S).2, locals := 8 + (6 + 11) + lo' }) hmk' hck' hlkk' hpk hfr
    (by rw [hmlk']; exact Nat.le_trans (Nat.add_le_add_right (Nat.add_le_add_right (lv_room hst) _) _) hlo) hf.1 hf.2
  generalize hU : (T1.setTop (F0 X.2.2.2.2.1 pc ls st)).pushFrame (.java (entryFrame ⟨P.1.1 17, 1⟩ #[.ref o, .long a, .long b] ck'.maxLocals)) = U at Y₀ hin
  have hvm : U.vm = T1.vm := by rw [← hU]; rfl
  have hheap : U.heap = H := by rw [← hU, ← hh1]; rfl
  have hcell' : U.heap[o]? = some cellK := by rw [hheap]; exact hcK
  -- the inner call's words
  have hsS : (T1.calling (F0 X.2.2.2.2.1 pc ls st) ⟨P.1.1 17, 1⟩ #[.ref o, .long a, .long b]).vm = T1.vm := rfl
  have hG : GoodIn lw_all (ws_ yX3_lambda_layEdge_0 cX3_lambda_layEdge_0 6 none) := lw_meth q939
  have hK : Back X.2.1 _ X.1 X.2.2.1 (.java (F0 X.2.2.2.2.1 pc ls st) :: X.2.2.2.2.2.2.1) (T1.calling (F0 X.2.2.2.2.1 pc ls st) ⟨P.1.1 17, 1⟩ #[.ref o, .long a, .long b]) #[.ref o, .long a, .long b] yX3_lambda_layEdge_0 3 8 _ _ :=
    back_of (bytes := cX3_lambda_layEdge_0) (maxL := 6) (ret := none) (R := { frames := fr' + 1, cells := ((OG P).2.1 x).1 - ((OG P).2.1 S).1, slots := ((OG P).2.1 x).2 - ((OG P).2.1 S).2, locals := 8 + (6 + 11) + lo' }) hMM hp.1 rfl rfl (Nat.le_refl _) (Nat.le_refl _)
      (fun w hw a' U' hW => word_at (State.WarmedH.trans hW1' hW) (hG w hw).2 (hts _ (hG w hw).1)) List.mem_cons_self (fun a' U' hW => word_at (State.WarmedH.trans hW1' hW) (Or.inl rfl) (hts _ q107))
  -- the method named there
  have hcode1 := w1 q939 rfl (#[] : Array Value)
  have hinst1 := w1 q938 rfl (#[] : Array Value)
  have hsel1 := w1 qs14 rfl (#[] : Array Value)
  obtain ⟨tN, methT, hnT, hmT, hstT, habT⟩ := Cond.instanceMethod_spec hinst1
  obtain ⟨methT', cT, hmT', -, -, -, -, -, -, hsigT⟩ := Cond.code_spec hnT hcode1
  cases hmT.symm.trans hmT'
  have et : t' = tN := Except.ok.inj (hlook'.symm.trans (lookL (y := yX3_lambda_layEdge_0) hnT (by decide) _ _ htoy' htk'))
  subst et
  obtain ⟨c2, r2, m2, z1, z2, z3, z4, kP, hkP, hkPi⟩ := Cond.selects_spec hsel1
  cases htoy'.symm.trans z1
  cases (State.methodFound?_of_named hnT (by decide)).symm.trans z2
  cases hnT.symm.trans z3
  obtain ⟨kT, hkT, hnameT⟩ := className_of_methodNamed hnT
  have hsp : signaturePolymorphic kT methT = false := by simp [signaturePolymorphic, hnameT, yX3_lambda_layEdge_0]
  have hclB' : cellB.cls = toy' := by
    have : T1.vm.findClass RX3 = some cellB.cls := by rw [hW1'.alike.findClass]; exact hclB
    exact Option.some.inj (this.symm.trans htoy')
  have hselB : selectMethod X.2.2.1.platform U.vm cellB.cls t' = .method t' := by rw [hvm, Launch.admits_selectMethod Y.admits, hclB']; exact z4
  have hna : namesAClass U (P.1.1 17) 27 := by
    have h0 : namesAClass T1 (P.1.1 17) 27 := ⟨kK', file', 23, 26, toy', tk', hkK', hfile', by rw [hpool']; exact lM.1, hclsR', htk', hitf'⟩
    rw [← hU]; exact h0
  have hpar : methT.sig.parameters.length = 3 := by
    have h9 : parseMethodDescriptor "(IJJ)V" = some ⟨[.int, .long, .long], none⟩ := by decide +kernel
    rw [← Option.some.inj ((show parseMethodDescriptor yX3_lambda_layEdge_0.desc = _ from h9).symm.trans hsigT)]; rfl
  obtain ⟨v, ⟨U', l2, c2', s2⟩, Y2, ⟨g', mk', tt, L2, b1, b2, hq, b3, hL2, b4, b5⟩, hsteps⟩ := hK ⟨P.1.1 17, 1⟩ methk' ck' ⟨U, [], 0, 0⟩ { method := ⟨P.1.1 17, 1⟩, pc := 10, locals := #[.val (.ref o), .val (.long a), .second, .val (.long b), .second], stack := [], locked := none } (.invokevirtual 27) t' #[.ref th, .int kk, .long a, .long b]
    Y₀ rfl (by rw [hmlk']; rfl) (by rw [hby']; exact dL10) (by show 2 * 0 + 0 ≤ 8; decide) (by rw [← hU]; exact hnT) ⟨by show 0 + _ ≤ _; rw [Nat.zero_add]; exact Nat.le_refl _, by show 0 + _ ≤ _; rw [Nat.zero_add]; exact Nat.le_refl _, hp.2 U hheap (by rw [hvm]; exact hW1')⟩
  dsimp only [Pt.U, Pt.locs, Pt.cells, Pt.slots] at Y2 b1 b2 b3 b4 b5 hsteps
  subst b3; subst b4; subst b5
  obtain ⟨hov, hQ⟩ := hq
  cases hov
  obtain ⟨fs2, hleave, -, hended, hWe, hsame⟩ := Y2.leave (v := none) (fun _ => rfl) hlkk'
  obtain ⟨T', X', hW', hsm, ht'⟩ := Y1.outOf (g := F0 X.2.2.2.2.1 pc ls st) rfl (by rw [C.2.1]; exact hd) hended hWe hsame
  have hT'h : T'.heap = U'.heap := by
    have : (U'.setFrames fs2).heap = (T'.setTop { F0 X.2.2.2.2.1 pc ls st with pc := pc + 5, stack := (none : Option Value).toList ++ st }).heap := by rw [← ht']
    exact this.symm
  have hT'v : T'.vm = U'.vm := by
    have : (U'.setFrames fs2).vm = (T'.setTop { F0 X.2.2.2.2.1 pc ls st with pc := pc + 5, stack := (none : Option Value).toList ++ st }).vm := by rw [← ht']
    exact this.symm
  simp only [List.nil_append, Nat.zero_add] at X'
  refine ⟨none, U.calling g' mk' #[.ref th, .int kk, .long a, .long b], tt, T', l2, hheap, X', hL2, by rw [hT'h, b1], by rw [hT'v, b2], ⟨rfl, hQ⟩, fun target hgo => hstep _ fun acts => ?_⟩
  rw [doInvoke_state]
  show Steps X.1.tables X.2.2.1 X.2.2.2.2.2.2.1 (doInvoke X.2.2.1 (T1.setTop (F0 X.2.2.2.2.1 pc ls st)) [] ⟨P.1.1 17, 1⟩ #[.ref o, .long a, .long b]).1 target
  rw [hin []]
  refine Steps.trans ?_ hgo
  show Steps X.1.tables X.2.2.1 X.2.2.2.2.2.2.1 _ (T'.setTop { F0 X.2.2.2.2.1 pc ls st with pc := pc + 5, stack := (none : Option Value).toList ++ st })
  rw [← ht']
  refine Steps.weaken (mid := [.java (F0 X.2.2.2.2.1 pc ls st)]) ?_
  have hloc : entryFrame ⟨P.1.1 17, 1⟩ #[.ref o, .long a, .long b] ck'.maxLocals = { method := ⟨P.1.1 17, 1⟩, pc := 0, locals := #[.val (.ref o), .val (.long a), .second, .val (.long b), .second], stack := [], locked := none } := by rw [hmlk']; rfl
  rw [hloc]
  have hs : U.topJava?.isSome := Y₀.here.top
  have hexec := C.1
  jvm_step Y₀.here [hexec, hby', dL0, Value.isRef]
  jvm_step Y₀.here [hexec, hby', dL1, getfield.wp_ready (e := X.2.2.1) (s := U) (c := P.1.1 17) (field := f0') (a := o) (rest := []) (cell := cellK) (v := .ref th)
    (f := { method := ⟨P.1.1 17, 1⟩, pc := 1, locals := #[.val (.ref o), .val (.long a), .second, .val (.long b), .second], stack := [.ref o], locked := none }) hs (by rw [hvm]; exact hf0') hf0s' rfl hcell' (by rw [hvmK]; simp) (by rw [hf0n']; exact s0)]
  jvm_step Y₀.here [hexec, hby', dL4, Value.isRef]
  jvm_step Y₀.here [hexec, hby', dL5, getfield.wp_ready (e := X.2.2.1) (s := U) (c := P.1.1 17) (field := f1') (a := o) (rest := [.ref th]) (cell := cellK) (v := .int kk)
    (f := { method := ⟨P.1.1 17, 1⟩, pc := 5, locals := #[.val (.ref o), .val (.long a), .second, .val (.long b), .second], stack := [.ref o, .ref th], locked := none }) hs (by rw [hvm]; exact hf1') hf1s' rfl hcell' (by rw [hvmK]; simp) (by rw [hf1n']; exact s1)]
  jvm_step Y₀.here [hexec, hby', dL8]
  jvm_step Y₀.here [hexec, hby', dL9]
  jvm_step Y₀.here [hexec, hby', dL10, invokevirtual.wp_ready (e := X.2.2.1) (s := U) (r := t') (m := t') (k := kT) (mk := kP) (rmeth := methT) (meth := methT) (a := th) (args := [.int kk, .long a, .long b]) (rest := []) (cell := cellB)
    (f := { method := ⟨P.1.1 17, 1⟩, pc := 10, locals := #[.val (.ref o), .val (.long a), .second, .val (.long b), .second], stack := [.long b, .long a, .int kk, .ref th], locked := none }) hs hna (by rw [hvm]; exact hready') (by rw [hvm]; exact hkT) (by rw [hvm]; exact hmT) hsp hstT hpar.symm rfl
    (by rw [hheap]; exact hcB) (fun z h => by rw [h] at hoB; cases hoB) hselB (by rw [hvm]; exact hmT) habT (by rw [hvm]; exact hkP) hkPi]
  intro acts'
  rw [doInvoke_state]
  refine hsteps.trans ?_
  show Steps X.1.tables X.2.2.1 (.java (F0 X.2.2.2.2.1 pc ls st) :: X.2.2.2.2.2.2.1) (U'.setTop { method := ⟨P.1.1 17, 1⟩, pc := 13, locals := #[.val (.ref o), .val (.long a), .second, .val (.long b), .second], stack := [], locked := none }) _
  jvm_step Y2.here [Y2.here.top, hexec, hby', dL13, Y2.method', hretk']
  first | (intro acts''; rw [hleave _ acts'' rfl rfl rfl]) | rw [hleave _ _ rfl rfl rfl]
  exact Steps.refl _
end TAK
