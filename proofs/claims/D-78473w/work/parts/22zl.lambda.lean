/-! THE LAMBDA OF layEdge: its class, its one method -/
section LAM
def fileL : ClassFile := (shL.file "NetworkCenters$Plan").getD { minorVersion := 0, majorVersion := 0, constantPool := #[], accessFlags := 0, thisClass := 0, superClass := 0, interfaces := #[], fields := #[], methods := #[], attributes := #[] }
def fwdL : Method := ((layoutMethods fileL).bind (·[1]?)).getD default
def laidL : Array Field × Array FieldType × Array FieldType := (layoutFields fileL 0).getD (#[], #[], #[])
theorem fileL_is : shL.file "NetworkCenters$Plan" = some fileL := by
  have h : (shL.file "NetworkCenters$Plan").isSome = true := by decide +kernel
  obtain ⟨x, hx⟩ := Option.isSome_iff_exists.mp h
  simp [fileL, hx]
theorem secondL_is : ∀ ms, layoutMethods fileL = some ms → ms[1]? = some fwdL := by
  intro ms hms
  have h : ((layoutMethods fileL).bind (·[1]?)).isSome = true := by decide +kernel
  obtain ⟨x, hx⟩ := Option.isSome_iff_exists.mp h
  have hf : fwdL = x := by simp [fwdL, hx]
  rw [hms] at hx
  rw [hf]
  exact hx
theorem laidL_is : layoutFields fileL 0 = some laidL := by
  have h : (layoutFields fileL 0).isSome = true := by decide +kernel
  obtain ⟨x, hx⟩ := Option.isSome_iff_exists.mp h
  simp [laidL, hx]
def codeL : ByteArray := ⟨#[0x2a, 0xb4, 0x00, 0x11, 0x2a, 0xb4, 0x00, 0x13, 0x1f, 0x21, 0xb6, 0x00, 0x1b, 0xb1]⟩
theorem fL_code : (fwdL.code.map fun c => (c.code.data, c.maxLocals)) = some (codeL.data, 5) := by decide +kernel
theorem fL_flags : (fwdL.accessFlags, fwdL.name, fwdL.sig.returnType) = (0x0001, "take", none) := by decide +kernel
theorem lM : fileL.constantPool[27]? = some (.methodref 23 26) ∧ fileL.constantPool.className? 23 = some "NetworkCenters$Plan" ∧ fileL.constantPool.nameAndType? 26 = some ("lambda$layEdge$0", "(IJJ)V") := by decide +kernel
theorem lC : fileL.constantPool[23]? = some (.class_ 22) ∧ fileL.constantPool.string? 22 = some "NetworkCenters$Plan" ∧ 23 ≠ fileL.thisClass := by decide +kernel
theorem lF0 : fileL.constantPool[17]? = some (.fieldref 2 16) ∧ fileL.constantPool.nameAndType? 16 = some ("arg$1", "LNetworkCenters$Plan;") ∧ laidL.1.findIdx? (·.name == "arg$1") = some 0 ∧ (laidL.1[0]?).map (fun f => (f.isStatic, f.slot)) = some (false, 0) := by decide +kernel
theorem lF1 : fileL.constantPool[19]? = some (.fieldref 2 18) ∧ fileL.constantPool.nameAndType? 18 = some ("arg$2", "I") ∧ laidL.1.findIdx? (·.name == "arg$2") = some 1 ∧ (laidL.1[1]?).map (fun f => (f.isStatic, f.slot)) = some (false, 1) := by decide +kernel
theorem dL0 : decode codeL 0 = .ok (.aload_n 0, 1) := by decide +kernel
theorem dL1 : decode codeL 1 = .ok (.getfield 17, 3) := by decide +kernel
theorem dL4 : decode codeL 4 = .ok (.aload_n 0, 1) := by decide +kernel
theorem dL5 : decode codeL 5 = .ok (.getfield 19, 3) := by decide +kernel
theorem dL8 : decode codeL 8 = .ok (.lload_n 1, 1) := by decide +kernel
theorem dL9 : decode codeL 9 = .ok (.lload_n 3, 1) := by decide +kernel
theorem dL10 : decode codeL 10 = .ok (.invokevirtual 27, 3) := by decide +kernel
theorem dL13 : decode codeL 13 = .ok (.return_, 1) := by decide +kernel
/-- what the made class is -/
theorem madeL {e : Setting} {vm : Vm} {d c : ClassId} {dk : Class} (hd : vm.classes[d]? = some dk) (hname : dk.name = "NetworkCenters$Plan") (h : Lambda.isMade e vm d shL c = true)
    (hO : ∀ o ok, vm.findClass "java/lang/Object" = some o → vm.classes[o]? = some ok → ok.instanceTypes.size = 0) :
    ∃ (k tk : Class) (file : ClassFile) (methk : Method) (ck : Code) (toy : ClassId) (t : MethodId) (f0 : Field) (f1 : Field),
      vm.classes[c]? = some k ∧ k.name = "NetworkCenters$Plan$$Lambda" ∧ k.cf = some file ∧ file.constantPool = fileL.constantPool ∧
      vm.method? ⟨c, 1⟩ = some methk ∧ methk.code = some ck ∧ ck.code = codeL ∧ ck.maxLocals = 5 ∧ methk.locks = false ∧ methk.accessFlags = 0x0001 ∧ methk.sig.returnType = none ∧
      vm.findClass "NetworkCenters$Plan" = some toy ∧ vm.classes[toy]? = some tk ∧ tk.isInterface = false ∧ ((methodIn toy "lambda$layEdge$0" "(IJJ)V" tk.isInterface none).ask e vm).1 = .ok t ∧
      vm.methodReady c 27 t ∧ vm.classReady c 23 toy ∧ vm.fieldReady c 17 c f0 ∧ f0.isStatic = false ∧ f0.slot = 0 ∧ vm.fieldReady c 19 c f1 ∧ f1.isStatic = false ∧ f1.slot = 1 := by
  obtain ⟨dk', k, ok, tk, file, cf, object, iface, toy, lay, methods, target, found, hd', hk, hfile, hcf, hobj, -, hok, hlay, hms, ht, htk, hg, -, hrec, -, -, -, hitf, hpool, hmeth, hfields, -, hres, -⟩ := Lambda.isMade_spec h
  cases hd.symm.trans hd'
  rw [hname, fileL_is] at hcf
  cases hcf
  rw [hO object ok hobj hok, laidL_is] at hlay
  cases hlay
  obtain ⟨b, hb, hsame⟩ := hmeth 1 fwdL (secondL_is methods hms)
  simp only [Lambda.sameMethod, Bool.and_eq_true, decide_eq_true_eq] at hsame
  obtain ⟨⟨hn, -, hsig, hfl⟩, hcode⟩ := hsame
  have fc := fL_code
  have ff := fL_flags
  simp only [Prod.mk.injEq] at ff
  obtain ⟨g0, hg0, hp0⟩ := Option.map_eq_some_iff.mp lF0.2.2.2
  simp only [Prod.mk.injEq] at hp0
  obtain ⟨g1, hg1, hp1⟩ := Option.map_eq_some_iff.mp lF1.2.2.2
  simp only [Prod.mk.injEq] at hp1
  cases hfc : fwdL.code with
  | none => rw [hfc] at fc; cases fc
  | some x =>
    cases hbc : b.code with
    | none => simp [hfc, hbc] at hcode
    | some y =>
      simp only [hfc, hbc, Bool.and_eq_true, decide_eq_true_eq] at hcode
      simp only [hfc, Option.map_some, Option.some.injEq, Prod.mk.injEq] at fc
      refine ⟨k, tk, file, b, y, toy, target, g0, g1, hk, by rw [hrec.1, hname]; rfl, hfile, hpool.2.1, by simp [Vm.method?, hk, hb], hbc, ?_, by rw [← hcode.1.1.1.1.2.1]; exact fc.2, ?_, by rw [← hfl]; exact ff.1, by rw [← hsig]; exact ff.2.2, ht, htk, hitf, hg,
        ⟨k, hk, hres 27 _ (Lambda.resolvedOf_method lM.1 lM.2.1 ht htk lM.2.2 hg)⟩, ⟨k, hk, hres 23 _ (Lambda.resolvedOf_class lC.1 lC.2.2 lC.2.1 ht)⟩,
        ⟨k, 0, k, hk, hres 17 _ (Lambda.resolvedOf_field lF0.1 lF0.2.1 lF0.2.2.1), hk, hfields 0 _ hg0⟩, hp0.1, hp0.2,
        ⟨k, 1, k, hk, hres 19 _ (Lambda.resolvedOf_field lF1.1 lF1.2.1 lF1.2.2.1), hk, hfields 1 _ hg1⟩, hp1.1, hp1.2⟩
      · rw [← hcode.1.1.1.1.2.2]
        exact ByteArray.ext fc.1
      · simp [Method.locks, Method.isSynchronized, ← hfl, ff.1, hasFlag, Acc.synchronized]
end LAM
theorem larr3 {Z : Type} {K : (a b c : Nat) → (fun _ : Array Nat => Option Z) #[a, b, c]} {K2 : (x : Array Nat) → (fun _ : Array Nat => Option Z) x} {A : Array Nat} {a0 a1 a2 : Nat} {r : Option Z} (hA : A = ⟨[a0, a1, a2]⟩) (h : Jvm.Lambda.shapeOf?.match_15 (fun _ => Option Z) A K K2 = r) : (K a0 a1 a2 : Option Z) = r := by
  subst hA
  exact h
theorem larr3c (A : Array Nat) : (∃ a b c, A = ⟨[a, b, c]⟩) ∨ A.size ≠ 3 := by
  obtain ⟨L⟩ := A
  match L with
  | [] => exact Or.inr (by decide)
  | [_] => exact Or.inr (by simp)
  | [_, _] => exact Or.inr (by simp)
  | [a, b, c] => exact Or.inl ⟨a, b, c, rfl⟩
  | _ :: _ :: _ :: _ :: _ => exact Or.inr (by simp)
/-- the site's pool entries -/
theorem shapeL_site {cf : ClassFile} {index : Nat} {sh : Lambda.Shape} (h : Lambda.shapeOf? cf index = some sh) : ∃ b nt name desc sig, cf.constantPool[index]? = some (.invokeDynamic b nt) ∧ cf.constantPool.nameAndType? nt = some (name, desc) ∧ parseMethodDescriptor desc = some sig ∧ sig.parameters = sh.captured := by
  unfold Lambda.shapeOf? at h
  cases hx : cf.constantPool[index]? with
  | none => rw [hx] at h; cases h
  | some v =>
    rw [hx] at h
    cases v with
    | invokeDynamic b nt =>
      obtain ⟨entries, -, h⟩ := ob h
      obtain ⟨bm, -, h⟩ := ob h
      revert h
      generalize cf.constantPool[bm.bootstrapMethodRef]? = w
      intro h
      cases w with
      | none => cases h
      | some w =>
        cases w with
        | methodHandle kd r =>
          by_cases hk6 : kd = 6
          · subst hk6
            obtain ⟨u1, -, h⟩ := ob h
            revert h
            generalize bm.bootstrapArguments = A
            intro h
            rcases larr3c A with ⟨a0, a1, a2, hA⟩ | hA
            rotate_left
            · exfalso
              obtain ⟨L⟩ := A
              match L, h with
              | [], h => cases h
              | [_], h => cases h
              | [_, _], h => cases h
              | _ :: _ :: _ :: _ :: _, h => cases h
              | [a0, a1, a2], h => exact hA rfl
            · replace h := larr3 hA h
              revert h
              generalize cf.constantPool[a0]? = w0
              generalize cf.constantPool[a1]? = w1
              generalize cf.constantPool[a2]? = w2
              intro h
              cases w0 with
              | none => cases h
              | some w0 =>
                cases w0 with
                | methodType d0 =>
                  cases w1 with
                  | none => cases h
                  | some w1 =>
                    cases w1 with
                    | methodHandle kind r1 =>
                      cases w2 with
                      | none => cases h
                      | some w2 =>
                        cases w2 with
                        | methodType d2 =>
                          obtain ⟨nd, hnd, h⟩ := ob h
                          obtain ⟨nm, ds⟩ := nd
                          obtain ⟨site, hsite, h⟩ := ob h
                          refine ⟨b, nt, nm, ds, site, rfl, hnd, hsite, ?_⟩
                          obtain ⟨sp, sr⟩ := site
                          cases sr with
                          | none => cases h
                          | some sr =>
                            cases sr with
                            | object iface =>
                              obtain ⟨mm, -, h⟩ := ob h
                              obtain ⟨ic, inm, id, itf⟩ := mm
                              obtain ⟨s0, -, h⟩ := ob h
                              obtain ⟨q0, -, h⟩ := ob h
                              obtain ⟨q1, -, h⟩ := ob h
                              obtain ⟨s2, -, h⟩ := ob h
                              obtain ⟨q2, -, h⟩ := ob h
                              cases h
                              rfl
                            | _ => cases h
                        | _ => cases h
                    | _ => cases h
                | _ => cases h
          · exfalso
            split at h
            · rename_i heq
              cases heq
              exact hk6 rfl
            · cases h
        | _ => cases h
    | _ => cases h
theorem laidL_ty : laidL.2.1.toList = [FieldType.object "NetworkCenters$Plan", FieldType.int] := by decide +kernel
/-- the made class's shape -/
theorem madeL2 {e : Setting} {vm : Vm} {d c : ClassId} {dk : Class} (hd : vm.classes[d]? = some dk) (hname : dk.name = "NetworkCenters$Plan") (h : Lambda.isMade e vm d shL c = true)
    (hO : ∀ o ok, vm.findClass "java/lang/Object" = some o → vm.classes[o]? = some ok → ok.instanceTypes.size = 0) :
    ∃ k : Class, vm.classes[c]? = some k ∧ k.kind = .ordinary ∧ k.instanceTypes.toList = [FieldType.object "NetworkCenters$Plan", FieldType.int] := by
  obtain ⟨dk', k, ok, tk, file, cf, object, iface, toy, lay, methods, target, found, hd', hk, hfile, hcf, hobj, -, hok, hlay, hms, ht, htk, hg, -, hrec, -, -, -, hitf, hpool, hmeth, hfields, hty, hres, -⟩ := Lambda.isMade_spec h
  cases hd.symm.trans hd'
  rw [hname, fileL_is] at hcf
  cases hcf
  have hz := hO object ok hobj hok
  rw [hz, laidL_is] at hlay
  cases hlay
  refine ⟨k, hk, hrec.2.1, ?_⟩
  rw [hty.1, Array.toList_append, laidL_ty, show ok.instanceTypes.toList = [] from List.eq_nil_of_length_eq_zero (by simpa using hz)]
  rfl
section LAR
variable {ρ : Type} {P : GP} {X : Ctx} {l : Launch} {nL fr lo : Nat} {own : String} {ret : Option FieldType} {S0 S : St} {fin : ρ → Option Value × St} {E : Option ρ} {lv : List (Nat × Value)} {st : List Value}
theorem objZ {A : Array Value} {s : State} (h : (Cond.instantiable "java/lang/Object" 0).before A s = true) : ∀ o ok, s.vm.findClass "java/lang/Object" = some o → s.vm.classes[o]? = some ok → ok.instanceTypes.size = 0 := by
  intro o ok h1 h2
  simp only [Cond.before, Cond.holds, Cond.value, h1, h2, Option.bind_some, Option.map_some, Option.some.injEq, Bool.and_eq_true, beq_iff_eq] at h
  simp at h
  simpa using h.2
/-- the lambda is made -/
theorem g_indy {o : Nat} {k : Int32} {G : (Nat × St) → Option ρ} (hO : okG P) (C : CX (OG P) X l cX3_layEdge nL RX3 ret) (hn : X.2.2.2.1.methodNamed? yX3_layEdge = some X.2.2.2.2.1) (hlo : 3090 ≤ lo) (hst : (st.map fun v => v.category).sum ≤ 8) (kk : ∀ y, some (nC S (.inr (17, [.ref o, .int k])) 2) = some y → VF (OG P) X nL fr lo S0 fin (G y) y.2 118 lv (.ref y.1 :: st)) : VF (OG P) X nL fr lo S0 fin (some (nC S (.inr (17, [.ref o, .int k])) 2) >>= G) S 113 lv (.int k :: .ref o :: st) := by
  refine VF.new (e := .inr (17, [.ref o, .int k])) (n := 2) (kk _ rfl) (fun R H locs cells slots Q ls hI hl hc1 hc2 w hR hR2 T hT Y => ?_)
  have hts := C.2.2.2.2.1
  have hla := (hO.2.2.2.2.2.2.2.1 _ C.2.2.2.2.2.2.2.1.2.2.2.2.2.1).1
  obtain ⟨m, kq, cf, i0, p0, lk, hm, hk, hcf, hsh, hin, hfind, hmade, hcall, hl2⟩ := State.lambdaAt?_spec hla
  cases hn.symm.trans hm
  have hlk : lk = .makes (P.1.1 17) := by
    rcases hl2 with ⟨a, cell, -, h, -⟩ | ⟨h, -⟩
    · cases h
    · exact h
  subst hlk
  have hOb := objZ (hts _ q2588)
  obtain ⟨k9, hk9, hnm9⟩ := className_of_methodNamed hn
  cases hk.symm.trans hk9
  obtain ⟨kc, hkc, hkind, hty⟩ := madeL2 hk hnm9 hmade hOb
  obtain ⟨b0, nt0, nm0, ds0, sig0, p1, p2, p3, p4⟩ := shapeL_site hsh
  have hti : kc.instanceTypes[0]? = some (FieldType.object "NetworkCenters$Plan") ∧ kc.instanceTypes[1]? = some FieldType.int := by
    rw [← Array.getElem?_toList, ← Array.getElem?_toList, hty]
    exact ⟨rfl, rfl⟩
  have hsl : ((kc.instanceTypes.toList.zip [Value.ref o, Value.int k]).map fun (t, v) => narrow t v) = [Value.ref o, Value.int k] := by rw [hty]; rfl
  obtain ⟨Y1, st1⟩ := Y.lambdaMakes C.1 (g := F0 X.2.2.2.2.1 113 ls (.int k :: .ref o :: st)) rfl (hl.1.trans C.2.2.1.symm) (by rw [C.2.1]; exact dX3_layEdge_113) (vals := [Value.ref o, Value.int k]) (rest := st) hk hfind hcf p1 p2 (parseLong_of_parse p3) (by rw [p4]; rfl) rfl hkc
    (by rw [Y.admits.platform, hR2]; have h8 := lv_room (m := X.2.2.2.2.1) (pc := 113) (ls := ls) (rest := (.int k :: .ref o :: st)) hst; show 2 * _ + (1 + (1 + (st.map fun v => v.category).sum)) + 3072 ≤ lo; omega) hc1 (by rw [hsl]; exact hc2)
    (fun i v hv => by
      rw [hsl] at hv
      match i with
      | 0 => simp at hv; subst hv; simp [State.fitsSlot, State.slotType?, hkc, hkind, hti.1, fits]
      | 1 => simp at hv; subst hv; simp [State.fitsSlot, State.slotType?, hkc, hkind, hti.2, fits]
      | j + 2 => simp at hv)
  rw [hsl] at Y1 st1
  have hsz : T.heap.size = S.2.1 := by rw [hT]; exact hI.1
  obtain ⟨t, a1, b1⟩ := w (T.pushCell { cls := P.1.1 17, slots := [Value.ref o, Value.int k].toArray, vm := .none }).heap
    ⟨("", TX8, 2), rfl, { cls := P.1.1 17, slots := [Value.ref o, Value.int k].toArray, vm := .none }, by rw [← hsz]; exact State.heap_pushCell_size _ _, rfl, rfl, fun j hj => by
      rw [hO.2.2.2.2.2.2.2.2]
      match j, hj with
      | 0, _ => rfl
      | 1, _ => rfl⟩
    (by rw [← hsz]; simp [State.pushCell]) (fun q hq => by rw [State.heap_pushCell_of_lt _ _ (by rw [hsz]; exact hq), hT]) _ rfl Y1
  refine ⟨t, st1 t ?_, b1⟩
  rw [hsz]
  exact a1
/-- a body that knows its method's name -/
theorem FM.ofN {r : ρ} {y : MethodName} {cc : ByteArray} {args : List Value} (hO : okG P) (hy : plainName y.cls = true) (hc : y.cls = own) (hn : (lg_sl args).length ≤ nL) (hlv : lv_args 0 args = lv) (hE : E = some r) (hLE : LE (OG P) S (fin r).2)
    (body : ∀ X : Ctx, CX (OG P) X l cc nL own ret → X.2.2.2.2.2.2.2.2.2 = none → X.2.2.2.1.methodNamed? y = some X.2.2.2.2.1 → VF (OG P) X nL fr lo S fin E S 0 lv []) : FM l (OG P) y (ws_ y cc nL ret) fr lo args S (fin r) := by
  refine ⟨hLE, Met.ofW (cc := cc) (maxL := nL) (ret := ret) hy rfl ?_⟩
  intro p e s m args' below meth c s₁ B hml hv
  obtain ⟨rfl, hI, hT⟩ := hv
  have hts := atoms_spec (ws := ws_ y cc nL ret) B.pre
  have hl := lv_entry args (n := nL) hn
  rw [hlv] at hl
  rw [lg_entry_eq]
  have hown : s.vm.findClass own = some m.cls := by rw [← hc]; exact findClass_of_methodNamed B.named
  have hX := body (p, l, e, s, m, args.toArray, below, meth, c, none) ⟨B.exec, B.bytes, hml, hown, fun w h => hts w (List.mem_cons_of_mem _ h), B.returns, B.notSynchronized, hT, rfl, OG_ok P hO⟩ rfl B.named r hE LE.rf
  have h0 := hX.2 s.heap [] _ hI va_S.rf hl
  rw [Nat.sub_self, Nat.sub_self] at h0
  exact h0
theorem v_ldcw {cc : ByteArray} {pc : Nat} (C : CX (OG P) X l cc nL own ret) {v : Int32} {i : Nat} (hd : decode cc pc = .ok (.ldc_w i, 3)) (hc : Jvm.Cond.constant own i v ∈ lw_all) (k : VF (OG P) X nL fr lo S0 fin E S (pc + 3) lv (.int v :: st)) : VF (OG P) X nL fr lo S0 fin E S pc lv (st) :=
  VF.lift k (fun _ _ _ _ _ _ _ hl kk => lv_ldcw C.1 C.2.1 C.2.2.2.1 (C.2.2.2.2.1 _ hc) hd kk)
end LAR
