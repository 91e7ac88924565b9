/-! KIND'S CONSTANTS: their classes are not told to be initialised; so their one method has a contract of its own kind, that does not ask it -/
section UR
variable {l : Launch}
/-- what a contract asks of a state, but for the class's init -/
def apU (ws : List Cond) (rm : Room) (y : MethodName) (pl : Platform) (s : State) (m : MethodId) (args : Array Value) (below : List Frame) : Prop :=
  s.frames = .invoking m args :: below ∧ s.status = .running ∧ s.curStatus? = some .runnable ∧ s.alone = true ∧ s.methodNamed? y = some m ∧ s.hears m below = true ∧ s.hasRoom pl (headSpec ws rm).room = true ∧ (headSpec ws rm).pre.before args s = true
def MetU (l : Launch) (y : MethodName) (ws : List Cond) (rm : Room) (Pc : Array Value → State → Prop) (Qc : Array Value → State → Outcome → State → Prop) (mc ms : Nat) (free : Addr → Prop) : Prop :=
  ∀ (p : Program) (e : Env), l.admits e → FairCas e.choices → FairClock e.choices → ∀ (s : State) (m : MethodId) (args : Array Value) (below : List Frame), apU ws rm y e.platform s m args below → Pc args s →
    ∃ n o, (∀ k, k < n → Within (stepsAlone p.tables e k s) below) ∧ (stepsAlone p.tables e n s).status = .running ∧ Ended (stepsAlone p.tables e n s) below o ∧ Qc args s o (stepsAlone p.tables e n s) ∧ ∃ L, FrameEnd s o (stepsAlone p.tables e n s) L mc ms ∧ ∀ q ∈ L, free q.base
theorem MetU.of {y : MethodName} {ws ws' : List Cond} {rm : Room} {Pc : Array Value → State → Prop} {Qc : Array Value → State → Outcome → State → Prop} {mc ms : Nat} {free : Addr → Prop} {cc : ByteArray} {maxL : Nat} {ret : Option FieldType}
    (hy : plainName y.cls = true) (hw : ws = Cond.code y cc maxL ret :: ws')
    (body : ∀ (p : Program) (e : Env) (s : State) (m : MethodId) (args : Array Value) (below : List Frame) (meth : Method) (c : Code), p.tables.exec = Jvm.exec → s.methodNamed? y = some m → (headSpec ws rm).pre.before args s = true → meth.sig.returnType = ret → meth.locks = false → c.code = cc → c.maxLocals = maxL → Pc args s →
      W p l e (headSpec ws rm).room s m args below meth c s.heap [] 0 0 (MQ below Qc args s mc ms free) (entryFrame m args maxL)) : MetU l y ws rm Pc Qc mc ms free := by
  intro p e ha hc hk s m args below ⟨hf, hrun, hable, halone, hname, hhears, hroom, hpre⟩ hP
  obtain ⟨meth, c, hmeth, hcode, hbytes, hlocals, hret, hlocks, -⟩ := Cond.code_spec hname (atoms_spec (ws := ws) hpre _ (by rw [hw]; exact List.mem_cons_self))
  have hcur := State.cur_lt_of_frames hf
  have hf1 : (s.setFrames (.java (entryFrame m args maxL) :: below)).frames = .java (entryFrame m args maxL) :: below := State.frames_setFrames _ hcur
  have ht1 := State.topJava?_of_frames hf1
  have hplain : (s.setFrames (.java (entryFrame m args maxL) :: below)).plainMethod m := State.plainMethod.of_named (s := s) (plainFor_of_name hy) hname hmeth
  have hAt : At (s.setFrames (.java (entryFrame m args maxL) :: below)) m c below :=
    ⟨by rw [ht1]; rfl, ⟨[], by rw [hf1]; rfl⟩, hrun, by simpa using hable, by simpa using halone, by rw [State.code?_eq]; simp [State.setFrames, hmeth, hcode], hplain⟩
  have hstep : (stepThread p.tables e s).1 = (s.setFrames (.java (entryFrame m args maxL) :: below)).setTop (entryFrame m args maxL) := by
    have hfull : e.platform.stackFull (s.setFrames below).me (s.setFrames below).frames c.maxLocals = false := by
      obtain ⟨-, h1, -, h2⟩ := State.hasRoom_stack hroom
      rw [hf, List.length_cons] at h1
      rw [State.localsInUse_invoking hf hmeth hcode] at h2
      have hw := stackUse_le_stackWeight below
      rw [State.frames_setFrames _ hcur]
      exact Platform.stackFull_eq_false (by rw [State.stackLimits_setFrames]; omega) (by rw [State.stackLimits_setFrames]; omega)
    rw [stepThread_invoking hf, (doInvoke_java (s := s.setFrames below) (e := e) (meth := meth) (code := c) hmeth hcode hlocks hfull).1, State.setTop_self ht1]
    simp only [State.pushFrame, State.frames_setFrames _ hcur, State.setFrames_setFrames, hlocals, entryFrame]
  obtain ⟨t0, ht0, -⟩ := State.frames_cons hf
  have X : Stand p l e (headSpec ws rm).room s m args below meth c (s.setFrames (.java (entryFrame m args maxL) :: below)) [] 0 0 :=
    ⟨ha, hc, hk, hf, hroom, hhears, hmeth, hcode, hAt, by rw [hf1]; rfl, State.WarmedH.refl s, by rw [State.stackLimits_setFrames], by rw [State.stackBytes_setFrames], (State.sameButNew.refl s ht0).setFrames (.java (entryFrame m args maxL) :: below) hcur⟩
  obtain ⟨t, a1, o, b1, b2, b3⟩ := body p e s m args below meth c (by cases p <;> rfl) hname hpre hret hlocks hbytes hlocals hP (s.setFrames (.java (entryFrame m args maxL) :: below)) rfl X
  obtain ⟨n, hn, hw⟩ := Steps.head (tb := p.tables) (e := e) ⟨hrun, hable, halone⟩ ⟨[.invoking m args], hf, by simp, by simp⟩ (hstep ▸ a1)
  exact ⟨n, o, hw, hn ▸ b1, hn ▸ b2, hn ▸ b3.1, hn ▸ b3.2⟩
theorem callU {y : MethodName} {ws : List Cond} {rm : Room} {Pc : Array Value → State → Prop} {Qc : Array Value → State → Outcome → State → Prop} {mc ms : Nat} {free : Addr → Prop} {e : Env} (hM : MetU l y ws rm Pc Qc mc ms free) (p : Program) (ha : l.admits e) (hc : FairCas e.choices) (hk : FairClock e.choices)
    {s : State} {m : MethodId} {args : Array Value} {acts : List Action} {mid below : List Frame} (hfr : s.frames = mid ++ below) (happ : apU ws rm y e.platform (s.pushFrame (.invoking m args)) m args s.frames) (hP : Pc args (s.pushFrame (.invoking m args))) :
    ∃ o s₂, Steps p.tables e below (doInvoke e s acts m args).1 s₂ ∧ Ended s₂ s.frames o ∧ Qc args (s.pushFrame (.invoking m args)) o s₂ ∧ ∃ L, FrameEnd (s.pushFrame (.invoking m args)) o s₂ L mc ms ∧ ∀ q ∈ L, free q.base := by
  have hf' := happ.1
  obtain ⟨t, ht⟩ : ∃ t, s.threads[s.cur]? = some t := by
    cases h : s.threads[s.cur]? with
    | some t => exact ⟨t, rfl⟩
    | none =>
      have h0 : (s.pushFrame (.invoking m args)).frames = [] := by
        simp [State.frames, State.pushFrame, State.setFrames, Array.getElem?_modify, h]
      rw [h0] at hf'; cases hf'
  have hgo : (s.pushFrame (.invoking m args)).goesOn := ⟨happ.2.1, happ.2.2.1, happ.2.2.2.1⟩
  obtain ⟨n, o, hw, hr, he, hp⟩ := hM p e ha hc hk (s.pushFrame (.invoking m args)) m args s.frames happ hP
  have hstep : (stepThread p.tables e (s.pushFrame (.invoking m args))).1 = (doInvoke e s acts m args).1 := by
    rw [stepThread_invoking hf', doInvoke_state e s acts, State.pushFrame, State.setFrames_setFrames, State.setFrames_self ht]
  cases n with
  | zero => exact absurd ⟨[.invoking m args], hf', by simp, by simp⟩ he.not_within
  | succ k =>
    rw [stepsAlone_succ _ hgo, hstep] at hr he hp
    refine ⟨o, _, ⟨k, rfl, fun j hj => ?_⟩, he, hp⟩
    have := hw (j + 1) (by omega)
    rw [stepsAlone_succ _ hgo, hstep, hfr] at this
    exact this.weaken
theorem back_ofU {R : Room} {p : Program} {e : Env} {below : List Frame} {s : State} {sargs : Array Value} {y : MethodName} {len W : Nat} {ws : List Cond} {rm : Room} {Pc : Array Value → State → Prop} {Qc : Array Value → State → Outcome → State → Prop} {mc ms : Nat} {free : Addr → Prop} {bytes : ByteArray} {maxL : Nat} {ret : Option FieldType}
    (hM : MetU l y ws rm Pc Qc mc ms free) (hblind : FrameBlind Pc) (hrc : rm.cells = mc) (hrs : rm.slots = ms)
    (hframes : rm.frames + 1 ≤ R.frames) (hlocals : W + (maxL + 11) + rm.locals ≤ R.locals)
    (hws : ∀ w ∈ ws, ∀ (a' : Array Value) (U : State), s.WarmedH U.vm → w.before a' U = true) (hcode : Cond.code y bytes maxL ret ∈ ws) :
    Back l R p e below s sargs y len W (PreOf R mc ms Pc) (PostOf Qc mc ms free) := by
  intro m meth c A g ig mk a X hg hsize hdg hW hn hp
  obtain ⟨U, Ls, c0, s0⟩ := A
  dsimp only [Pt.U, Pt.locs, Pt.cells, Pt.slots] at X hn ⊢
  obtain ⟨h4, h5, hpc⟩ := hp
  dsimp only [Pt.U, Pt.locs, Pt.cells, Pt.slots] at h4 h5 hpc
  have h1 : (headSpec ws rm).pre.before a U = true := atoms_intro fun w hw => hws w hw _ _ X.warmed
  have h2 := hws _ hcode a U X.warmed
  obtain ⟨methY, cY, hmY, hcY, -, hlY, -, -, -, -⟩ := Cond.code_spec hn h2
  have h : At U g.method c below := by rw [hg]; exact X.here
  have hroom := X.room_calling (g := g) (m' := mk) (args' := a) (R' := (headSpec ws rm).room) hsize hmY hcY hframes (by rw [hlY]; have hz : (headSpec ws rm).room.locals = rm.locals := rfl; omega) (by rw [show (headSpec ws rm).room.cells = mc from hrc]; exact h4) (by rw [show (headSpec ws rm).room.slots = ms from hrs]; exact h5)
  have hcd : (U.calling g mk a).code? g.method = some c := by
    have := h.code
    rw [State.code?_eq] at this ⊢
    simpa [State.calling, State.pushFrame, State.setFrames] using this
  obtain ⟨mid, hmid⟩ := h.above
  have hfr : (U.setTop g).frames = (.java g :: mid) ++ below := by rw [State.frames_setTop' g h.top, hmid]; rfl
  have happ : apU ws rm y e.platform (U.calling g mk a) mk a (U.setTop g).frames := by
    have hff := State.frames_calling h.top g mk a
    refine ⟨by rw [hff, State.frames_setTop' g h.top], h.running, by simpa [State.calling] using h.runnable, by simpa [State.calling] using h.alone, hn, ?_, hroom, ?_⟩
    · rw [State.frames_setTop' g h.top]; simp [State.hears, hcd, hdg, Except.toOption]
    · rw [State.calling_eq h.top, Cond.before_setFrames]; exact h1
  obtain ⟨o, s₂, hsteps, hend, hq, L, hfe, hL⟩ := callU hM p X.admits X.cas X.clock (acts := []) hfr happ (hblind _ _ _ _ hpc)
  have hq' : Qc a (U.calling g mk a) o s₂ := hq
  rw [State.frames_setTop' g h.top] at hend
  have hfe' : FrameEnd (U.calling g mk a) o s₂ L mc ms := hfe
  obtain ⟨⟨v, rfl⟩, hW₂, e2, q2, q3, q4, q5, q6⟩ := id hfe'
  have e3 : s₂ = ({ (U.calling g mk a).setFrames s₂.frames with heap := s₂.heap, slotsUsed := s₂.slotsUsed } : State).setVm s₂.vm := by
    have : s₂ = ({ s₂ with vm := (U.calling g mk a).vm } : State).setVm s₂.vm := rfl
    rw [e2] at this
    exact this
  obtain ⟨c₂, i₂, len₂, hc₂, hd₂, hf₂⟩ := hend
  have hW' : U.WarmedH s₂.vm := hW₂
  have hcc : c₂ = c := by
    have h1 : s₂.code? g.method = U.code? g.method := by
      rw [State.code?_eq, State.code?_eq, hW'.alike.method?]
    exact Option.some.inj (hc₂.symm.trans (h1.trans h.code))
  subst hcc
  have hlen : len₂ = len := by rw [hdg] at hd₂; cases hd₂; rfl
  subst hlen
  obtain ⟨g₀, hg0⟩ := Option.isSome_iff_exists.mp h.top
  obtain ⟨r, hr⟩ := State.topJava?_eq_some.mp hg0
  have hs₂ : s₂ = (({ U with heap := s₂.heap, slotsUsed := s₂.slotsUsed } : State).setVm s₂.vm).setTop { g with pc := g.pc + len₂, stack := v.toList ++ g.stack } := by
    have hr' : (({ U with heap := s₂.heap, slotsUsed := s₂.slotsUsed } : State).setVm s₂.vm).frames = .java g₀ :: r := hr
    refine e3.trans ?_
    rw [hf₂, State.calling_eq h.top, State.setFrames_setFrames, State.setTop_of_frames _ hr', hr]
    rfl
  have hsame : U.sameButNew ({ U with heap := s₂.heap, slotsUsed := s₂.slotsUsed } : State) L mc ms := by
    refine ⟨?_, q2, q3, q4, q5, q6⟩
    obtain ⟨t, ht, -⟩ := State.frames_cons hr
    show ({ U with heap := s₂.heap, slotsUsed := s₂.slotsUsed } : State) = { U.setFrames U.frames with heap := s₂.heap, slotsUsed := s₂.slotsUsed }
    rw [State.setFrames_self ht]
  subst hg
  refine ⟨v, ⟨(({ U with heap := s₂.heap, slotsUsed := s₂.slotsUsed } : State).setVm s₂.vm), Ls ++ L, c0 + mc, s0 + ms⟩,
    ⟨X.admits, X.cas, X.clock, X.frames, X.room, X.hears, X.method, X.code, (X.here.setHeapUsed s₂.heap s₂.slotsUsed).setVm hW'.alike, X.tail, State.WarmedH.trans X.warmed hW', X.limits, X.bytes, X.same.trans (hsame.setVm s.vm)⟩,
    ⟨g, mk, s₂, L, rfl, rfl, hq', rfl, hL, rfl, rfl⟩, ?_⟩
  show Steps p.tables e below _ ((({ U with heap := s₂.heap, slotsUsed := s₂.slotsUsed } : State).setVm s₂.vm).setTop { g with pc := g.pc + len₂, stack := v.toList ++ g.stack })
  rw [← hs₂]
  exact hsteps
end UR
section KU
variable {ρ : Type} {P : GP} {X : Ctx} {l : Launch} {cc : ByteArray} {nL fr lo : Nat} {own : String} {ret : Option FieldType} {S0 S : St} {fin : ρ → Option Value × St} {E : Option ρ} {pc : Nat} {lv : List (Nat × Value)} {st : List Value}
def FMU (l : Launch) (P : GP) (y : MethodName) (ws : List Cond) (fr lo : Nat) (args : List Value) (S : St) (f : Option Value × St) : Prop :=
  LE (OG P) S f.2 ∧ MetU l y ws (rmOf (OG P) fr lo S f.2) (va_Pc args (fun U => (OG P).1 S U.heap ∧ (OG P).2.2.2.1 U)) (Qo (OG P) S f) (((OG P).2.1 f.2).1 - ((OG P).2.1 S).1) (((OG P).2.1 f.2).2 - ((OG P).2.1 S).2) ((OG P).2.2.1 S)
theorem FMU.of {y : MethodName} {args : List Value} {r : ρ} (hO : WdOk (OG P)) (hy : plainName y.cls = true) (hc : y.cls = own) (hn : (lg_sl args).length ≤ nL) (hlv : lv_args 0 args = lv) (hE : E = some r) (hLE : LE (OG P) S (fin r).2)
    (body : ∀ X : Ctx, CX (OG P) X l cc nL own ret → X.2.2.2.2.2.2.2.2.2 = none → VF (OG P) X nL fr lo S fin E S 0 lv []) : FMU l P y (ws_ y cc nL ret) fr lo args S (fin r) := by
  refine ⟨hLE, MetU.of (cc := cc) (maxL := nL) (ret := ret) hy rfl ?_⟩
  intro p e s m args' below meth c bx bn bp br bl bb hml hv
  obtain ⟨rfl, hI, hT⟩ := hv
  have hts := atoms_spec (ws := ws_ y cc nL ret) bp
  have hl := lv_entry args (n := nL) hn
  rw [hlv] at hl
  rw [lg_entry_eq]
  have hown : s.vm.findClass own = some m.cls := by rw [← hc]; exact findClass_of_methodNamed bn
  have hX := body (p, l, e, s, m, args.toArray, below, meth, c, none) ⟨bx, bb, hml, hown, fun w h => hts w (List.mem_cons_of_mem _ h), br, bl, hT, rfl, hO⟩ rfl r hE LE.rf
  have h0 := hX.2 s.heap [] _ hI va_S.rf hl
  rw [Nat.sub_self, Nat.sub_self] at h0
  exact h0
/-- what a call through Kind asks of the tables -/
def LkK (own : String) (idx : Nat) (Cn : String) (x y : MethodName) (b : ByteArray) (L : Nat) (r : Option FieldType) (n : Nat) : Prop := (Cond.methodLink own idx x ∈ lw_all ∧ Cond.sameMethod x.cls x.cls x.name x.desc ∈ lw_all ∧ Cond.selects Cn x y ∈ lw_all ∧ Cond.instanceMethod y ∈ lw_all ∧ Cond.code y b L r ∈ lw_all) ∧ Cond.declares ⟨x.cls, x.name, x.desc⟩ ∈ lw_tbl ∧ x.cls ≠ "java/lang/invoke/MethodHandle" ∧ x.cls ≠ "java/lang/invoke/VarHandle" ∧ (parseMethodDescriptor x.desc).map (fun d => d.parameters.length) = some n
/-- a call through Kind: the receiver is the j-th constant -/
theorem g_callK {idx j : Nat} {Cn : String} {x y : MethodName} {b : ByteArray} {L n fr' lo' : Nat} {r' : Option FieldType} {As : List Value} {F : Option (Option Nat × St)} {G : (Option Nat × St) → Option ρ} (hO : okG P) (C : CX (OG P) X l cc nL own ret) (lk : LkK own idx Cn x y b L r' n) (hd : decode cc pc = .ok (.invokevirtual idx, 3)) (hn : As.length = n) (hfr : fr' + 1 ≤ fr) (hlo : 8 + (L + 11) + lo' ≤ lo) (hst : (st.map fun v => v.category).sum ≤ 8) (hj : kcG[j]? = some Cn) (hM : ∀ a, F = some a → FMU l P y (ws_ y b L r') fr' lo' (.ref (P.2.2.2.2.2 j) :: As) S (f_mq a)) (k : ∀ r, F = some r → VF (OG P) X nL fr lo S0 fin (G r) r.2 (pc + 3) lv (va_rf r.1 :: st)) : VF (OG P) X nL fr lo S0 fin (F >>= G) S pc lv (As.reverse ++ .ref (P.2.2.2.2.2 j) :: st) := by
  intro r hr hL
  cases hF : F with
  | none => rw [hF] at hr; cases hr
  | some a =>
    rw [hF] at hr
    obtain ⟨hLE, hM⟩ := hM a hF
    refine v_after (fin' := f_mq) (av := (Value.ref (P.2.2.2.2.2 j) :: As).toArray) hL hLE (k a hF) hr fun H locs ls hI hl hf => ?_
    rw [show l = X.2.1 from C.2.2.2.2.2.2.2.2.1.symm] at hM
    have hp := FM.pre (l' := l) (As := (.ref (P.2.2.2.2.2 j) :: As)) C hI
    have hts := C.2.2.2.2.1
    obtain ⟨cellB, hcB, hoB, hclB⟩ := hO.2.2.2.2.1 j Cn hj X.2.2.2.1 H C.2.2.2.2.2.2.2.1.2.2.2.2.2.1 hI.2.2.2.1
    obtain ⟨⟨w1, w2, w3, w4, w5⟩, w6, w7, w8, w9⟩ := lk
    have hG : GoodIn lw_all (ws_ y b L r') := lw_meth w5
    have hK : Back X.2.1 (headSpec [] (rmOf (OG P) fr lo S0 (fin r).2)).room X.1 X.2.2.1 X.2.2.2.2.2.2.1 X.2.2.2.1 X.2.2.2.2.2.1 y 3 8 _ _ := back_ofU (bytes := b) (maxL := L) (ret := r') (R := (headSpec [] (rmOf (OG P) fr lo S0 (fin r).2)).room) hM hp.1 rfl rfl hfr hlo (pay_in hts hG) List.mem_cons_self
    intro T hT Y
    obtain ⟨v, vm₁, ⟨U', l2, c2, s2⟩, hW₁, X', ⟨g', mk, t, L2, e1, e2, hq, h1, hL2, h2, h3⟩, stp⟩ := va_callVU Y C.1 (C := Cn) (owner := x.cls) (bytes := b) (maxL := L) (ret := r') C.2.2.2.1 (hts _ w1) (hts _ w2) (va_Decl.abs (C.2.2.2.2.2.2.2.1.2.1 _ w6 rfl)) ⟨w7, w8⟩ (hts _ w3) (hts _ w4) (hts _ w5) hK (by rw [hT]; exact hcB) hoB hclB rfl (hl.1.trans C.2.2.1.symm) (argsL := As) (rest := st) (fun sig h => by rw [h] at w9; exact hn.trans (Option.some.inj w9).symm) rfl (lv_room hst) (by rw [C.2.1]; exact hd)
      (fun vm₁ hW₁ => ⟨hf.1, hf.2, hp.2 (T.setVm vm₁) hT hW₁⟩)
    dsimp only [Pt.U, Pt.locs, Pt.cells, Pt.slots] at X' e1 e2 h1 h2 h3 stp
    subst h1; subst h2; subst h3
    exact ⟨v, (T.setVm vm₁).calling g' mk (Value.ref (P.2.2.2.2.2 j) :: As).toArray, t, U', L2, hT, X', hL2, e1, e2, hq, stp⟩
end KU
section KDS
variable {ρ : Type} {P : GP} {X : Ctx} {l : Launch} {cc : ByteArray} {nL fr lo : Nat} {own : String} {ret : Option FieldType} {S0 S : St} {fin : ρ → Option Value × St} {pc : Nat} {lv : List (Nat × Value)} {st : List Value}
/-- one of Kind's constants answers F -/
def KD (l : Launch) (P : GP) (own : String) (idx n fr lo j : Nat) (S : St) (As : List Value) (F : Option (Option Nat × St)) : Prop := ∃ (Cn : String) (x y : MethodName) (b : ByteArray) (L fr' lo' : Nat) (r' : Option FieldType), LkK own idx Cn x y b L r' n ∧ fr' + 1 ≤ fr ∧ 8 + (L + 11) + lo' ≤ lo ∧ kcG[j]? = some Cn ∧ ∀ a, F = some a → FMU l P y (ws_ y b L r') fr' lo' (.ref (P.2.2.2.2.2 j) :: As) S (f_mq a)
theorem g_callKD1 {idx n j : Nat} {As : List Value} {F : Option (Option Nat × St)} {G : (Option Nat × St) → Option ρ} (hO : okG P) (C : CX (OG P) X l cc nL own ret) (hd : decode cc pc = .ok (.invokevirtual idx, 3)) (hn : As.length = n) (hst : (st.map fun v => v.category).sum ≤ 8) (hK : KD l P own idx n fr lo j S As F) (k : ∀ r, VF (OG P) X nL fr lo S0 fin (G r) r.2 (pc + 3) lv (va_rf r.1 :: st)) : VF (OG P) X nL fr lo S0 fin (F >>= G) S pc lv (As.reverse ++ .ref (P.2.2.2.2.2 j) :: st) := by
  obtain ⟨Cn, x, y, b, L, fr', lo', r', h1, h2, h3, h4, h5⟩ := hK
  exact g_callK hO C h1 hd hn h2 h3 hst h4 h5 (fun r _ => k r)
theorem g_callKD {idx n o : Nat} {As : List Value} {F0 F1 F2 F3 : Option (Option Nat × St)} {G : (Option Nat × St) → Option ρ} (hO : okG P) (C : CX (OG P) X l cc nL own ret) (hd : decode cc pc = .ok (.invokevirtual idx, 3)) (hn : As.length = n) (hst : (st.map fun v => v.category).sum ≤ 8) (h0 : KD l P own idx n fr lo 0 S As F0) (h1 : KD l P own idx n fr lo 1 S As F1) (h2 : KD l P own idx n fr lo 2 S As F2) (h3 : KD l P own idx n fr lo 3 S As F3) (k : ∀ r, VF (OG P) X nL fr lo S0 fin (G r) r.2 (pc + 3) lv (va_rf r.1 :: st)) : VF (OG P) X nL fr lo S0 fin ((if o = P.2.2.2.2.2 0 then F0 else if o = P.2.2.2.2.2 1 then F1 else if o = P.2.2.2.2.2 2 then F2 else if o = P.2.2.2.2.2 3 then F3 else none) >>= G) S pc lv (As.reverse ++ .ref o :: st) := by
  by_cases e0 : o = P.2.2.2.2.2 0
  · rw [if_pos e0, e0]; exact g_callKD1 hO C hd hn hst h0 k
  · rw [if_neg e0]
    by_cases e1 : o = P.2.2.2.2.2 1
    · rw [if_pos e1, e1]; exact g_callKD1 hO C hd hn hst h1 k
    · rw [if_neg e1]
      by_cases e2 : o = P.2.2.2.2.2 2
      · rw [if_pos e2, e2]; exact g_callKD1 hO C hd hn hst h2 k
      · rw [if_neg e2]
        by_cases e3 : o = P.2.2.2.2.2 3
        · rw [if_pos e3, e3]; exact g_callKD1 hO C hd hn hst h3 k
        · rw [if_neg e3]; exact VF.none
theorem kd_le {c0 c1 c2 c3 : Prop} [Decidable c0] [Decidable c1] [Decidable c2] [Decidable c3] {F0 F1 F2 F3 : Option (Option Nat × St)} {a : Option Nat × St} (h0 : ∀ a, F0 = some a → leG S a.2) (h1 : ∀ a, F1 = some a → leG S a.2) (h2 : ∀ a, F2 = some a → leG S a.2) (h3 : ∀ a, F3 = some a → leG S a.2) (h : (if c0 then F0 else if c1 then F1 else if c2 then F2 else if c3 then F3 else none) = some a) : leG S a.2 := by
  split at h
  · exact h0 _ h
  · split at h
    · exact h1 _ h
    · split at h
      · exact h2 _ h
      · split at h
        · exact h3 _ h
        · cases h
end KDS
