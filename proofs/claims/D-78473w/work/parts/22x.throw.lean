/-! BODIES THAT THROW -/
def exn (c : Nat) : String := match c with
  | 1 => "java/lang/IndexOutOfBoundsException"
  | 2 => "java/lang/IllegalArgumentException"
  | _ => "java/lang/IllegalStateException"
/-- the state behind 'throw new X()': one cell more, of six slots, that nobody reads -/
def thr (S : St) : St := (S.1, S.2.1, S.2.2.1 + 1, S.2.2.2 + 6)
theorem thr_le {S : St} : leG S (thr S) := ⟨Nat.le_refl _, Nat.le_succ _, Nat.le_add_right _ _, fun _ h => Or.inl h⟩
/-- a contract: the method throws E and leaves the state S1 (but for the heap's size) -/
def TM (l : Launch) (P : GP) (y : MethodName) (ws : List Cond) (fr lo : Nat) (args : List Value) (S : St) (E : String) (S1 : St) : Prop :=
  leG S S1 ∧ vx_Met l y ws (rmOf (OG P) fr lo S S1) (va_Pc args (fun U => (OG P).1 S U.heap ∧ (OG P).2.2.2.1 U)) (fun _ _ _ _ => False) (Xo (OG P) S E S1) (((OG P).2.1 S1).1 - ((OG P).2.1 S).1) (((OG P).2.1 S1).2 - ((OG P).2.1 S).2) ((OG P).2.2.1 S)
theorem hat_of {P : GP} {X : Ctx} {l : Launch} {cc : ByteArray} {nL : Nat} {own : String} {ret : Option FieldType} (C : CX (OG P) X l cc nL own ret) (L : List Cond) (ps : List Nat) (h : L = ps.filterMap (fun i => lw_tbl[i]?)) (hg : L.all (fun w => goodWord w || okw w) = true) : ∀ w ∈ L, w.before X.2.2.2.2.2.1 X.2.2.2.1 = true := by
  intro w hw
  have h1 := List.all_eq_true.mp hg w hw
  have hm : w ∈ lw_tbl := by
    rw [h] at hw
    obtain ⟨i, -, hi⟩ := List.mem_filterMap.mp hw
    exact List.mem_of_getElem? hi
  cases ho : okw w with
  | true => exact va_Nw.use (okw_tab ho) (C.2.2.2.2.2.2.2.1.2.1 w hm ho)
  | false => exact C.2.2.2.2.1 w (lw_g hm (by simpa [ho] using h1))
section TH
variable {P : GP} {X : Ctx} {l : Launch} {cc : ByteArray} {nL fr lo : Nat} {own : String} {ret : Option FieldType} {S0 S : St} {E : Option St} {pc : Nat} {lv : List (Nat × Value)} {st : List Value}
theorem TM.of {y : MethodName} {args : List Value} {S1 : St} {Ex : String} (hO : okG P) (hy : plainName y.cls = true) (hc : y.cls = own) (hn : (lg_sl args).length ≤ nL) (hlv : lv_args 0 args = lv) (hE : E = some S1) (hLE : leG S S1)
    (body : ∀ X : Ctx, CX (OG P) X l cc nL own ret → X.2.2.2.2.2.2.2.2.2 = some (.inl Ex) → (∀ x ∈ X.2.2.2.2.2.2.2.2.1.exceptionTable.toList, False) → iG P S X.2.2.2.1.heap → VF (OG P) X nL fr lo S f_mv E S 0 lv []) : TM l P y (ws_ y cc nL ret) fr lo args S Ex S1 := by
  refine ⟨hLE, vx_ofW (cc := cc) (maxL := nL) (ret := ret) hy rfl ?_⟩
  intro p e s m args' below meth c s₁ B hml hnt hv
  obtain ⟨rfl, hI, hT⟩ := hv
  have hts := atoms_spec (ws := ws_ y cc nL ret) B.pre
  have hl := lv_entry args (n := nL) hn
  rw [hlv] at hl
  rw [lg_entry_eq]
  have hown : s.vm.findClass own = some m.cls := by rw [← hc]; exact findClass_of_methodNamed B.named
  have hX := body (p, l, e, s, m, args.toArray, below, meth, c, some (.inl Ex)) ⟨B.exec, B.bytes, hml, hown, fun w h => hts w (List.mem_cons_of_mem _ h), B.returns, B.notSynchronized, hT, rfl, OG_ok P hO⟩ rfl hnt hI S1 hE LE.rf
  have h0 := hX.2 s.heap [] _ hI va_S.rf hl
  rw [Nat.sub_self, Nat.sub_self] at h0
  exact h0
theorem g_throw0 {cls : String} {ik ic : Nat} (names : List String) (C : CX (OG P) X l cc nL own ret) (hm : X.2.2.2.2.2.2.2.2.2 = some (.inl cls)) (hnt : ∀ x ∈ X.2.2.2.2.2.2.2.2.1.exceptionTable.toList, False) (hI0 : iG P S0 X.2.2.2.1.heap) (hl : l.stackTraces = false) (d0 : decode cc pc = .ok (.new ik, 3)) (d3 : decode cc (pc + 3) = .ok (.dup, 1)) (d4 : decode cc (pc + 4) = .ok (.invokespecial ic, 3)) (d7 : decode cc (pc + 7) = .ok (.athrow, 1))
    (hcls : Bundle.fit cls = true) (hnames : ∀ n ∈ names, Bundle.fit n = true) (hk : Cond.classLink own ik cls ∈ lw_all) (hini : Cond.initialized cls ∈ lw_all) (hat : ∀ w ∈ vx_at0 own ic cls names, w.before X.2.2.2.2.2.1 X.2.2.2.1 = true) (hgood : ∀ w ∈ Cond.classLink own ik cls :: Cond.initialized cls :: vx_at0 own ic cls names, vx_ot w = true)
    (hfr : names.length + 3 < fr) (hlo : (st.map fun v => v.category).sum + (13 * (names.length + 1) + 42) ≤ lo) : VF (OG P) X nL fr lo S0 f_mv (some (thr S)) S pc lv st := by
  intro r hr hL
  cases hr
  refine ⟨thr_le.LE, fun H locs ls hI hS hlv => ?_⟩
  show W _ _ _ _ _ _ _ _ _ _ _ _ _ _ (Qz (OG P) X S0 _) _
  unfold Qz
  rw [hm]
  have hlo0 : P.2.2.1 ≤ S0.2.1 := hI0.2.1
  have hA : ∀ q, frG P S0 q → P.2.2.1 ≤ q := fun q h => by
    rcases h with h | h
    · exact h.1
    · exact Nat.le_trans hlo0 h
  have hZ := hI0.2.2.2.2.2.2.2.2.2.1 X.2.2.2.1 X.2.2.2.1.heap C.2.2.2.2.2.2.2.1.2.2.2.2.2.1 hI0.2.2.2.1
  have g1 : ((OG P).2.1 S0).1 ≤ S.2.2.1 := hL.1
  have g2 : ((OG P).2.1 S0).2 ≤ S.2.2.2 := hL.2.1
  refine vx_throw0 (A := frG P S0) C.1 C.2.1 (by rw [C.2.2.2.2.2.2.2.2.1]; exact hl) C.2.2.2.1 hcls hnames (C.2.2.2.2.1 _ hk) (C.2.2.2.2.1 _ hini) hat hgood (hZ.1.narrow hA) (hZ.2.narrow hA) hS (hlv.1.trans C.2.2.1.symm) d0 d3 d4 d7 (fun x hx => (hnt x hx).elim) hfr hlo ?_ ?_ C.2.2.2.2.2.2.1 ?_ hS.2.2 ?_ ?_
  · show S.2.2.1 - _ + 1 ≤ S.2.2.1 + 1 - _
    omega
  · show S.2.2.2 - _ + 6 ≤ S.2.2.2 + 6 - _
    omega
  · intro t hal hz ho
    refine ⟨rfl, ⟨t.heap.size, (show S.2.1 ≤ t.heap.size by rw [← hI.1]; exact hz), rfl, Nat.le_trans hI.2.1 (by rw [← hI.1]; exact hz), fun a e ha => ?_, hI.2.2.2.2.1 H t.heap (fun q hq => ho q (by rw [hI.1]; exact Nat.lt_of_lt_of_le hq hI.2.1)) hI.2.2.2.1, hI.2.2.2.2⟩, Nat.le_trans hS.1 hz, fun q q1 q2 => by rw [ho q (Nat.lt_of_lt_of_le q1 hS.1)]; exact hS.2.1 q q1 q2⟩
    obtain ⟨z1, z2⟩ := hI.2.2.1 a e ha
    exact ⟨z1, z2.kept (ho a z2.lt)⟩
  · show S.2.2.1 - _ + 1 ≤ S.2.2.1 + 1 - _
    omega
  · show S.2.2.2 - _ + 6 ≤ S.2.2.2 + 6 - _
    omega
/-- a call that throws, not caught here -/
theorem v_thrown {Ex : String} {S1 : St} {st0 : List Value} {av : Array Value} (C : CX (OG P) X l cc nL own ret) (hm : X.2.2.2.2.2.2.2.2.2 = some (.inl Ex)) (hnt : ∀ x ∈ X.2.2.2.2.2.2.2.2.1.exceptionTable.toList, covers x pc = false) (hL : LE (OG P) S0 S) (hLE : leG S S1)
    (hrun : ∀ (H : Heap) (locs : List Loc) (ls : Array Slot), (OG P).1 S H → lv_has ls nL lv → ((OG P).2.1 S).1 - ((OG P).2.1 S0).1 + (((OG P).2.1 S1).1 - ((OG P).2.1 S).1) ≤ (rmOf (OG P) fr lo S0 S1).cells ∧ ((OG P).2.1 S).2 - ((OG P).2.1 S0).2 + (((OG P).2.1 S1).2 - ((OG P).2.1 S).2) ≤ (rmOf (OG P) fr lo S0 S1).slots → vx_Run X.1 X.2.1 X.2.2.1 (headSpec [] (rmOf (OG P) fr lo S0 S1)).room X.2.2.2.1 X.2.2.2.2.1 X.2.2.2.2.2.1 X.2.2.2.2.2.2.1 X.2.2.2.2.2.2.2.1 X.2.2.2.2.2.2.2.2.1 H locs (((OG P).2.1 S).1 - ((OG P).2.1 S0).1) (((OG P).2.1 S).2 - ((OG P).2.1 S0).2) (((OG P).2.1 S1).1 - ((OG P).2.1 S).1) (((OG P).2.1 S1).2 - ((OG P).2.1 S).2) (F0 X.2.2.2.2.1 pc ls st0) st (fun _ _ _ => False) (Xo (OG P) S Ex S1) (frG P S)) :
    VF (OG P) X nL fr lo S0 f_mv (some S1) S pc lv st0 := by
  intro r hr hL2
  cases hr
  refine ⟨hLE.LE, fun H locs ls hI hS hlv => ?_⟩
  show W _ _ _ _ _ _ _ _ _ _ _ _ _ _ (Qz (OG P) X S0 _) _
  unfold Qz
  rw [hm]
  obtain ⟨e1, e2⟩ := LE.sub hL (hLE.LE (P := P))
  intro T hT Y
  rcases hrun H locs ls hI hlv (by rw [e1, e2]; exact ⟨Nat.le_refl _, Nat.le_refl _⟩) T hT Y with ⟨v, st₀, t, T', L, h0, Y', hL', t1, t2, hf, go⟩ | ⟨q, st₀, t, T', L, E', ce, h0, Y', hL', t1, t2, ⟨hE, hX, hz, hk⟩, hce, hcv, hcl, go⟩
  · exact hf.elim
  · subst hE
    rw [h0] at hz hk
    rw [e1, e2] at Y'
    have hS' : va_S ((OG P).2.2.1 S0) X.2.2.2.1.heap T'.heap (locs ++ L) := ⟨Nat.le_trans hS.1 (by rw [t1]; exact hz), fun q q1 q2 => by rw [t1, hk q (Nat.lt_of_lt_of_le q1 hS.1) (fun z => q2 (hL.2.2 q z))]; exact hS.2.1 q q1 q2, fun q hq => by
      rcases List.mem_append.mp hq with h | h
      · exact hS.2.2 q h
      · exact hL.2.2 _ (hL' q h)⟩
    obtain ⟨t3, a1, b1⟩ := vx_out (Qc := fun _ _ _ _ => False) (XC := Xo (OG P) S0 E' S1) (free := (OG P).2.2.1 S0) (pc := pc) (ls := ls) (rest := st) (H := T'.heap) (locs := locs ++ L) (mc := ((OG P).2.1 S1).1 - ((OG P).2.1 S0).1) (ms := ((OG P).2.1 S1).2 - ((OG P).2.1 S0).2) hnt C.2.2.2.2.2.2.1 (by rw [t1]; exact hce) hcv hcl (fun t' ht' _ => ⟨rfl, by rw [ht', t1]; exact hX, hS'.F ht'⟩) hS'.2.2 (Nat.le_refl _) (Nat.le_refl _) T' rfl Y'
    exact ⟨t3, go.trans a1, b1⟩
theorem g_callTS {idx : Nat} {y : MethodName} {b : ByteArray} {L n fr' lo' : Nat} {r' : Option FieldType} {As : List Value} {Ex : String} {S1 : St} (C : CX (OG P) X l cc nL own ret) (hm : X.2.2.2.2.2.2.2.2.2 = some (.inl Ex)) (hnt : ∀ x ∈ X.2.2.2.2.2.2.2.2.1.exceptionTable.toList, covers x pc = false) (lk : LkS own idx y b L r' n) (hd : decode cc pc = .ok (.invokestatic idx, 3)) (hn : As.length = n) (hfr : fr' + 1 ≤ fr) (hlo : 8 + (L + 11) + lo' ≤ lo) (hst : (st.map fun v => v.category).sum ≤ 8) (hM : TM l P y (ws_ y b L r') fr' lo' As S Ex S1) : VF (OG P) X nL fr lo S0 f_mv (some S1) S pc lv (As.reverse ++ st) := by
  intro r hr hL
  obtain ⟨hLE, hM⟩ := hM
  refine v_thrown (st := st) (av := As.toArray) C hm hnt hL hLE (fun H locs ls hI hl hf => ?_) r hr hL
  rw [show l = X.2.1 from C.2.2.2.2.2.2.2.2.1.symm] at hM
  exact vx_runS (n := n) ⟨C.1, C.2.1, C.2.2.1, C.2.2.2.1, C.2.2.2.2.1⟩ hM (va_cwS n C.2.2.2.2.1 lk.1 rfl rfl rfl lk.2 ⟨hfr, hlo⟩) (FM.pre (l' := l) C hI) rfl hn hl.1 rfl (lv_room hst) hd hf
theorem g_callTV {idx : Nat} {y : MethodName} {b : ByteArray} {L n fr' lo' : Nat} {r' : Option FieldType} {o ci N : Nat} {Cn : String} {T : u_T} {As : List Value} {Ex : String} {S1 : St} (C : CX (OG P) X l cc nL own ret) (hm : X.2.2.2.2.2.2.2.2.2 = some (.inl Ex)) (hnt : ∀ x ∈ X.2.2.2.2.2.2.2.2.1.exceptionTable.toList, covers x pc = false) (lk : LkV own idx y b L r' n) (hd : decode cc pc = .ok (.invokevirtual idx, 3)) (hn : As.length = n) (hfr : fr' + 1 ≤ fr) (hlo : 8 + (L + 11) + lo' ≤ lo) (hst : (st.map fun v => v.category).sum ≤ 8) (hc : clG[ci]? = some (Cn, T, N)) (hcn : Cn = y.cls) (hrc : ∃ fs, gO S ci o = some fs) (hM : TM l P y (ws_ y b L r') fr' lo' (.ref o :: As) S Ex S1) : VF (OG P) X nL fr lo S0 f_mv (some S1) S pc lv (As.reverse ++ .ref o :: st) := by
  intro r hr hL
  obtain ⟨hLE, hM⟩ := hM
  obtain ⟨fs, hfs⟩ := hrc
  refine v_thrown (st := st) (av := (Value.ref o :: As).toArray) C hm hnt hL hLE (fun H locs ls hI hl hf => ?_) r hr hL
  rw [show l = X.2.1 from C.2.2.2.2.2.2.2.2.1.symm] at hM
  have hp := FM.pre (l' := l) (As := (.ref o :: As)) C hI
  exact vx_runV (n := n) (C := y.cls) ⟨C.1, C.2.1, C.2.2.1, C.2.2.2.1, C.2.2.2.2.1⟩ hM (cwV n C.2.2.2.2.1 lk.1 rfl rfl rfl ⟨rfl, lk.2⟩ ⟨hfr, hlo⟩) ⟨hp.1, hcn ▸ g_recv hc C hfs H hI, hp.2⟩ rfl hn hl.1 rfl (lv_room hst) hd hf
/-- the first of two that answers -/
def tor (a b : Option St) : Option St := match a with
  | some s => some s
  | none => b
theorem v_tor {F E2 : Option St} (kT : ∀ S1, F = some S1 → VF (OG P) X nL fr lo S0 f_mv (some S1) S pc lv st) (kN : F = none → VF (OG P) X nL fr lo S0 f_mv E2 S pc lv st) : VF (OG P) X nL fr lo S0 f_mv (tor F E2) S pc lv st := by
  cases h : F with
  | none => exact kN h
  | some s => exact kT s h
theorem mf_tor {F E2 : Option St} (hT : ∀ S1, F = some S1 → leG S S1) (hN : MF mf_s E2 S) : MF mf_s (tor F E2) S := by
  intro r hr
  cases h : F with
  | none => rw [h] at hr; exact hN r hr
  | some s2 => rw [h] at hr; cases hr; exact hT _ h
end TH
def T_X1_check (k c : Nat) (S : St) (x0 : Int32) : Option St := if x0 = 0 then (if c = k then some (thr S) else none) else none
theorem T_X1_check_le {k c : Nat} {S S1 : St} {x0 : Int32} (h : T_X1_check k c S x0 = some S1) : leG S S1 := by
  unfold T_X1_check at h
  split at h
  · split at h
    · cases h; exact thr_le
    · cases h
  · cases h
set_option maxRecDepth 100000
theorem hat0_1 : vx_at0 RX1 68 "java/lang/IndexOutOfBoundsException" ["java/lang/RuntimeException", "java/lang/Exception"] = ([116, 533, 542, 551, 554, 556, 534, 535, 157, 158, 536, 541, 552, 577, 523, 578, 525, 579, 527, 537, 539, 529, 1303, 1304, 1305, 1172, 514, 1172, 1173, 1174, 1175, 516, 1175, 1176, 1177, 534, 518, 1302, 1012, 1013, 1014, 547, 1015, 1016, 1017, 1018, 532, 531, 1019] : List Nat).filterMap (fun i => lw_tbl[i]?) := by decide +kernel
theorem hatg_1 : (vx_at0 RX1 68 "java/lang/IndexOutOfBoundsException" ["java/lang/RuntimeException", "java/lang/Exception"]).all (fun w => goodWord w || okw w) = true := by decide +kernel
theorem hath_1 : ∀ w ∈ Cond.classLink RX1 66 "java/lang/IndexOutOfBoundsException" :: Cond.initialized "java/lang/IndexOutOfBoundsException" :: vx_at0 RX1 68 "java/lang/IndexOutOfBoundsException" ["java/lang/RuntimeException", "java/lang/Exception"], vx_ot w = true := List.all_eq_true.mp (by decide +kernel)
theorem tm_X1_checkIndex {P : GP} {l : Launch} (hO : okG P) (hst : l.stackTraces = false) (c : Nat) (S : St) (x0 : Int32) {S1 : St} (h : T_X1_check 1 c S x0 = some S1) : TM l P yX1_checkIndex (ws_ yX1_checkIndex cX1_checkIndex 1 none) 6 100 [.int x0] S (exn c) S1 := by
  refine TM.of (own := RX1) (lv := [(0, .int x0)]) hO pl_X1 rfl (Nat.le_of_ble_eq_true rfl) rfl h (T_X1_check_le h) (fun X C hm hnt hI0 => ?_)
  unfold T_X1_check
  refine v_iload_n C dX1_checkIndex_0 0 rfl ?_
  refine v_if_ne C (tgt := 12) dX1_checkIndex_1 rfl (fun _ => ?_) (fun _ => VF.none)
  refine VF.ite (fun hc => ?_) (fun _ => VF.none)
  subst hc
  exact g_throw0 (cls := "java/lang/IndexOutOfBoundsException") ["java/lang/RuntimeException", "java/lang/Exception"] C hm hnt hI0 hst dX1_checkIndex_4 dX1_checkIndex_7 dX1_checkIndex_8 dX1_checkIndex_11 (by decide) (by decide) q1301 q123 (hat_of C _ _ hat0_1 hatg_1) hath_1 (Nat.le_of_ble_eq_true rfl) (Nat.le_of_ble_eq_true rfl)
theorem hat0_2 : vx_at0 RX1 71 "java/lang/IllegalArgumentException" ["java/lang/RuntimeException", "java/lang/Exception"] = ([116, 533, 542, 551, 554, 556, 534, 535, 157, 158, 536, 541, 552, 577, 523, 578, 525, 579, 527, 537, 539, 529, 1169, 1170, 1171, 1172, 514, 1172, 1173, 1174, 1175, 516, 1175, 1176, 1177, 534, 518, 1168, 512, 513, 520, 521, 522, 524, 526, 528, 532, 531, 530] : List Nat).filterMap (fun i => lw_tbl[i]?) := by decide +kernel
theorem hatg_2 : (vx_at0 RX1 71 "java/lang/IllegalArgumentException" ["java/lang/RuntimeException", "java/lang/Exception"]).all (fun w => goodWord w || okw w) = true := by decide +kernel
theorem hath_2 : ∀ w ∈ Cond.classLink RX1 69 "java/lang/IllegalArgumentException" :: Cond.initialized "java/lang/IllegalArgumentException" :: vx_at0 RX1 71 "java/lang/IllegalArgumentException" ["java/lang/RuntimeException", "java/lang/Exception"], vx_ot w = true := List.all_eq_true.mp (by decide +kernel)
theorem tm_X1_checkThat {P : GP} {l : Launch} (hO : okG P) (hst : l.stackTraces = false) (c : Nat) (S : St) (x0 : Int32) {S1 : St} (h : T_X1_check 2 c S x0 = some S1) : TM l P yX1_checkThat (ws_ yX1_checkThat cX1_checkThat 1 none) 6 100 [.int x0] S (exn c) S1 := by
  refine TM.of (own := RX1) (lv := [(0, .int x0)]) hO pl_X1 rfl (Nat.le_of_ble_eq_true rfl) rfl h (T_X1_check_le h) (fun X C hm hnt hI0 => ?_)
  unfold T_X1_check
  refine v_iload_n C dX1_checkThat_0 0 rfl ?_
  refine v_if_ne C (tgt := 12) dX1_checkThat_1 rfl (fun _ => ?_) (fun _ => VF.none)
  refine VF.ite (fun hc => ?_) (fun _ => VF.none)
  subst hc
  exact g_throw0 (cls := "java/lang/IllegalArgumentException") ["java/lang/RuntimeException", "java/lang/Exception"] C hm hnt hI0 hst dX1_checkThat_4 dX1_checkThat_7 dX1_checkThat_8 dX1_checkThat_11 (by decide) (by decide) q1167 q119 (hat_of C _ _ hat0_2 hatg_2) hath_2 (Nat.le_of_ble_eq_true rfl) (Nat.le_of_ble_eq_true rfl)
theorem hat0_3 : vx_at0 RX1 74 "java/lang/IllegalStateException" ["java/lang/RuntimeException", "java/lang/Exception"] = ([116, 533, 542, 551, 554, 556, 534, 535, 157, 158, 536, 541, 552, 577, 523, 578, 525, 579, 527, 537, 539, 529, 1327, 1328, 1329, 1172, 514, 1172, 1173, 1174, 1175, 516, 1175, 1176, 1177, 534, 518, 1326, 1214, 1215, 1216, 546, 1217, 1218, 1219, 1220, 532, 531, 1221] : List Nat).filterMap (fun i => lw_tbl[i]?) := by decide +kernel
theorem hatg_3 : (vx_at0 RX1 74 "java/lang/IllegalStateException" ["java/lang/RuntimeException", "java/lang/Exception"]).all (fun w => goodWord w || okw w) = true := by decide +kernel
theorem hath_3 : ∀ w ∈ Cond.classLink RX1 72 "java/lang/IllegalStateException" :: Cond.initialized "java/lang/IllegalStateException" :: vx_at0 RX1 74 "java/lang/IllegalStateException" ["java/lang/RuntimeException", "java/lang/Exception"], vx_ot w = true := List.all_eq_true.mp (by decide +kernel)
theorem tm_X1_checkState {P : GP} {l : Launch} (hO : okG P) (hst : l.stackTraces = false) (c : Nat) (S : St) (x0 : Int32) {S1 : St} (h : T_X1_check 3 c S x0 = some S1) : TM l P yX1_checkState (ws_ yX1_checkState cX1_checkState 1 none) 6 100 [.int x0] S (exn c) S1 := by
  refine TM.of (own := RX1) (lv := [(0, .int x0)]) hO pl_X1 rfl (Nat.le_of_ble_eq_true rfl) rfl h (T_X1_check_le h) (fun X C hm hnt hI0 => ?_)
  unfold T_X1_check
  refine v_iload_n C dX1_checkState_0 0 rfl ?_
  refine v_if_ne C (tgt := 12) dX1_checkState_1 rfl (fun _ => ?_) (fun _ => VF.none)
  refine VF.ite (fun hc => ?_) (fun _ => VF.none)
  subst hc
  exact g_throw0 (cls := "java/lang/IllegalStateException") ["java/lang/RuntimeException", "java/lang/Exception"] C hm hnt hI0 hst dX1_checkState_4 dX1_checkState_7 dX1_checkState_8 dX1_checkState_11 (by decide) (by decide) q1325 q120 (hat_of C _ _ hat0_3 hatg_3) hath_3 (Nat.le_of_ble_eq_true rfl) (Nat.le_of_ble_eq_true rfl)
