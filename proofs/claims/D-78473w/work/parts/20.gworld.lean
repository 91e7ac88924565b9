/-! THE CLASS's WORLD: a map from addresses to cells, the heap's size, the counters -/
abbrev Cel : Type := (Nat × vp_A) ⊕ (Nat × List Value)
/-- the cells, the heap's size, cells made so far, slots made so far -/
abbrev St : Type := (Nat → Option Cel) × Nat × Nat × Nat
def toE (dA : Nat → ClassId) (e : Cel) : va_E := match e with
  | .inl x => .inl (dA x.1, x.2)
  | .inr o => .inr o
def clG : List vw_C := [(RX4, TX4, 27), (RX1, TX1, 5), (RX2, TX2, 4), (RX3, TX3, 7), (RX5, TX5, 3), (RX6, TX6, 3), (RX7, TX7, 5), (RX8, TX8, 2), (RX9, TX9, 2), (RX10, TX10, 4), (RX11, TX11, 7), (RJ2, TJ2, 3), (RJ4, TJ4, 4), (RJ17, TJ17, 4), (RJ18, TJ18, 3), (RJ24, TJ24, 5), (RJ27, TJ27, 3)]
/-- the objects' shapes: the classes of the list, and 17, the lambda's class, that no name finds -/
def clH : List vw_C := clG ++ [("", TX8, 2)]
theorem clH_of {ci : Nat} {q : vw_C} (h : clG[ci]? = some q) : clH[ci]? = some q := by
  unfold clH
  rw [List.getElem?_append_left (List.getElem?_eq_some_iff.mp h).1]
  exact h
theorem at_G {D : va_G} {ci a : Nat} {q : vw_C} {fs : List Value} {H : Heap} (hc : clG[ci]? = some q) (h : va_at D clH (a, .inr (ci, fs)) H) : va_at D clG (a, .inr (ci, fs)) H := by
  obtain ⟨r, h1, h2⟩ := h
  have := Option.some.inj (h1.symm.trans (clH_of hc))
  subst this
  exact ⟨r, hc, h2⟩
/-- the arrays' kinds: 0 int, 1 long, 2 byte, 3 Edge, 4 Stretch, 5 Line, 6 Object -/
def tyG (dA : Nat → ClassId) : List (ClassId × FieldType) := [(dA 0, .int), (dA 1, .long), (dA 2, .byte), (dA 3, .object RX5), (dA 4, .object RX6), (dA 5, .object "NetworkCenters$Line"), (dA 6, .object "java/lang/Object")]
def okw : Cond → Bool
  | .fieldLinkNest .. => true
  | .methodLinkNest .. => true
  | .castable .. => true
  | .declares .. => true
  | _ => false
theorem okw_tab {w : Cond} (h : okw w = true) : w.onTables = true := by
  cases w <;> first | rfl | (simp [okw] at h)
theorem okw_warm {w : Cond} (h : okw w = true) {s U : State} (hW : s.WarmedH U.vm) (hZ : va_Nw w s) : va_Nw w U := by
  cases w <;> first | exact va_Nw.warmF hW hZ | exact va_Nw.warmM hW hZ | exact va_Nw.warmC hW hZ | exact va_Nw.warmD hW hZ | (simp [okw] at h)
/-- D, dA, lo, what is constant below lo -/
abbrev GP : Type := va_G × (Nat → ClassId) × Nat × (Heap → Prop) × (State → Prop) × (Nat → Nat)
/-- the statics that are read, and their values; the constants of Kind by their addresses -/
def zG (ek : Nat → Nat) : List (String × String × String × Value) := [("java/lang/String", "COMPACT_STRINGS", "Z", .int 1), ("java/util/BitSet", "$assertionsDisabled", "Z", .int 1), ("NetworkCenters$Kind", "EDGE", "LNetworkCenters$Kind;", .ref (ek 0)), ("NetworkCenters$Kind", "WEIGHTED", "LNetworkCenters$Kind;", .ref (ek 1)), ("NetworkCenters$Kind", "CHANGING", "LNetworkCenters$Kind;", .ref (ek 2)), ("NetworkCenters$Kind", "FORBIDDEN", "LNetworkCenters$Kind;", .ref (ek 3)), ("jdk/internal/util/Preconditions", "SIOOBE_FORMATTER", "Ljava/util/function/BiFunction;", .ref (ek 4)), ("java/lang/Throwable", "UNASSIGNED_STACK", "[Ljava/lang/StackTraceElement;", .ref (ek 5)), ("java/lang/Throwable", "SUPPRESSED_SENTINEL", "Ljava/util/List;", .ref (ek 6))]
def kcG : List String := [RX13, RX14, RX15, RX12]
def heG (P : GP) (G : Nat → Option Cel) (H : Heap) : Prop := ∀ a e, G a = some e → P.2.2.1 ≤ a ∧ va_at P.1 clH (a, toE P.2.1 e) H
def frG (P : GP) (S : St) (q : Nat) : Prop := (P.2.2.1 ≤ q ∧ S.1 q ≠ none) ∨ S.2.1 ≤ q
def aoG : List String := [RX5, RX6, "NetworkCenters$Line", "java/lang/Object"]
def csq (n d : String) : MethodName := ⟨"java/lang/CharSequence", n, d⟩
def itq (n d : String) : MethodName := ⟨"java/util/Iterator", n, d⟩
/-- the interfaces' calls: the receiver's class, the interface's method, its own -/
def fwG : List (String × MethodName × MethodName) := [(RJ4, csq "length" "()I", ⟨RJ4, "length", "()I"⟩), (RJ4, csq "charAt" "(I)C", ⟨RJ4, "charAt", "(I)C"⟩), (RJ24, itq "hasNext" "()Z", ⟨RJ24, "hasNext", "()Z"⟩), (RJ24, itq "next" "()Ljava/lang/Object;", ⟨RJ24, "next", "()Ljava/lang/Object;"⟩), (RJ24, itq "remove" "()V", ⟨RJ24, "remove", "()V"⟩)]
/-- words that follow from the tables' words at the start: private methods of a superclass -/
def exW : List Cond := [.selects RJ4 yJ3_ensureCapacityInternal yJ3_ensureCapacityInternal, .selects RJ4 yJ3_newCapacity yJ3_newCapacity]
theorem exW_good : ∀ w ∈ exW, (w.onTables && w.keeps) = true := by
  intro w hw
  simp only [exW, List.mem_cons, List.not_mem_nil, or_false] at hw
  rcases hw with e | e <;> (rw [e]; rfl)
/-- pairs of classes that are not castable -/
def ncG : List (String × String) := [(RX8, RX9), (RX9, RX8), ("java/lang/IllegalStateException", "java/lang/IndexOutOfBoundsException"), ("java/lang/IllegalStateException", "java/lang/IllegalArgumentException"), ("java/lang/IllegalArgumentException", "java/lang/IndexOutOfBoundsException"), ("java/lang/IllegalArgumentException", "java/lang/IllegalStateException")]
theorem fwG_ne : ∀ t ∈ fwG, t.2.1.cls ≠ "java/lang/invoke/MethodHandle" ∧ t.2.1.cls ≠ "java/lang/invoke/VarHandle" := by decide +kernel
def tbG (P : GP) (U : State) : Prop := va_K P.1 clG (tyG P.2.1) U ∧ (∀ w ∈ lw_tbl, okw w = true → va_Nw w U) ∧ (∀ C ∈ aoG, va_AO C U) ∧ (∀ t ∈ fwG, va_Fw t.1 t.2.1 t.2.2 U) ∧ (∀ t ∈ ncG, va_Nc t.1 t.2 U) ∧ P.2.2.2.2.1 U ∧ ∀ w ∈ exW, va_Nw w U
/-- the shape of the site -/
def shL : Lambda.Shape := { iface := "NetworkCenters$Use", name := "take", sam := { parameters := [FieldType.long, FieldType.long], returnType := none }, captured := [FieldType.object "NetworkCenters$Plan", FieldType.int], kind := 5, implClass := "NetworkCenters$Plan", implName := "lambda$layEdge$0", implDesc := { parameters := [FieldType.int, FieldType.long, FieldType.long], returnType := none }, implItf := false, inst := { parameters := [FieldType.long, FieldType.long], returnType := none } }
/-- what is constant: kept by every write at lo or above; its tables' words go along -/
def okG (P : GP) : Prop := (∀ H H1 : Heap, (∀ q, q < P.2.2.1 → H1[q]? = H[q]?) → P.2.2.2.1 H → P.2.2.2.1 H1) ∧ (∀ s U : State, s.WarmedH U.vm → P.2.2.2.2.1 s → P.2.2.2.2.1 U) ∧ (∀ (U : State) (g : JFrame) (mk : MethodId) (a : Array Value), P.2.2.2.2.1 U → P.2.2.2.2.1 (U.calling g mk a)) ∧ (∀ z ∈ zG P.2.2.2.2.2, ∀ (U : State) (H : Heap), P.2.2.2.2.1 U → P.2.2.2.1 H → va_Z z.1 z.2.1 z.2.2.1 z.2.2.2 (fun q => P.2.2.1 ≤ q) U H) ∧ (∀ (j : Nat) (c : String), kcG[j]? = some c → ∀ (U : State) (H : Heap), P.2.2.2.2.1 U → P.2.2.2.1 H → ∃ cell : Cell, H[P.2.2.2.2.2 j]? = some cell ∧ cell.vm.isStatics = false ∧ U.vm.findClass c = some cell.cls) ∧ (∀ (U : State) (H : Heap), P.2.2.2.2.1 U → P.2.2.2.1 H → vx_Zq Bundle.tN "UNASSIGNED_STACK" Bundle.steD (fun q => P.2.2.1 ≤ q) U H ∧ vx_Zq Bundle.tN "SUPPRESSED_SENTINEL" Bundle.listD (fun q => P.2.2.1 ≤ q) U H) ∧ (∀ U : State, P.2.2.2.2.1 U → vk_R RX11 1 "fault" (P.2.2.2.2.2 7) U) ∧ (∀ U : State, P.2.2.2.2.1 U → U.lambdaAt? yX3_layEdge 113 137 shL = some (P.1.1 17, none) ∧ va_Nw (.interfaceMethod "NetworkCenters$Use" "NetworkCenters$Use" "take" "(JJ)V") U) ∧ ∀ k, P.1.2 17 k = k
def iG (P : GP) (S : St) (H : Heap) : Prop := H.size = S.2.1 ∧ P.2.2.1 ≤ S.2.1 ∧ heG P S.1 H ∧ P.2.2.2.1 H ∧ okG P
def OG (P : GP) : Wd St := (iG P, fun S => S.2.2, frG P, tbG P, fun S H => ∃ n, S.2.1 ≤ n ∧ iG P (S.1, n, S.2.2) H)
theorem OG_ok (P : GP) (h : okG P) : WdOk (OG P) := ⟨fun s U hW t => ⟨va_K.moved hW.alike t.1, fun w hw ho => okw_warm ho hW (t.2.1 w hw ho), fun C hC => va_AO.moved hW.alike (t.2.2.1 C hC), fun q hq => va_Fw.moved (fwG_ne q hq) hW.alike (t.2.2.2.1 q hq), fun q hq => va_Nc.moved hW.alike (t.2.2.2.2.1 q hq), h.2.1 s U hW t.2.2.2.2.2.1, fun w hw => word_at hW (Or.inl (exW_good w hw)) (t.2.2.2.2.2.2 w hw)⟩, fun U g mk a t => ⟨va_K.moved (u := U) (U := U.calling g mk a) (Vm.Alike.refl U.vm) t.1, fun w hw ho => va_Nw.same (u := U) (U := U.calling g mk a) (okw_tab ho) rfl (t.2.1 w hw ho), fun C hC => va_AO.moved (u := U) (U := U.calling g mk a) (Vm.Alike.refl U.vm) (t.2.2.1 C hC), fun q hq => va_Fw.moved (fwG_ne q hq) (u := U) (U := U.calling g mk a) (Vm.Alike.refl U.vm) (t.2.2.2.1 q hq), fun q hq => va_Nc.moved (u := U) (U := U.calling g mk a) (Vm.Alike.refl U.vm) (t.2.2.2.2.1 q hq), h.2.2.1 U g mk a t.2.2.2.2.2.1, fun w hw => va_Nw.same (u := U) (U := U.calling g mk a) (by have := exW_good w hw; simp only [Bool.and_eq_true] at this; exact this.1) rfl (t.2.2.2.2.2.2 w hw)⟩⟩
/-- later states -/
def leG (S S' : St) : Prop := S.2.1 ≤ S'.2.1 ∧ S.2.2.1 ≤ S'.2.2.1 ∧ S.2.2.2 ≤ S'.2.2.2 ∧ ∀ q, S'.1 q ≠ none → S.1 q ≠ none ∨ S.2.1 ≤ q
theorem leG.rf {S : St} : leG S S := ⟨Nat.le_refl _, Nat.le_refl _, Nat.le_refl _, fun _ h => Or.inl h⟩
theorem leG.tr {S S' S'' : St} (h : leG S S') (h2 : leG S' S'') : leG S S'' := ⟨Nat.le_trans h.1 h2.1, Nat.le_trans h.2.1 h2.2.1, Nat.le_trans h.2.2.1 h2.2.2.1, fun q z => by
  rcases h2.2.2.2 q z with z | z
  · exact h.2.2.2 q z
  · exact Or.inr (Nat.le_trans h.1 z)⟩
theorem leG.LE {P : GP} {S S' : St} (h : leG S S') : LE (OG P) S S' := ⟨h.2.1, h.2.2.1, fun q z => by
  rcases z with ⟨z1, z2⟩ | z
  · rcases h.2.2.2 q z2 with w | w
    · exact Or.inl ⟨z1, w⟩
    · exact Or.inr w
  · exact Or.inr (Nat.le_trans h.1 z)⟩
/-- the pure side's steps -/
def gU (G : Nat → Option Cel) (a : Nat) (e : Cel) : Nat → Option Cel := fun q => if q = a then some e else G q
def gO (S : St) (ci a : Nat) : Option (List Value) := match S.1 a with
  | some (.inr (c, fs)) => if c = ci then some fs else none
  | _ => none
def gV (S : St) (ci a k : Nat) : Option Value := (gO S ci a) >>= fun fs => fs[k]?
def vI (v : Value) : Option Int32 := match v with
  | .int x => some x
  | _ => none
def vJ (v : Value) : Option Int64 := match v with
  | .long x => some x
  | _ => none
def vA (v : Value) : Option Nat := match v with
  | .ref x => some x
  | _ => none
def vQ (v : Value) : Option (Option Nat) := match v with
  | .ref x => some (some x)
  | .null => some none
  | _ => none
def gI (S : St) (ci a k : Nat) : Option Int32 := (gV S ci a k) >>= vI
def gJ (S : St) (ci a k : Nat) : Option Int64 := (gV S ci a k) >>= vJ
def gA (S : St) (ci a k : Nat) : Option Nat := (gV S ci a k) >>= vA
def gQ (S : St) (ci a k : Nat) : Option (Option Nat) := (gV S ci a k) >>= vQ
def gP (S : St) (ci a k : Nat) (v : Value) : Option St := (gO S ci a) >>= fun fs => if k < fs.length then some (gU S.1 a (.inr (ci, fs.set k v)), S.2) else none
/-- arrays -/
def aI (S : St) (kd a : Nat) : Option (Nat × (Nat → Int32)) := match S.1 a with
  | some (.inl (k, n, .inl f)) => if k = kd then some (n, f) else none
  | _ => none
def aJ (S : St) (kd a : Nat) : Option (Nat × (Nat → Int64)) := match S.1 a with
  | some (.inl (k, n, .inr (.inl f))) => if k = kd then some (n, f) else none
  | _ => none
def aQ (S : St) (kd a : Nat) : Option (Nat × (Nat → Option Nat)) := match S.1 a with
  | some (.inl (k, n, .inr (.inr (.inr (.inr f))))) => if k = kd then some (n, f) else none
  | _ => none
def rdQ (f : Nat → Option Nat) (n : Nat) (i : Int32) : Option (Option Nat) := if i < 0 ∨ n ≤ i.toNatClampNeg then none else some (f i.toNatClampNeg)
def lI (S : St) (kd a : Nat) (i : Int32) : Option Int32 := (aI S kd a) >>= fun x => rdI x.2 x.1 i
def lJ (S : St) (kd a : Nat) (i : Int32) : Option Int64 := (aJ S kd a) >>= fun x => rdL x.2 x.1 i
def lQ (S : St) (kd a : Nat) (i : Int32) : Option (Option Nat) := (aQ S kd a) >>= fun x => rdQ x.2 x.1 i
def lA (S : St) (kd a : Nat) (i : Int32) : Option Nat := (lQ S kd a i) >>= id
def aN (S : St) (kd a : Nat) : Option Int32 := match S.1 a with
  | some (.inl (k, n, _)) => if k = kd then some (Int32.ofNat n) else none
  | _ => none
def tI (S : St) (kd a : Nat) (i x : Int32) : Option St := (aI S kd a) >>= fun y => if i < 0 ∨ y.1 ≤ i.toNatClampNeg then none else some (gU S.1 a (.inl (kd, y.1, .inl (upd y.2 i.toNatClampNeg x))), S.2)
def tJ (S : St) (kd a : Nat) (i : Int32) (x : Int64) : Option St := (aJ S kd a) >>= fun y => if i < 0 ∨ y.1 ≤ i.toNatClampNeg then none else some (gU S.1 a (.inl (kd, y.1, .inr (.inl (vp_updL y.2 i.toNatClampNeg x)))), S.2)
def tQ (S : St) (kd a : Nat) (i : Int32) (x : Option Nat) : Option St := (aQ S kd a) >>= fun y => if i < 0 ∨ y.1 ≤ i.toNatClampNeg then none else some (gU S.1 a (.inl (kd, y.1, .inr (.inr (.inr (.inr (va_up y.2 i.toNatClampNeg x)))))), S.2)
/-- a store of an object of class ci -/
def tA (S : St) (kd a : Nat) (i : Int32) (ci x : Nat) : Option St := (gO S ci x) >>= fun _ => tQ S kd a i (some x)
def nO (S : St) (ci : Nat) (fs : List Value) (n : Nat) : Nat × St := (S.2.1, gU S.1 S.2.1 (.inr (ci, fs)), S.2.1 + 1, S.2.2.1 + 1, S.2.2.2 + n)
def nC (S : St) (e : Cel) (n : Nat) : Nat × St := (S.2.1, gU S.1 S.2.1 e, S.2.1 + 1, S.2.2.1 + 1, S.2.2.2 + n)
def nI_ (S : St) (kd : Nat) (n : Int32) : Option (Nat × St) := if n < 0 ∨ 16777216 < n.toNatClampNeg then none else some (nC S (.inl (kd, n.toNatClampNeg, .inl (fun _ => 0))) n.toNatClampNeg)
def nJ_ (S : St) (kd : Nat) (n : Int32) : Option (Nat × St) := if n < 0 ∨ 16777216 < n.toNatClampNeg then none else some (nC S (.inl (kd, n.toNatClampNeg, .inr (.inl (fun _ => 0)))) n.toNatClampNeg)
def nQ_ (S : St) (kd : Nat) (n : Int32) : Option (Nat × St) := if n < 0 ∨ 16777216 < n.toNatClampNeg then none else some (nC S (.inl (kd, n.toNatClampNeg, .inr (.inr (.inr (.inr (fun _ => none)))))) n.toNatClampNeg)
def okC (sp dp n : Int32) (n0 n1 : Nat) : Prop := ¬ (sp < 0 ∨ dp < 0 ∨ n < 0 ∨ n0 < sp.toNatClampNeg + n.toNatClampNeg ∨ n1 < dp.toNatClampNeg + n.toNatClampNeg)
def cI_ (S : St) (kd a b : Nat) (sp dp n : Int32) : Option St := (aI S kd a) >>= fun x => (aI S kd b) >>= fun y => if sp < 0 ∨ dp < 0 ∨ n < 0 ∨ x.1 < sp.toNatClampNeg + n.toNatClampNeg ∨ y.1 < dp.toNatClampNeg + n.toNatClampNeg then none else some (gU S.1 b (.inl (kd, y.1, .inl (va_cpy x.2 y.2 sp.toNatClampNeg dp.toNatClampNeg n.toNatClampNeg))), S.2)
def cJ_ (S : St) (kd a b : Nat) (sp dp n : Int32) : Option St := (aJ S kd a) >>= fun x => (aJ S kd b) >>= fun y => if sp < 0 ∨ dp < 0 ∨ n < 0 ∨ x.1 < sp.toNatClampNeg + n.toNatClampNeg ∨ y.1 < dp.toNatClampNeg + n.toNatClampNeg then none else some (gU S.1 b (.inl (kd, y.1, .inr (.inl (va_cpy x.2 y.2 sp.toNatClampNeg dp.toNatClampNeg n.toNatClampNeg)))), S.2)
def elQ (S : St) (ci : Nat) (f : Nat → Option Nat) (sp n : Nat) : Bool := (List.range n).all (fun i => match f (sp + i) with | none => true | some y => (gO S ci y).isSome)
def cQ_ (S : St) (kd ci a b : Nat) (sp dp n : Int32) : Option St := (aQ S kd a) >>= fun x => (aQ S kd b) >>= fun y => if sp < 0 ∨ dp < 0 ∨ n < 0 ∨ x.1 < sp.toNatClampNeg + n.toNatClampNeg ∨ y.1 < dp.toNatClampNeg + n.toNatClampNeg then none else if elQ S ci x.2 sp.toNatClampNeg n.toNatClampNeg = true then some (gU S.1 b (.inl (kd, y.1, .inr (.inr (.inr (.inr (va_cpy x.2 y.2 sp.toNatClampNeg dp.toNatClampNeg n.toNatClampNeg)))))), S.2) else none
theorem ob {α β : Type} {x : Option α} {f : α → Option β} {b : β} (h : (x >>= f) = some b) : ∃ a, x = some a ∧ f a = some b := by
  cases x with
  | none => cases h
  | some a => exact ⟨a, rfl, h⟩
theorem gO_at {S : St} {ci a : Nat} {fs : List Value} (h : gO S ci a = some fs) : S.1 a = some (.inr (ci, fs)) := by
  unfold gO at h
  split at h
  · rename_i c fs' e
    by_cases hc : c = ci
    · rw [if_pos hc] at h; cases h; subst hc; exact e
    · rw [if_neg hc] at h; cases h
  · cases h
theorem aI_at {S : St} {kd a : Nat} {x : Nat × (Nat → Int32)} (h : aI S kd a = some x) : S.1 a = some (.inl (kd, x.1, .inl x.2)) := by
  unfold aI at h
  split at h
  · rename_i k n f e
    by_cases hc : k = kd
    · rw [if_pos hc] at h; cases h; subst hc; exact e
    · rw [if_neg hc] at h; cases h
  · cases h
theorem aJ_at {S : St} {kd a : Nat} {x : Nat × (Nat → Int64)} (h : aJ S kd a = some x) : S.1 a = some (.inl (kd, x.1, .inr (.inl x.2))) := by
  unfold aJ at h
  split at h
  · rename_i k n f e
    by_cases hc : k = kd
    · rw [if_pos hc] at h; cases h; subst hc; exact e
    · rw [if_neg hc] at h; cases h
  · cases h
theorem aQ_at {S : St} {kd a : Nat} {x : Nat × (Nat → Option Nat)} (h : aQ S kd a = some x) : S.1 a = some (.inl (kd, x.1, .inr (.inr (.inr (.inr x.2))))) := by
  unfold aQ at h
  split at h
  · rename_i k n f e
    by_cases hc : k = kd
    · rw [if_pos hc] at h; cases h; subst hc; exact e
    · rw [if_neg hc] at h; cases h
  · cases h
theorem leG.put {S : St} {a : Nat} {e e0 : Cel} (ha : S.1 a = some e0) : leG S (gU S.1 a e, S.2) := ⟨Nat.le_refl _, Nat.le_refl _, Nat.le_refl _, fun q h => by
  by_cases hq : q = a
  · left; rw [hq, ha]; exact fun z => by cases z
  · left; simpa [gU, hq] using h⟩
theorem leG.new {S : St} {e : Cel} {n : Nat} : leG S (nC S e n).2 := ⟨Nat.le_succ _, Nat.le_succ _, Nat.le_add_right _ _, fun q h => by
  by_cases hq : q = S.2.1
  · right; exact Nat.le_of_eq hq.symm
  · left; simpa [nC, gU, hq] using h⟩
section GW
variable {ρ : Type} {P : GP} {X : Ctx} {l : Launch} {cc : ByteArray} {nL fr lo : Nat} {own : String} {ret : Option FieldType} {S0 S : St} {fin : ρ → Option Value × St} {E : Option ρ} {pc : Nat} {lv : List (Nat × Value)} {st : List Value}
theorem OG_upd {H H1 : Heap} {a : Nat} {e e0 : Cel} (hI : (OG P).1 S H) (ha : S.1 a = some e0) (he : va_at P.1 clH (a, toE P.2.1 e) H1) (hz : H1.size = H.size) (oq : ∀ q : Nat, q ≠ a → H1[q]? = H[q]?) : (OG P).1 (gU S.1 a e, S.2) H1 := by
  obtain ⟨h1, h2, h3, h4, h5⟩ := hI
  have hlo := (h3 a e0 ha).1
  refine ⟨hz.trans h1, h2, ?_, h5.1 H H1 (fun q hq => oq q (fun z => absurd hlo (by omega))) h4, h5⟩
  intro b x hb
  by_cases hq : b = a
  · subst hq
    have : e = x := by simpa [gU] using hb
    subst this
    exact ⟨hlo, he⟩
  · have hb' : S.1 b = some x := by simpa [gU, hq] using hb
    obtain ⟨z1, z2⟩ := h3 b x hb'
    exact ⟨z1, z2.kept (oq b hq)⟩
theorem OG_new {H H1 : Heap} {e : Cel} {n : Nat} (hI : (OG P).1 S H) (he : va_at P.1 clH (S.2.1, toE P.2.1 e) H1) (hz : H1.size = S.2.1 + 1) (oq : ∀ q : Nat, q < S.2.1 → H1[q]? = H[q]?) : (OG P).1 (nC S e n).2 H1 := by
  obtain ⟨h1, h2, h3, h4, h5⟩ := hI
  refine ⟨hz, Nat.le_succ_of_le h2, ?_, h5.1 H H1 (fun q hq => oq q (Nat.lt_of_lt_of_le hq h2)) h4, h5⟩
  intro b x hb
  by_cases hq : b = S.2.1
  · subst hq
    have : e = x := by simpa [nC, gU] using hb
    subst this
    exact ⟨h2, he⟩
  · have hb' : S.1 b = some x := by simpa [nC, gU, hq] using hb
    obtain ⟨z1, z2⟩ := h3 b x hb'
    exact ⟨z1, z2.kept (oq b (by have := z2.lt; rw [h1] at this; exact this))⟩
/-- a write of one cell -/
theorem VF.put {a pc' : Nat} {e e0 : Cel} {st' : List Value} (ha : S.1 a = some e0) (k : VF (OG P) X nL fr lo S0 fin E (gU S.1 a e, S.2) pc' lv st')
    (h : ∀ (R : Room) (H : Heap) (locs : List Loc) (cells slots : Nat) (Q : State → Prop) (ls : Array Slot), (OG P).1 S H → lv_has ls nL lv → (∀ (H1 : Heap) (L : List Loc), (∀ q ∈ L, q.base = a) → va_at P.1 clH (a, toE P.2.1 e) H1 → H1.size = H.size → (∀ q : Nat, q ≠ a → H1[q]? = H[q]?) → W X.1 X.2.1 X.2.2.1 R X.2.2.2.1 X.2.2.2.2.1 X.2.2.2.2.2.1 X.2.2.2.2.2.2.1 X.2.2.2.2.2.2.2.1 X.2.2.2.2.2.2.2.2.1 H1 (locs ++ L) cells slots Q (F0 X.2.2.2.2.1 pc' ls st')) → R.frames = fr → R.locals = lo → W X.1 X.2.1 X.2.2.1 R X.2.2.2.1 X.2.2.2.2.1 X.2.2.2.2.2.1 X.2.2.2.2.2.2.1 X.2.2.2.2.2.2.2.1 X.2.2.2.2.2.2.2.2.1 H locs cells slots Q (F0 X.2.2.2.2.1 pc ls st)) : VF (OG P) X nL fr lo S0 fin E S pc lv st := by
  intro r hr hL
  have hle : LE (OG P) S (gU S.1 a e, S.2) := (leG.put ha).LE
  obtain ⟨h1, h2⟩ := k r hr (hL.tr hle)
  refine ⟨hle.tr h1, fun H locs ls hI hS hl => h _ H locs _ _ _ ls hI hl (fun H1 L hb he hz oq => h2 H1 (locs ++ L) ls (OG_upd hI ha he hz oq) ?_ hl) rfl rfl⟩
  have hA : frG P S0 a := hL.2.2 a (Or.inl ⟨(hI.2.2.1 a e0 ha).1, by rw [ha]; exact fun z => by cases z⟩)
  refine ⟨by rw [hz]; exact hS.1, fun q g1 g2 => by rw [oq q (fun z => g2 (by rw [z]; exact hA))]; exact hS.2.1 q g1 g2, fun q hq => ?_⟩
  rcases List.mem_append.mp hq with z | z
  · exact hS.2.2 q z
  · rw [hb q z]; exact hA
/-- a new cell -/
theorem VF.new {e : Cel} {n pc' : Nat} {st' : List Value} (k : VF (OG P) X nL fr lo S0 fin E (nC S e n).2 pc' lv st')
    (h : ∀ (R : Room) (H : Heap) (locs : List Loc) (cells slots : Nat) (Q : State → Prop) (ls : Array Slot), (OG P).1 S H → lv_has ls nL lv → cells + 1 ≤ R.cells → slots + n ≤ R.slots → (∀ (H1 : Heap), va_at P.1 clH (S.2.1, toE P.2.1 e) H1 → H1.size = S.2.1 + 1 → (∀ q : Nat, q < S.2.1 → H1[q]? = H[q]?) → W X.1 X.2.1 X.2.2.1 R X.2.2.2.1 X.2.2.2.2.1 X.2.2.2.2.2.1 X.2.2.2.2.2.2.1 X.2.2.2.2.2.2.2.1 X.2.2.2.2.2.2.2.2.1 H1 locs (cells + 1) (slots + n) Q (F0 X.2.2.2.2.1 pc' ls st')) → R.frames = fr → R.locals = lo → W X.1 X.2.1 X.2.2.1 R X.2.2.2.1 X.2.2.2.2.1 X.2.2.2.2.2.1 X.2.2.2.2.2.2.1 X.2.2.2.2.2.2.2.1 X.2.2.2.2.2.2.2.2.1 H locs cells slots Q (F0 X.2.2.2.2.1 pc ls st)) : VF (OG P) X nL fr lo S0 fin E S pc lv st := by
  intro r hr hL
  have hle : LE (OG P) S (nC S e n).2 := leG.new.LE
  obtain ⟨h1, h2⟩ := k r hr (hL.tr hle)
  have g1 : S.2.2.1 + 1 ≤ ((OG P).2.1 (fin r).2).1 := h1.1
  have g2 : S.2.2.2 + n ≤ ((OG P).2.1 (fin r).2).2 := h1.2.1
  have g3 : ((OG P).2.1 S0).1 ≤ S.2.2.1 := hL.1
  have g4 : ((OG P).2.1 S0).2 ≤ S.2.2.2 := hL.2.1
  refine ⟨hle.tr h1, fun H locs ls hI hS hl => h _ H locs _ _ _ ls hI hl ?_ ?_ (fun H1 he hz oq => ?_) rfl rfl⟩
  · show S.2.2.1 - _ + 1 ≤ ((OG P).2.1 (fin r).2).1 - _
    omega
  · show S.2.2.2 - _ + n ≤ ((OG P).2.1 (fin r).2).2 - _
    omega
  · have w := h2 H1 locs ls (OG_new hI he hz oq) ⟨by rw [hz]; have := hS.1; rw [hI.1] at this; omega, fun q q1 q2 => by rw [oq q (by have := hS.1; rw [hI.1] at this; omega)]; exact hS.2.1 q q1 q2, hS.2.2⟩ hl
    have e1 : ((OG P).2.1 (nC S e n).2).1 - ((OG P).2.1 S0).1 = ((OG P).2.1 S).1 - ((OG P).2.1 S0).1 + 1 := by
      show S.2.2.1 + 1 - _ = S.2.2.1 - _ + 1
      omega
    have e2 : ((OG P).2.1 (nC S e n).2).2 - ((OG P).2.1 S0).2 = ((OG P).2.1 S).2 - ((OG P).2.1 S0).2 + n := by
      show S.2.2.2 + n - _ = S.2.2.2 - _ + n
      omega
    rw [e1, e2] at w
    exact w
/-- reading a cell -/
theorem VF.look {a pc' : Nat} {e : Cel} {st' : List Value} (ha : S.1 a = some e) (k : VF (OG P) X nL fr lo S0 fin E S pc' lv st')
    (h : ∀ (R : Room) (H : Heap) (locs : List Loc) (cells slots : Nat) (Q : State → Prop) (ls : Array Slot), va_at P.1 clH (a, toE P.2.1 e) H → lv_has ls nL lv → W X.1 X.2.1 X.2.2.1 R X.2.2.2.1 X.2.2.2.2.1 X.2.2.2.2.2.1 X.2.2.2.2.2.2.1 X.2.2.2.2.2.2.2.1 X.2.2.2.2.2.2.2.2.1 H locs cells slots Q (F0 X.2.2.2.2.1 pc' ls st') → W X.1 X.2.1 X.2.2.1 R X.2.2.2.1 X.2.2.2.2.1 X.2.2.2.2.2.1 X.2.2.2.2.2.2.1 X.2.2.2.2.2.2.2.1 X.2.2.2.2.2.2.2.2.1 H locs cells slots Q (F0 X.2.2.2.2.1 pc ls st)) : VF (OG P) X nL fr lo S0 fin E S pc lv st := by
  intro r hr hL
  obtain ⟨h1, h2⟩ := k r hr hL
  exact ⟨h1, fun H locs ls hI hS hl => h _ H locs _ _ _ ls (hI.2.2.1 a e ha).2 hl (h2 H locs ls hI hS hl)⟩
theorem va_one {D : va_G} {cl : List vw_C} {q : Nat × va_E} {H : Heap} (h : va_at D cl q H) : va_P D cl [q] H := fun k x hx => by
  have hz : k < 1 := (List.getElem?_eq_some_iff.mp hx).1
  rw [show k = 0 by omega] at hx
  cases hx
  exact h
theorem at_A {D : va_G} {dA : Nat → ClassId} {x : Nat × vp_A} {a : Nat} {H : Heap} (h : va_at D clH (a, toE dA (.inl x)) H) : va_P D clG [(a, toE dA (.inl x))] H := va_one (show va_at D clG (a, toE dA (.inl x)) H from h)
/-- a field's link: its own class's, or a nest mate's -/
def flk (own : String) (idx : Nat) (ref nm ds : String) : Prop := Cond.fieldLink own idx ref nm ds ∈ lw_all ∨ ∃ h, Cond.fieldLinkNest own idx ref nm ds h ∈ lw_tbl
/-- a class of the list -/
def cls (ci : Nat) (Cn : String) (T : u_T) (N : Nat) (ty : Nat → FieldType) : Prop := clG[ci]? = some (Cn, T, N) ∧ (∀ w ∈ u_ws Cn T N, w ∈ lw_all) ∧ (∀ k, k < N → parseFieldDescriptor (T k).2.2.1 = some (ty k)) ∧ (∀ a, a < N → ∀ b, b < N → a ≠ b → (T a).2.1 ≠ (T b).2.1)
def fsame (T : u_T) (k : Nat) (ref : String) : Prop := (T k).1 = ref ∨ Cond.sameField ref (T k).1 (T k).2.1 (T k).2.2.1 ∈ lw_all
theorem fsame.use {T : u_T} {k : Nat} {ref : String} (h : fsame T k ref) (C : CX (OG P) X l cc nL own ret) : ∀ x, X.2.2.2.1.fieldFound? (T k).1 (T k).2.1 (T k).2.2.1 = some x → X.2.2.2.1.fieldFound? ref (T k).2.1 (T k).2.2.1 = some x := by
  intro x hx
  rcases h with h | h
  · rw [← h]; exact hx
  · exact u_same (C.2.2.2.2.1 _ h) x hx
theorem g_get {ci a k N idx : Nat} {fs : List Value} {Cn ref : String} {T : u_T} {ty : Nat → FieldType} {v : Value} (C : CX (OG P) X l cc nL own ret) (hd : decode cc pc = .ok (.getfield idx, 3)) (hc : cls ci Cn T N ty) (hk : k < N) (hlk : flk own idx ref (T k).2.1 (T k).2.2.1) (hs : fsame T k ref) (he : S.1 a = some (.inr (ci, fs))) (hv : fs[k]? = some v) (kk : VF (OG P) X nL fr lo S0 fin E S (pc + 3) lv (v :: st)) : VF (OG P) X nL fr lo S0 fin E S pc lv (.ref a :: st) := by
  refine VF.look he kk (fun R H locs cells slots Q ls hP hl w => ?_)
  rcases hlk with h | ⟨hh, h⟩
  · exact va_get (ws := [(a, .inr (ci, fs))]) C.1 C.2.1 C.2.2.2.2.1 hc.2.1 C.2.2.2.1 C.2.2.2.2.2.2.2.1.1 (va_one (at_G hc.1 hP)) 0 rfl hc.1 k hk (C.2.2.2.2.1 _ h) (hs.use C) hv hd w
  · exact va_getN (ws := [(a, .inr (ci, fs))]) C.1 C.2.1 C.2.2.2.2.1 hc.2.1 C.2.2.2.1 C.2.2.2.2.2.2.2.1.1 (va_one (at_G hc.1 hP)) 0 rfl hc.1 k hk (va_Nw.use rfl (C.2.2.2.2.2.2.2.1.2.1 _ h rfl)) (hs.use C) hv hd w
theorem g_put {ci a k N idx : Nat} {fs : List Value} {Cn ref : String} {T : u_T} {ty : Nat → FieldType} {v : Value} (C : CX (OG P) X l cc nL own ret) (hd : decode cc pc = .ok (.putfield idx, 3)) (hc : cls ci Cn T N ty) (hk : k < N) (hlk : flk own idx ref (T k).2.1 (T k).2.2.1) (hs : fsame T k ref) (hfin : (T k).2.2.2 = false) (hn : narrow (ty k) v = v) (hfit : fits (ty k) v = true) (he : S.1 a = some (.inr (ci, fs))) (hl0 : k < fs.length) (kk : VF (OG P) X nL fr lo S0 fin E (gU S.1 a (.inr (ci, fs.set k v)), S.2) (pc + 3) lv st) : VF (OG P) X nL fr lo S0 fin E S pc lv (v :: .ref a :: st) := by
  refine VF.put he kk (fun R H locs cells slots Q ls hI hl w _ _ => ?_)
  have hK := C.2.2.2.2.2.2.2.1.1
  have hts := C.2.2.2.2.1
  have hap := va_apart (own := own) hts hc.2.1 ty hc.2.2.1 hc.2.2.2 hK hc.1
  obtain ⟨r, h1, cell, q1, q2, q3, q4⟩ := (hI.2.2.1 a _ he).2
  have hr : r = (Cn, T, N) := Option.some.inj (h1.symm.trans (clH_of hc.1))
  subst hr
  obtain ⟨hS, hfc, kC, hkC, hkind⟩ := hK.1 ci _ hc.1
  obtain ⟨cf, kf, fi, f, hi, hsl⟩ := hS k hk
  have hlay := hts _ (hc.2.1 _ (u_in_lay hk))
  unfold u_lay at hlay
  rw [if_neg (by rw [hfin]; decide)] at hlay
  have hst := (u_facts hfc hkC (u_lays hts hc.2.1 hk) hi).1
  have h6 := u_store hfc hkC hkind hlay hi (hc.2.2.1 k hk) hn hfit
  have fin1 : ∀ (H' : Heap), H'[a]? = some (cell.setSlot f.slot v) → va_at P.1 clH (a, toE P.2.1 (.inr (ci, fs.set k v))) H' := fun H' e1 => by
    rw [hsl] at e1
    exact ⟨_, clH_of hc.1, t_OB.to (V := updV (vp_V fs) k v) ⟨_, e1, q2, q3, t_set q4 hap hk v⟩ (fun j _ => vp_updV_set hl0 v j)⟩
  rcases hlk with h | ⟨hh, h⟩
  · exact W.putK C.1 C.2.1 (f := f) ⟨C.2.2.2.1, hts _ h, ⟨_, _, _, hs.use C _ hi⟩, hst⟩ (by rw [q2]; exact h6) q1 q3 (by rw [hsl]; exact k2_hasslot (q4 k hk)) rfl rfl hd fun H' e1 e2 e3 => w H' _ (fun q hq => by simp at hq; rw [hq]) (fin1 H' e1) e2 e3
  · exact va_WputK C.1 C.2.1 (f := f) C.2.2.2.1 (va_Nw.use rfl (C.2.2.2.2.2.2.2.1.2.1 _ h rfl)) (hs.use C _ hi) hst (by rw [q2]; exact h6) q1 q3 (by rw [hsl]; exact k2_hasslot (q4 k hk)) rfl rfl hd fun H' e1 e2 e3 => w H' _ (fun q hq => by simp at hq; rw [hq]) (fin1 H' e1) e2 e3
theorem g_putF {ci a k N idx : Nat} {fs : List Value} {Cn : String} {T : u_T} {ty : Nat → FieldType} {v : Value} (C : CX (OG P) X l cc nL own ret) (hin2 : X.2.2.2.2.2.2.2.1.name = "<init>") (hd : decode cc pc = .ok (.putfield idx, 3)) (hc : cls ci Cn T N ty) (hk : k < N) (hlk : Cond.fieldLink own idx own (T k).2.1 (T k).2.2.1 ∈ lw_all) (hdecl : (T k).1 = own) (hfin : (T k).2.2.2 = true) (hn : narrow (ty k) v = v) (hfit : fits (ty k) v = true) (he : S.1 a = some (.inr (ci, fs))) (hl0 : k < fs.length) (kk : VF (OG P) X nL fr lo S0 fin E (gU S.1 a (.inr (ci, fs.set k v)), S.2) (pc + 3) lv st) : VF (OG P) X nL fr lo S0 fin E S pc lv (v :: .ref a :: st) := by
  refine VF.put he kk (fun R H locs cells slots Q ls hI hl w _ _ => ?_)
  have hK := C.2.2.2.2.2.2.2.1.1
  have hts := C.2.2.2.2.1
  have hown := C.2.2.2.1
  have hap := va_apart (own := own) hts hc.2.1 ty hc.2.2.1 hc.2.2.2 hK hc.1
  obtain ⟨r, h1, cell, q1, q2, q3, q4⟩ := (hI.2.2.1 a _ he).2
  have hr : r = (Cn, T, N) := Option.some.inj (h1.symm.trans (clH_of hc.1))
  subst hr
  obtain ⟨hS, hfc, kC, hkC, hkind⟩ := hK.1 ci _ hc.1
  obtain ⟨cf, kf, fi, f, hi, hsl⟩ := hS k hk
  have hlay := hts _ (hc.2.1 _ (u_in_lay hk))
  unfold u_lay at hlay
  rw [if_pos hfin] at hlay
  have hst := (u_facts hfc hkC (u_lays hts hc.2.1 hk) hi).1
  have hcf : X.2.2.2.2.1.cls = cf := by
    obtain ⟨_, _, c', _, _, _, -, -, hf', -, -, -, hown2, -⟩ := Cond.laysFinal_spec hlay
    have e1 : c' = cf := by have := hi.symm.trans hf'; simp at this; exact this.1.symm
    rw [hdecl] at hown2
    rw [← e1]; exact Option.some.inj (hown.symm.trans hown2)
  have h6 := u_fits hfc hkC hkind (Or.inr hlay) hi (hc.2.2.1 k hk) hn hfit
  refine W.putFinK C.1 C.2.1 hown (hts _ hlk) (by rw [← hdecl]; exact hi) hst hcf hin2 (by rw [q2]; exact h6) q1 q3 (by rw [hsl]; exact k2_hasslot (q4 k hk)) rfl rfl hd fun H' e1 e2 e3 => ?_
  rw [hsl] at e1
  exact w H' _ (fun q hq => by simp at hq; rw [hq]) ⟨_, clH_of hc.1, t_OB.to (V := updV (vp_V fs) k v) ⟨_, e1, q2, q3, t_set q4 hap hk v⟩ (fun j _ => vp_updV_set hl0 v j)⟩ e2 e3
theorem vI_of {v : Value} {x : Int32} (h : vI v = some x) : v = .int x := by
  unfold vI at h
  split at h <;> first | (cases h; rfl) | cases h
theorem g_getI {ci a k N idx : Nat} {Cn ref : String} {T : u_T} {ty : Nat → FieldType} {G : Int32 → Option ρ} (C : CX (OG P) X l cc nL own ret) (hd : decode cc pc = .ok (.getfield idx, 3)) (hc : cls ci Cn T N ty) (hk : k < N) (hlk : flk own idx ref (T k).2.1 (T k).2.2.1) (hs : fsame T k ref) (kk : ∀ x, gI S ci a k = some x → VF (OG P) X nL fr lo S0 fin (G x) S (pc + 3) lv (.int x :: st)) : VF (OG P) X nL fr lo S0 fin (gI S ci a k >>= G) S pc lv (.ref a :: st) := by
  refine VF.bind (fun x hx => ?_)
  obtain ⟨v, h1, h2⟩ := ob hx
  obtain ⟨fs, h3, h4⟩ := ob h1
  rw [vI_of h2] at h4
  exact g_get C hd hc hk hlk hs (gO_at h3) h4 (kk x hx)
theorem vJ_of {v : Value} {x : Int64} (h : vJ v = some x) : v = .long x := by
  unfold vJ at h
  split at h <;> first | (cases h; rfl) | cases h
theorem g_getJ {ci a k N idx : Nat} {Cn ref : String} {T : u_T} {ty : Nat → FieldType} {G : Int64 → Option ρ} (C : CX (OG P) X l cc nL own ret) (hd : decode cc pc = .ok (.getfield idx, 3)) (hc : cls ci Cn T N ty) (hk : k < N) (hlk : flk own idx ref (T k).2.1 (T k).2.2.1) (hs : fsame T k ref) (kk : ∀ x, gJ S ci a k = some x → VF (OG P) X nL fr lo S0 fin (G x) S (pc + 3) lv (.long x :: st)) : VF (OG P) X nL fr lo S0 fin (gJ S ci a k >>= G) S pc lv (.ref a :: st) := by
  refine VF.bind (fun x hx => ?_)
  obtain ⟨v, h1, h2⟩ := ob hx
  obtain ⟨fs, h3, h4⟩ := ob h1
  rw [vJ_of h2] at h4
  exact g_get C hd hc hk hlk hs (gO_at h3) h4 (kk x hx)
theorem vA_of {v : Value} {x : Nat} (h : vA v = some x) : v = .ref x := by
  unfold vA at h
  split at h <;> first | (cases h; rfl) | cases h
theorem g_getA {ci a k N idx : Nat} {Cn ref : String} {T : u_T} {ty : Nat → FieldType} {G : Nat → Option ρ} (C : CX (OG P) X l cc nL own ret) (hd : decode cc pc = .ok (.getfield idx, 3)) (hc : cls ci Cn T N ty) (hk : k < N) (hlk : flk own idx ref (T k).2.1 (T k).2.2.1) (hs : fsame T k ref) (kk : ∀ x, gA S ci a k = some x → VF (OG P) X nL fr lo S0 fin (G x) S (pc + 3) lv (.ref x :: st)) : VF (OG P) X nL fr lo S0 fin (gA S ci a k >>= G) S pc lv (.ref a :: st) := by
  refine VF.bind (fun x hx => ?_)
  obtain ⟨v, h1, h2⟩ := ob hx
  obtain ⟨fs, h3, h4⟩ := ob h1
  rw [vA_of h2] at h4
  exact g_get C hd hc hk hlk hs (gO_at h3) h4 (kk x hx)
theorem vQ_of {v : Value} {x : Option Nat} (h : vQ v = some x) : v = va_rf x := by
  unfold vQ at h
  split at h <;> first | (cases h; rfl) | cases h
theorem g_getQ {ci a k N idx : Nat} {Cn ref : String} {T : u_T} {ty : Nat → FieldType} {G : Option Nat → Option ρ} (C : CX (OG P) X l cc nL own ret) (hd : decode cc pc = .ok (.getfield idx, 3)) (hc : cls ci Cn T N ty) (hk : k < N) (hlk : flk own idx ref (T k).2.1 (T k).2.2.1) (hs : fsame T k ref) (kk : ∀ x, gQ S ci a k = some x → VF (OG P) X nL fr lo S0 fin (G x) S (pc + 3) lv (va_rf x :: st)) : VF (OG P) X nL fr lo S0 fin (gQ S ci a k >>= G) S pc lv (.ref a :: st) := by
  refine VF.bind (fun x hx => ?_)
  obtain ⟨v, h1, h2⟩ := ob hx
  obtain ⟨fs, h3, h4⟩ := ob h1
  rw [vQ_of h2] at h4
  exact g_get C hd hc hk hlk hs (gO_at h3) h4 (kk x hx)
theorem g_putV {ci a k N idx : Nat} {Cn ref : String} {T : u_T} {ty : Nat → FieldType} {v : Value} {G : St → Option ρ} (C : CX (OG P) X l cc nL own ret) (hd : decode cc pc = .ok (.putfield idx, 3)) (hc : cls ci Cn T N ty) (hk : k < N) (hlk : flk own idx ref (T k).2.1 (T k).2.2.1) (hs : fsame T k ref) (hfin : (T k).2.2.2 = false) (hn : narrow (ty k) v = v) (hfit : fits (ty k) v = true) (kk : ∀ S1, gP S ci a k v = some S1 → VF (OG P) X nL fr lo S0 fin (G S1) S1 (pc + 3) lv st) : VF (OG P) X nL fr lo S0 fin (gP S ci a k v >>= G) S pc lv (v :: .ref a :: st) := by
  refine VF.bind (fun S1 hS1 => ?_)
  obtain ⟨fs, h1, h2⟩ := ob hS1
  by_cases hl : k < fs.length
  · rw [if_pos hl] at h2
    have k2 := kk S1 hS1
    cases h2
    exact g_put C hd hc hk hlk hs hfin hn hfit (gO_at h1) hl k2
  · rw [if_neg hl] at h2; cases h2
theorem g_putFV {ci a k N idx : Nat} {Cn : String} {T : u_T} {ty : Nat → FieldType} {v : Value} {G : St → Option ρ} (C : CX (OG P) X l cc nL own ret) (hin2 : X.2.2.2.2.2.2.2.1.name = "<init>") (hd : decode cc pc = .ok (.putfield idx, 3)) (hc : cls ci Cn T N ty) (hk : k < N) (hlk : Cond.fieldLink own idx own (T k).2.1 (T k).2.2.1 ∈ lw_all) (hdecl : (T k).1 = own) (hfin : (T k).2.2.2 = true) (hn : narrow (ty k) v = v) (hfit : fits (ty k) v = true) (kk : ∀ S1, gP S ci a k v = some S1 → VF (OG P) X nL fr lo S0 fin (G S1) S1 (pc + 3) lv st) : VF (OG P) X nL fr lo S0 fin (gP S ci a k v >>= G) S pc lv (v :: .ref a :: st) := by
  refine VF.bind (fun S1 hS1 => ?_)
  obtain ⟨fs, h1, h2⟩ := ob hS1
  by_cases hl : k < fs.length
  · rw [if_pos hl] at h2
    have k2 := kk S1 hS1
    cases h2
    exact g_putF C hin2 hd hc hk hlk hdecl hfin hn hfit (gO_at h1) hl k2
  · rw [if_neg hl] at h2; cases h2
theorem g_ial {a : Nat} {i : Int32} {G : Int32 → Option ρ} (C : CX (OG P) X l cc nL own ret) (hd : decode cc pc = .ok (.iaload, 1)) (kk : ∀ x, lI S 0 a i = some x → VF (OG P) X nL fr lo S0 fin (G x) S (pc + 1) lv (.int x :: st)) : VF (OG P) X nL fr lo S0 fin (lI S 0 a i >>= G) S pc lv (.int i :: .ref a :: st) := by
  refine VF.bind (fun x hx => ?_)
  obtain ⟨y, h1, h2⟩ := ob hx
  have h2' := h2
  unfold rdI at h2
  by_cases hb : i < 0 ∨ y.1 ≤ i.toNatClampNeg
  · rw [if_pos hb] at h2; cases h2
  · rw [if_neg hb] at h2
    cases h2
    exact VF.look (aI_at h1) (kk _ hx) (fun R H locs cells slots Q ls hP hl w => va_iald C.1 C.2.1 C.2.2.2.2.2.2.2.1.1 (at_A hP) 0 0 rfl rfl hb hd w)
theorem g_bal {a : Nat} {i : Int32} {G : Int32 → Option ρ} (C : CX (OG P) X l cc nL own ret) (hd : decode cc pc = .ok (.baload, 1)) (kk : ∀ x, lI S 2 a i = some x → VF (OG P) X nL fr lo S0 fin (G x) S (pc + 1) lv (.int x :: st)) : VF (OG P) X nL fr lo S0 fin (lI S 2 a i >>= G) S pc lv (.int i :: .ref a :: st) := by
  refine VF.bind (fun x hx => ?_)
  obtain ⟨y, h1, h2⟩ := ob hx
  have h2' := h2
  unfold rdI at h2
  by_cases hb : i < 0 ∨ y.1 ≤ i.toNatClampNeg
  · rw [if_pos hb] at h2; cases h2
  · rw [if_neg hb] at h2
    cases h2
    exact VF.look (aI_at h1) (kk _ hx) (fun R H locs cells slots Q ls hP hl w => va_bald C.1 C.2.1 C.2.2.2.2.2.2.2.1.1 (at_A hP) 0 2 rfl rfl hb hd w)
theorem g_lal {a : Nat} {i : Int32} {G : Int64 → Option ρ} (C : CX (OG P) X l cc nL own ret) (hd : decode cc pc = .ok (.laload, 1)) (kk : ∀ x, lJ S 1 a i = some x → VF (OG P) X nL fr lo S0 fin (G x) S (pc + 1) lv (.long x :: st)) : VF (OG P) X nL fr lo S0 fin (lJ S 1 a i >>= G) S pc lv (.int i :: .ref a :: st) := by
  refine VF.bind (fun x hx => ?_)
  obtain ⟨y, h1, h2⟩ := ob hx
  have h2' := h2
  unfold rdL at h2
  by_cases hb : i < 0 ∨ y.1 ≤ i.toNatClampNeg
  · rw [if_pos hb] at h2; cases h2
  · rw [if_neg hb] at h2
    cases h2
    exact VF.look (aJ_at h1) (kk _ hx) (fun R H locs cells slots Q ls hP hl w => va_lald C.1 C.2.1 C.2.2.2.2.2.2.2.1.1 (at_A hP) 0 1 rfl rfl hb hd w)
theorem g_aal3 {a : Nat} {i : Int32} {G : Option Nat → Option ρ} (C : CX (OG P) X l cc nL own ret) (hd : decode cc pc = .ok (.aaload, 1)) (kk : ∀ x, lQ S 3 a i = some x → VF (OG P) X nL fr lo S0 fin (G x) S (pc + 1) lv (va_rf x :: st)) : VF (OG P) X nL fr lo S0 fin (lQ S 3 a i >>= G) S pc lv (.int i :: .ref a :: st) := by
  refine VF.bind (fun x hx => ?_)
  obtain ⟨y, h1, h2⟩ := ob hx
  unfold rdQ at h2
  by_cases hb : i < 0 ∨ y.1 ≤ i.toNatClampNeg
  · rw [if_pos hb] at h2; cases h2
  · rw [if_neg hb] at h2
    cases h2
    exact VF.look (aQ_at h1) (kk _ hx) (fun R H locs cells slots Q ls hP hl w => va_aldq C.1 C.2.1 C.2.2.2.2.2.2.2.1.1 (at_A hP) 0 3 rfl rfl hb hd w)
theorem g_aalA3 {a : Nat} {i : Int32} {G : Nat → Option ρ} (C : CX (OG P) X l cc nL own ret) (hd : decode cc pc = .ok (.aaload, 1)) (kk : ∀ x, lA S 3 a i = some x → VF (OG P) X nL fr lo S0 fin (G x) S (pc + 1) lv (.ref x :: st)) : VF (OG P) X nL fr lo S0 fin (lA S 3 a i >>= G) S pc lv (.int i :: .ref a :: st) := by
  refine VF.bind (fun x hx => ?_)
  obtain ⟨y, h1, h2⟩ := ob hx
  have h2 : y = some x := h2
  subst h2
  have e : VF (OG P) X nL fr lo S0 fin (lQ S 3 a i >>= fun _ => G x) S pc lv (.int i :: .ref a :: st) := g_aal3 C hd (fun z hz => by
    cases h1.symm.trans hz
    exact kk x hx)
  rw [h1] at e
  exact e
theorem g_aal4 {a : Nat} {i : Int32} {G : Option Nat → Option ρ} (C : CX (OG P) X l cc nL own ret) (hd : decode cc pc = .ok (.aaload, 1)) (kk : ∀ x, lQ S 4 a i = some x → VF (OG P) X nL fr lo S0 fin (G x) S (pc + 1) lv (va_rf x :: st)) : VF (OG P) X nL fr lo S0 fin (lQ S 4 a i >>= G) S pc lv (.int i :: .ref a :: st) := by
  refine VF.bind (fun x hx => ?_)
  obtain ⟨y, h1, h2⟩ := ob hx
  unfold rdQ at h2
  by_cases hb : i < 0 ∨ y.1 ≤ i.toNatClampNeg
  · rw [if_pos hb] at h2; cases h2
  · rw [if_neg hb] at h2
    cases h2
    exact VF.look (aQ_at h1) (kk _ hx) (fun R H locs cells slots Q ls hP hl w => va_aldq C.1 C.2.1 C.2.2.2.2.2.2.2.1.1 (at_A hP) 0 4 rfl rfl hb hd w)
theorem g_aalA4 {a : Nat} {i : Int32} {G : Nat → Option ρ} (C : CX (OG P) X l cc nL own ret) (hd : decode cc pc = .ok (.aaload, 1)) (kk : ∀ x, lA S 4 a i = some x → VF (OG P) X nL fr lo S0 fin (G x) S (pc + 1) lv (.ref x :: st)) : VF (OG P) X nL fr lo S0 fin (lA S 4 a i >>= G) S pc lv (.int i :: .ref a :: st) := by
  refine VF.bind (fun x hx => ?_)
  obtain ⟨y, h1, h2⟩ := ob hx
  have h2 : y = some x := h2
  subst h2
  have e : VF (OG P) X nL fr lo S0 fin (lQ S 4 a i >>= fun _ => G x) S pc lv (.int i :: .ref a :: st) := g_aal4 C hd (fun z hz => by
    cases h1.symm.trans hz
    exact kk x hx)
  rw [h1] at e
  exact e
theorem g_aal5 {a : Nat} {i : Int32} {G : Option Nat → Option ρ} (C : CX (OG P) X l cc nL own ret) (hd : decode cc pc = .ok (.aaload, 1)) (kk : ∀ x, lQ S 5 a i = some x → VF (OG P) X nL fr lo S0 fin (G x) S (pc + 1) lv (va_rf x :: st)) : VF (OG P) X nL fr lo S0 fin (lQ S 5 a i >>= G) S pc lv (.int i :: .ref a :: st) := by
  refine VF.bind (fun x hx => ?_)
  obtain ⟨y, h1, h2⟩ := ob hx
  unfold rdQ at h2
  by_cases hb : i < 0 ∨ y.1 ≤ i.toNatClampNeg
  · rw [if_pos hb] at h2; cases h2
  · rw [if_neg hb] at h2
    cases h2
    exact VF.look (aQ_at h1) (kk _ hx) (fun R H locs cells slots Q ls hP hl w => va_aldq C.1 C.2.1 C.2.2.2.2.2.2.2.1.1 (at_A hP) 0 5 rfl rfl hb hd w)
theorem g_aalA5 {a : Nat} {i : Int32} {G : Nat → Option ρ} (C : CX (OG P) X l cc nL own ret) (hd : decode cc pc = .ok (.aaload, 1)) (kk : ∀ x, lA S 5 a i = some x → VF (OG P) X nL fr lo S0 fin (G x) S (pc + 1) lv (.ref x :: st)) : VF (OG P) X nL fr lo S0 fin (lA S 5 a i >>= G) S pc lv (.int i :: .ref a :: st) := by
  refine VF.bind (fun x hx => ?_)
  obtain ⟨y, h1, h2⟩ := ob hx
  have h2 : y = some x := h2
  subst h2
  have e : VF (OG P) X nL fr lo S0 fin (lQ S 5 a i >>= fun _ => G x) S pc lv (.int i :: .ref a :: st) := g_aal5 C hd (fun z hz => by
    cases h1.symm.trans hz
    exact kk x hx)
  rw [h1] at e
  exact e
theorem g_aal6 {a : Nat} {i : Int32} {G : Option Nat → Option ρ} (C : CX (OG P) X l cc nL own ret) (hd : decode cc pc = .ok (.aaload, 1)) (kk : ∀ x, lQ S 6 a i = some x → VF (OG P) X nL fr lo S0 fin (G x) S (pc + 1) lv (va_rf x :: st)) : VF (OG P) X nL fr lo S0 fin (lQ S 6 a i >>= G) S pc lv (.int i :: .ref a :: st) := by
  refine VF.bind (fun x hx => ?_)
  obtain ⟨y, h1, h2⟩ := ob hx
  unfold rdQ at h2
  by_cases hb : i < 0 ∨ y.1 ≤ i.toNatClampNeg
  · rw [if_pos hb] at h2; cases h2
  · rw [if_neg hb] at h2
    cases h2
    exact VF.look (aQ_at h1) (kk _ hx) (fun R H locs cells slots Q ls hP hl w => va_aldq C.1 C.2.1 C.2.2.2.2.2.2.2.1.1 (at_A hP) 0 6 rfl rfl hb hd w)
theorem g_aalA6 {a : Nat} {i : Int32} {G : Nat → Option ρ} (C : CX (OG P) X l cc nL own ret) (hd : decode cc pc = .ok (.aaload, 1)) (kk : ∀ x, lA S 6 a i = some x → VF (OG P) X nL fr lo S0 fin (G x) S (pc + 1) lv (.ref x :: st)) : VF (OG P) X nL fr lo S0 fin (lA S 6 a i >>= G) S pc lv (.int i :: .ref a :: st) := by
  refine VF.bind (fun x hx => ?_)
  obtain ⟨y, h1, h2⟩ := ob hx
  have h2 : y = some x := h2
  subst h2
  have e : VF (OG P) X nL fr lo S0 fin (lQ S 6 a i >>= fun _ => G x) S pc lv (.int i :: .ref a :: st) := g_aal6 C hd (fun z hz => by
    cases h1.symm.trans hz
    exact kk x hx)
  rw [h1] at e
  exact e
theorem g_alen {a kd : Nat} {ty : FieldType} (ht : ∀ dA, (tyG dA)[kd]? = some (dA kd, ty)) {G : Int32 → Option ρ} (C : CX (OG P) X l cc nL own ret) (hd : decode cc pc = .ok (.arraylength, 1)) (kk : ∀ x, aN S kd a = some x → VF (OG P) X nL fr lo S0 fin (G x) S (pc + 1) lv (.int x :: st)) : VF (OG P) X nL fr lo S0 fin (aN S kd a >>= G) S pc lv (.ref a :: st) := by
  refine VF.bind (fun x hx => ?_)
  have hk := kk x hx
  unfold aN at hx
  split at hx
  · rename_i k n z e
    by_cases hc : k = kd
    · rw [if_pos hc] at hx
      subst hc
      exact VF.look e hk (fun R H locs cells slots Q ls hP hl w => va_alen C.1 C.2.1 C.2.2.2.2.2.2.2.1.1 (at_A hP) 0 k rfl (ht P.2.1) (Option.some.inj hx) hd w)
    · rw [if_neg hc] at hx; cases hx
  · cases hx
theorem g_ias {a : Nat} {i : Int32} {x : Int32} {G : St → Option ρ} (C : CX (OG P) X l cc nL own ret) (hd : decode cc pc = .ok (.iastore, 1)) (kk : ∀ S1, tI S 0 a i x = some S1 → VF (OG P) X nL fr lo S0 fin (G S1) S1 (pc + 1) lv st) : VF (OG P) X nL fr lo S0 fin (tI S 0 a i x >>= G) S pc lv (.int x :: .int i :: .ref a :: st) := by
  refine VF.bind (fun S1 hx => ?_)
  have k2 := kk S1 hx
  obtain ⟨y, h1, h2⟩ := ob hx
  by_cases hb : i < 0 ∨ y.1 ≤ i.toNatClampNeg
  · rw [if_pos hb] at h2; cases h2
  · rw [if_neg hb] at h2
    cases h2
    refine VF.put (aI_at h1) k2 (fun R H locs cells slots Q ls hI hl w _ _ => ?_)
    refine W.iast C.1 C.2.1 (hI.2.2.1 a _ (aI_at h1)).2 ((C.2.2.2.2.2.2.2.1.1.2 0 _ rfl).1 y.1 (fun j => .int (y.2 j))) (fun q => by cases q) (by show ¬ (i < 0 ∨ (arrV _ _ _).slots.size ≤ _); rw [arrV_size]; exact hb) rfl rfl hd fun H1 e z oq => w H1 _ (fun q hq => by simp at hq; rw [hq]) ?_ z oq
    show H1[a]? = some (vp_cell _ _)
    rw [e]
    show some ((vp_cell _ _).setSlot _ _) = _
    rw [vp_cell_i, vp_cell_i, arrV_store]
    congr 2
    funext q
    by_cases hq : q = i.toNatClampNeg
    · subst hq
      simp [updV, upd]
    · simp [updV, upd, hq]
theorem g_las {a : Nat} {i : Int32} {x : Int64} {G : St → Option ρ} (C : CX (OG P) X l cc nL own ret) (hd : decode cc pc = .ok (.lastore, 1)) (kk : ∀ S1, tJ S 1 a i x = some S1 → VF (OG P) X nL fr lo S0 fin (G S1) S1 (pc + 1) lv st) : VF (OG P) X nL fr lo S0 fin (tJ S 1 a i x >>= G) S pc lv (.long x :: .int i :: .ref a :: st) := by
  refine VF.bind (fun S1 hx => ?_)
  have k2 := kk S1 hx
  obtain ⟨y, h1, h2⟩ := ob hx
  by_cases hb : i < 0 ∨ y.1 ≤ i.toNatClampNeg
  · rw [if_pos hb] at h2; cases h2
  · rw [if_neg hb] at h2
    cases h2
    refine VF.put (aJ_at h1) k2 (fun R H locs cells slots Q ls hI hl w _ _ => ?_)
    refine W.last C.1 C.2.1 (hI.2.2.1 a _ (aJ_at h1)).2 ((C.2.2.2.2.2.2.2.1.1.2 1 _ rfl).1 y.1 (fun j => .long (y.2 j))) (fun q => by cases q) (by show ¬ (i < 0 ∨ (arrV _ _ _).slots.size ≤ _); rw [arrV_size]; exact hb) rfl rfl hd fun H1 e z oq => w H1 _ (fun q hq => by simp at hq; rw [hq]) ?_ z oq
    show H1[a]? = some (vp_cell _ _)
    rw [e]
    show some ((vp_cell _ _).setSlot _ _) = _
    rw [vp_cell_l, vp_cell_l, arrV_store]
    congr 2
    funext q
    by_cases hq : q = i.toNatClampNeg
    · subst hq
      simp [updV, vp_updL]
    · simp [updV, vp_updL, hq]
theorem g_bas {a : Nat} {i : Int32} {x : Int32} {G : St → Option ρ} (C : CX (OG P) X l cc nL own ret) (hd : decode cc pc = .ok (.bastore, 1)) (kk : ∀ S1, tI S 2 a i (vp_nar .byte x) = some S1 → VF (OG P) X nL fr lo S0 fin (G S1) S1 (pc + 1) lv st) : VF (OG P) X nL fr lo S0 fin (tI S 2 a i (vp_nar .byte x) >>= G) S pc lv (.int x :: .int i :: .ref a :: st) := by
  refine VF.bind (fun S1 hx => ?_)
  have k2 := kk S1 hx
  obtain ⟨y, h1, h2⟩ := ob hx
  by_cases hb : i < 0 ∨ y.1 ≤ i.toNatClampNeg
  · rw [if_pos hb] at h2; cases h2
  · rw [if_neg hb] at h2
    cases h2
    refine VF.put (aI_at h1) k2 (fun R H locs cells slots Q ls hI hl w _ _ => ?_)
    refine W.bast C.1 C.2.1 (hI.2.2.1 a _ (aI_at h1)).2 ((C.2.2.2.2.2.2.2.1.1.2 2 _ rfl).1 y.1 (fun j => .int (y.2 j))) (fun q => by cases q) (by show ¬ (i < 0 ∨ (arrV _ _ _).slots.size ≤ _); rw [arrV_size]; exact hb) rfl rfl hd fun H1 e z oq => w H1 _ (fun q hq => by simp at hq; rw [hq]) ?_ z oq
    show H1[a]? = some (vp_cell _ _)
    rw [e]
    show some ((vp_cell _ _).setSlot _ _) = _
    rw [vp_cell_i, vp_cell_i, arrV_store]
    congr 2
    funext q
    by_cases hq : q = i.toNatClampNeg
    · subst hq
      simp [updV, upd, vp_nar, narrow]
    · simp [updV, upd, hq]
/-- a reference goes into an array -/
theorem g_aas {a x kd ci : Nat} {En : String} {rc : vw_C} {i : Int32} {G : St → Option ρ} (C : CX (OG P) X l cc nL own ret) (hd : decode cc pc = .ok (.aastore, 1)) (ht : ∀ dA, (tyG dA)[kd]? = some (dA kd, .object En)) (hc : clG[ci]? = some rc) (has : rc.1 = En ∨ Cond.castable rc.1 En ∈ lw_tbl) (kk : ∀ S1, tA S kd a i ci x = some S1 → VF (OG P) X nL fr lo S0 fin (G S1) S1 (pc + 1) lv st) : VF (OG P) X nL fr lo S0 fin (tA S kd a i ci x >>= G) S pc lv (.ref x :: .int i :: .ref a :: st) := by
  refine VF.bind (fun S1 hx => ?_)
  have k2 := kk S1 hx
  obtain ⟨fs, h0, hx⟩ := ob hx
  obtain ⟨y, h1, h2⟩ := ob hx
  by_cases hb : i < 0 ∨ y.1 ≤ i.toNatClampNeg
  · rw [if_pos hb] at h2; cases h2
  · rw [if_neg hb] at h2
    cases h2
    refine VF.put (aQ_at h1) k2 (fun R H locs cells slots Q ls hI hl w _ _ => ?_)
    have hK := C.2.2.2.2.2.2.2.1.1
    obtain ⟨r', hr', cellV, g1, g2, g3, -⟩ := (hI.2.2.1 x _ (gO_at h0)).2
    have hcls := (hK.1 ci rc hc).2
    obtain ⟨kA, comp, k1, k2', k3, -⟩ := (hK.2 kd _ (ht P.2.1)).2
    obtain ⟨kC, hkC, -⟩ := hcls.2
    obtain ⟨kE, hkE, -⟩ := Vm.findClass_spec k3
    have hasg : X.2.2.2.1.vm.assignable (P.1.1 ci) comp = true := by
      rcases has with h | h
      · have hcomp : comp = P.1.1 ci := by rw [← h] at k3; exact Option.some.inj (k3.symm.trans hcls.1)
        rw [hcomp]; exact va_assign hcls
      · obtain ⟨c0, t0, f1, f2, f3⟩ := Cond.castable_spec (va_Nw.use (A := X.2.2.2.2.2.1) rfl (C.2.2.2.2.2.2.2.1.2.1 _ h rfl))
        cases hcls.1.symm.trans f1
        cases k3.symm.trans f2
        exact f3
    refine W.aast C.1 C.2.1 (hI.2.2.1 a _ (aQ_at h1)).2 (fun q h => by cases h) (fun h => by cases h) k1 k2' rfl hkE ⟨fun z => hb (Or.inl z), by show _ < (arrV _ _ _).slots.size; rw [arrV_size]; exact Nat.not_le.mp fun q => hb (Or.inr q)⟩ g1 (fun q h => by rw [g3] at h; cases h) (by rw [g2]; exact hkC) (by rw [g2]; exact hasg) rfl rfl hd fun H1 e z oq => w H1 _ (fun q hq => by simp at hq; rw [hq]) ?_ z oq
    show H1[a]? = some (vp_cell _ _)
    rw [e]
    show some ((vp_cell _ _).setSlot _ _) = _
    rw [vp_cell_q, vp_cell_q, arrV_store]
    congr 2
    funext q
    by_cases hq : q = i.toNatClampNeg
    · subst hq
      simp [updV, va_up, va_rf]
    · simp [updV, va_up, hq]
theorem g_aasN {a kd : Nat} {En : String} {i : Int32} {G : St → Option ρ} (C : CX (OG P) X l cc nL own ret) (hd : decode cc pc = .ok (.aastore, 1)) (ht : ∀ dA, (tyG dA)[kd]? = some (dA kd, .object En)) (kk : ∀ S1, tQ S kd a i none = some S1 → VF (OG P) X nL fr lo S0 fin (G S1) S1 (pc + 1) lv st) : VF (OG P) X nL fr lo S0 fin (tQ S kd a i none >>= G) S pc lv (.null :: .int i :: .ref a :: st) := by
  refine VF.bind (fun S1 hx => ?_)
  have k2 := kk S1 hx
  obtain ⟨y, h1, h2⟩ := ob hx
  by_cases hb : i < 0 ∨ y.1 ≤ i.toNatClampNeg
  · rw [if_pos hb] at h2; cases h2
  · rw [if_neg hb] at h2
    cases h2
    refine VF.put (aQ_at h1) k2 (fun R H locs cells slots Q ls hI hl w _ _ => ?_)
    refine va_WaastN (C := En) C.1 C.2.1 (hI.2.2.1 a _ (aQ_at h1)).2 ((C.2.2.2.2.2.2.2.1.1.2 kd _ (ht P.2.1)).1 y.1 (fun j => va_rf (y.2 j))) (fun h => by cases h) (by show ¬ (i < 0 ∨ (arrV _ _ _).slots.size ≤ _); rw [arrV_size]; exact hb) rfl rfl hd fun H1 e z oq => w H1 _ (fun q hq => by simp at hq; rw [hq]) ?_ z oq
    show H1[a]? = some (vp_cell _ _)
    rw [e]
    show some ((vp_cell _ _).setSlot _ _) = _
    rw [vp_cell_q, vp_cell_q, arrV_store]
    congr 2
    funext q
    by_cases hq : q = i.toNatClampNeg
    · subst hq
      simp [updV, va_up, va_rf]
    · simp [updV, va_up, hq]
/-- a new object -/
theorem g_new {ci N idx : Nat} {Cn : String} {T : u_T} {ty : Nat → FieldType} {fs : List Value} {G : (Nat × St) → Option ρ} (C : CX (OG P) X l cc nL own ret) (hd : decode cc pc = .ok (.new idx, 3)) (hc : cls ci Cn T N ty) (hk : Cond.classLink own idx Cn ∈ lw_all) (hi : Cond.instantiable Cn N ∈ lw_all) (hini : Cond.initialized Cn ∈ lw_all) (hfs : ∀ j, j < N → defaultValue (ty j) = vp_V fs j) (kk : ∀ y, y = nO S ci fs N → VF (OG P) X nL fr lo S0 fin (G y) y.2 (pc + 3) lv (.ref y.1 :: st)) : VF (OG P) X nL fr lo S0 fin (some (nO S ci fs N) >>= G) S pc lv st := by
  refine VF.new (e := .inr (ci, fs)) (n := N) (kk _ rfl) (fun R H locs cells slots Q ls hI hl h1 h2 w _ _ => ?_)
  have hKn := C.2.2.2.2.2.2.2.1.1.1 ci _ hc.1
  refine W.newcK C.1 C.2.1 C.2.2.2.1 (C.2.2.2.2.1 _ hk) (C.2.2.2.2.1 _ hi) (C.2.2.2.2.1 _ hini) rfl hd h1 h2 hKn.2.1 hI.1 fun H1 kC hkC e1 z1 o1 => w H1 ?_ z1 o1
  exact ⟨_, clH_of hc.1, (u_born ty C.2.2.2.2.1 hc.2.1 hKn hkC e1 hc.2.2.1).to hfs⟩
theorem g_naI {n : Int32} {G : (Nat × St) → Option ρ} (C : CX (OG P) X l cc nL own ret) (hd : decode cc pc = .ok (.newarray .int, 2)) (ha : Cond.arrayClass .int ∈ lw_all) (kk : ∀ y, nI_ S 0 n = some y → VF (OG P) X nL fr lo S0 fin (G y) y.2 (pc + 2) lv (.ref y.1 :: st)) : VF (OG P) X nL fr lo S0 fin (nI_ S 0 n >>= G) S pc lv (.int n :: st) := by
  refine VF.bind (fun y hy => ?_)
  have k2 := kk y hy
  unfold nI_ at hy
  by_cases hb : n < 0 ∨ 16777216 < n.toNatClampNeg
  · rw [if_pos hb] at hy; cases hy
  · rw [if_neg hb] at hy
    cases hy
    refine VF.new (e := .inl (0, n.toNatClampNeg, .inl (fun _ => 0))) (n := n.toNatClampNeg) k2 (fun R H locs cells slots Q ls hI hl h1 h2 w _ _ => ?_)
    refine W.newa C.1 C.2.1 (atype := .int) (C.2.2.2.2.1 _ ha) rfl hd rfl (fun z => hb (Or.inl z)) (by
      have : n.toNatClampNeg ≤ 16777216 := Nat.not_lt.mp fun z => hb (Or.inr z)
      show n.toNatClampNeg * componentBytes .int ≤ 536870912
      have e : componentBytes .int ≤ 8 := by decide
      exact Nat.le_trans (Nat.mul_le_mul this e) (by decide)) h1 h2 fun cA kA comp f1 f2 f3 => ?_
    have hcA : cA = P.2.1 0 := Option.some.inj (f1.symm.trans (C.2.2.2.2.2.2.2.1.1.2 0 _ rfl).2)
    subst hcA
    have hsz := hI.1
    have w2 := w (H.push { cls := P.2.1 0, slots := Array.replicate n.toNatClampNeg (defaultValue (newarray.typeOf .int)), vm := .none }) (by
      show (H.push _)[S.2.1]? = some (vp_cell _ _)
      rw [← hsz, Array.getElem?_push_size, vp_cell_i, ← arrV_new]
      rfl) (by rw [Array.size_push, hsz]) (fun q hq => by rw [Array.getElem?_push, if_neg (by omega)])
    exact W.eq (g2 := F0 X.2.2.2.2.1 (pc + 2) ls (.ref S.2.1 :: st)) (by rw [hsz]) w2
theorem g_naJ {n : Int32} {G : (Nat × St) → Option ρ} (C : CX (OG P) X l cc nL own ret) (hd : decode cc pc = .ok (.newarray .long, 2)) (ha : Cond.arrayClass .long ∈ lw_all) (kk : ∀ y, nJ_ S 1 n = some y → VF (OG P) X nL fr lo S0 fin (G y) y.2 (pc + 2) lv (.ref y.1 :: st)) : VF (OG P) X nL fr lo S0 fin (nJ_ S 1 n >>= G) S pc lv (.int n :: st) := by
  refine VF.bind (fun y hy => ?_)
  have k2 := kk y hy
  unfold nJ_ at hy
  by_cases hb : n < 0 ∨ 16777216 < n.toNatClampNeg
  · rw [if_pos hb] at hy; cases hy
  · rw [if_neg hb] at hy
    cases hy
    refine VF.new (e := .inl (1, n.toNatClampNeg, .inr (.inl (fun _ => 0)))) (n := n.toNatClampNeg) k2 (fun R H locs cells slots Q ls hI hl h1 h2 w _ _ => ?_)
    refine W.newa C.1 C.2.1 (atype := .long) (C.2.2.2.2.1 _ ha) rfl hd rfl (fun z => hb (Or.inl z)) (by
      have : n.toNatClampNeg ≤ 16777216 := Nat.not_lt.mp fun z => hb (Or.inr z)
      show n.toNatClampNeg * componentBytes .long ≤ 536870912
      have e : componentBytes .long ≤ 8 := by decide
      exact Nat.le_trans (Nat.mul_le_mul this e) (by decide)) h1 h2 fun cA kA comp f1 f2 f3 => ?_
    have hcA : cA = P.2.1 1 := Option.some.inj (f1.symm.trans (C.2.2.2.2.2.2.2.1.1.2 1 _ rfl).2)
    subst hcA
    have hsz := hI.1
    have w2 := w (H.push { cls := P.2.1 1, slots := Array.replicate n.toNatClampNeg (defaultValue (newarray.typeOf .long)), vm := .none }) (by
      show (H.push _)[S.2.1]? = some (vp_cell _ _)
      rw [← hsz, Array.getElem?_push_size, vp_cell_l, ← arrV_new]
      rfl) (by rw [Array.size_push, hsz]) (fun q hq => by rw [Array.getElem?_push, if_neg (by omega)])
    exact W.eq (g2 := F0 X.2.2.2.2.1 (pc + 2) ls (.ref S.2.1 :: st)) (by rw [hsz]) w2
theorem g_naB {n : Int32} {G : (Nat × St) → Option ρ} (C : CX (OG P) X l cc nL own ret) (hd : decode cc pc = .ok (.newarray .byte, 2)) (ha : Cond.arrayClass .byte ∈ lw_all) (kk : ∀ y, nI_ S 2 n = some y → VF (OG P) X nL fr lo S0 fin (G y) y.2 (pc + 2) lv (.ref y.1 :: st)) : VF (OG P) X nL fr lo S0 fin (nI_ S 2 n >>= G) S pc lv (.int n :: st) := by
  refine VF.bind (fun y hy => ?_)
  have k2 := kk y hy
  unfold nI_ at hy
  by_cases hb : n < 0 ∨ 16777216 < n.toNatClampNeg
  · rw [if_pos hb] at hy; cases hy
  · rw [if_neg hb] at hy
    cases hy
    refine VF.new (e := .inl (2, n.toNatClampNeg, .inl (fun _ => 0))) (n := n.toNatClampNeg) k2 (fun R H locs cells slots Q ls hI hl h1 h2 w _ _ => ?_)
    refine W.newa C.1 C.2.1 (atype := .byte) (C.2.2.2.2.1 _ ha) rfl hd rfl (fun z => hb (Or.inl z)) (by
      have : n.toNatClampNeg ≤ 16777216 := Nat.not_lt.mp fun z => hb (Or.inr z)
      show n.toNatClampNeg * componentBytes .byte ≤ 536870912
      have e : componentBytes .byte ≤ 8 := by decide
      exact Nat.le_trans (Nat.mul_le_mul this e) (by decide)) h1 h2 fun cA kA comp f1 f2 f3 => ?_
    have hcA : cA = P.2.1 2 := Option.some.inj (f1.symm.trans (C.2.2.2.2.2.2.2.1.1.2 2 _ rfl).2)
    subst hcA
    have hsz := hI.1
    have w2 := w (H.push { cls := P.2.1 2, slots := Array.replicate n.toNatClampNeg (defaultValue (newarray.typeOf .byte)), vm := .none }) (by
      show (H.push _)[S.2.1]? = some (vp_cell _ _)
      rw [← hsz, Array.getElem?_push_size, vp_cell_i, ← arrV_new]
      rfl) (by rw [Array.size_push, hsz]) (fun q hq => by rw [Array.getElem?_push, if_neg (by omega)])
    exact W.eq (g2 := F0 X.2.2.2.2.1 (pc + 2) ls (.ref S.2.1 :: st)) (by rw [hsz]) w2
theorem g_naQ3 {n : Int32} {idx : Nat} {G : (Nat × St) → Option ρ} (C : CX (OG P) X l cc nL own ret) (hd : decode cc pc = .ok (.anewarray idx, 3)) (hk : Cond.classLink own idx RX5 ∈ lw_all) (kk : ∀ y, nQ_ S 3 n = some y → VF (OG P) X nL fr lo S0 fin (G y) y.2 (pc + 3) lv (.ref y.1 :: st)) : VF (OG P) X nL fr lo S0 fin (nQ_ S 3 n >>= G) S pc lv (.int n :: st) := by
  refine VF.bind (fun y hy => ?_)
  have k2 := kk y hy
  unfold nQ_ at hy
  by_cases hb : n < 0 ∨ 16777216 < n.toNatClampNeg
  · rw [if_pos hb] at hy; cases hy
  · rw [if_neg hb] at hy
    cases hy
    refine VF.new (e := .inl (3, n.toNatClampNeg, .inr (.inr (.inr (.inr (fun _ => none)))))) (n := n.toNatClampNeg) k2 (fun R H locs cells slots Q ls hI hl h1 h2 w _ _ => ?_)
    refine W.anew C.1 C.2.1 C.2.2.2.1 (C.2.2.2.2.1 _ hk) (va_AO.use (C.2.2.2.2.2.2.2.1.2.2.1 RX5 (by simp [aoG]))) rfl hd rfl (fun z => hb (Or.inl z)) (by
      have : n.toNatClampNeg ≤ 16777216 := Nat.not_lt.mp fun z => hb (Or.inr z)
      omega) h1 h2 fun cA kA comp f1 f2 f3 f4 => ?_
    obtain ⟨kA', comp', r1, r2, r3, r4⟩ := (C.2.2.2.2.2.2.2.1.1.2 3 _ rfl).2
    have hcA : cA = P.2.1 3 := Option.some.inj (f1.symm.trans r4)
    subst hcA
    have hsz := hI.1
    have w2 := w (H.push { cls := P.2.1 3, slots := Array.replicate n.toNatClampNeg .null, vm := .none }) (by
      show (H.push _)[S.2.1]? = some (vp_cell _ _)
      rw [← hsz, Array.getElem?_push_size, vp_cell_q, ← arrV_new]
      rfl) (by rw [Array.size_push, hsz]) (fun q hq => by rw [Array.getElem?_push, if_neg (by omega)])
    exact W.eq (g2 := F0 X.2.2.2.2.1 (pc + 3) ls (.ref S.2.1 :: st)) (by rw [hsz]) w2
theorem g_naQ4 {n : Int32} {idx : Nat} {G : (Nat × St) → Option ρ} (C : CX (OG P) X l cc nL own ret) (hd : decode cc pc = .ok (.anewarray idx, 3)) (hk : Cond.classLink own idx RX6 ∈ lw_all) (kk : ∀ y, nQ_ S 4 n = some y → VF (OG P) X nL fr lo S0 fin (G y) y.2 (pc + 3) lv (.ref y.1 :: st)) : VF (OG P) X nL fr lo S0 fin (nQ_ S 4 n >>= G) S pc lv (.int n :: st) := by
  refine VF.bind (fun y hy => ?_)
  have k2 := kk y hy
  unfold nQ_ at hy
  by_cases hb : n < 0 ∨ 16777216 < n.toNatClampNeg
  · rw [if_pos hb] at hy; cases hy
  · rw [if_neg hb] at hy
    cases hy
    refine VF.new (e := .inl (4, n.toNatClampNeg, .inr (.inr (.inr (.inr (fun _ => none)))))) (n := n.toNatClampNeg) k2 (fun R H locs cells slots Q ls hI hl h1 h2 w _ _ => ?_)
    refine W.anew C.1 C.2.1 C.2.2.2.1 (C.2.2.2.2.1 _ hk) (va_AO.use (C.2.2.2.2.2.2.2.1.2.2.1 RX6 (by simp [aoG]))) rfl hd rfl (fun z => hb (Or.inl z)) (by
      have : n.toNatClampNeg ≤ 16777216 := Nat.not_lt.mp fun z => hb (Or.inr z)
      omega) h1 h2 fun cA kA comp f1 f2 f3 f4 => ?_
    obtain ⟨kA', comp', r1, r2, r3, r4⟩ := (C.2.2.2.2.2.2.2.1.1.2 4 _ rfl).2
    have hcA : cA = P.2.1 4 := Option.some.inj (f1.symm.trans r4)
    subst hcA
    have hsz := hI.1
    have w2 := w (H.push { cls := P.2.1 4, slots := Array.replicate n.toNatClampNeg .null, vm := .none }) (by
      show (H.push _)[S.2.1]? = some (vp_cell _ _)
      rw [← hsz, Array.getElem?_push_size, vp_cell_q, ← arrV_new]
      rfl) (by rw [Array.size_push, hsz]) (fun q hq => by rw [Array.getElem?_push, if_neg (by omega)])
    exact W.eq (g2 := F0 X.2.2.2.2.1 (pc + 3) ls (.ref S.2.1 :: st)) (by rw [hsz]) w2
theorem g_naQ5 {n : Int32} {idx : Nat} {G : (Nat × St) → Option ρ} (C : CX (OG P) X l cc nL own ret) (hd : decode cc pc = .ok (.anewarray idx, 3)) (hk : Cond.classLink own idx "NetworkCenters$Line" ∈ lw_all) (kk : ∀ y, nQ_ S 5 n = some y → VF (OG P) X nL fr lo S0 fin (G y) y.2 (pc + 3) lv (.ref y.1 :: st)) : VF (OG P) X nL fr lo S0 fin (nQ_ S 5 n >>= G) S pc lv (.int n :: st) := by
  refine VF.bind (fun y hy => ?_)
  have k2 := kk y hy
  unfold nQ_ at hy
  by_cases hb : n < 0 ∨ 16777216 < n.toNatClampNeg
  · rw [if_pos hb] at hy; cases hy
  · rw [if_neg hb] at hy
    cases hy
    refine VF.new (e := .inl (5, n.toNatClampNeg, .inr (.inr (.inr (.inr (fun _ => none)))))) (n := n.toNatClampNeg) k2 (fun R H locs cells slots Q ls hI hl h1 h2 w _ _ => ?_)
    refine W.anew C.1 C.2.1 C.2.2.2.1 (C.2.2.2.2.1 _ hk) (va_AO.use (C.2.2.2.2.2.2.2.1.2.2.1 "NetworkCenters$Line" (by simp [aoG]))) rfl hd rfl (fun z => hb (Or.inl z)) (by
      have : n.toNatClampNeg ≤ 16777216 := Nat.not_lt.mp fun z => hb (Or.inr z)
      omega) h1 h2 fun cA kA comp f1 f2 f3 f4 => ?_
    obtain ⟨kA', comp', r1, r2, r3, r4⟩ := (C.2.2.2.2.2.2.2.1.1.2 5 _ rfl).2
    have hcA : cA = P.2.1 5 := Option.some.inj (f1.symm.trans r4)
    subst hcA
    have hsz := hI.1
    have w2 := w (H.push { cls := P.2.1 5, slots := Array.replicate n.toNatClampNeg .null, vm := .none }) (by
      show (H.push _)[S.2.1]? = some (vp_cell _ _)
      rw [← hsz, Array.getElem?_push_size, vp_cell_q, ← arrV_new]
      rfl) (by rw [Array.size_push, hsz]) (fun q hq => by rw [Array.getElem?_push, if_neg (by omega)])
    exact W.eq (g2 := F0 X.2.2.2.2.1 (pc + 3) ls (.ref S.2.1 :: st)) (by rw [hsz]) w2
theorem g_naQ6 {n : Int32} {idx : Nat} {G : (Nat × St) → Option ρ} (C : CX (OG P) X l cc nL own ret) (hd : decode cc pc = .ok (.anewarray idx, 3)) (hk : Cond.classLink own idx "java/lang/Object" ∈ lw_all) (kk : ∀ y, nQ_ S 6 n = some y → VF (OG P) X nL fr lo S0 fin (G y) y.2 (pc + 3) lv (.ref y.1 :: st)) : VF (OG P) X nL fr lo S0 fin (nQ_ S 6 n >>= G) S pc lv (.int n :: st) := by
  refine VF.bind (fun y hy => ?_)
  have k2 := kk y hy
  unfold nQ_ at hy
  by_cases hb : n < 0 ∨ 16777216 < n.toNatClampNeg
  · rw [if_pos hb] at hy; cases hy
  · rw [if_neg hb] at hy
    cases hy
    refine VF.new (e := .inl (6, n.toNatClampNeg, .inr (.inr (.inr (.inr (fun _ => none)))))) (n := n.toNatClampNeg) k2 (fun R H locs cells slots Q ls hI hl h1 h2 w _ _ => ?_)
    refine W.anew C.1 C.2.1 C.2.2.2.1 (C.2.2.2.2.1 _ hk) (va_AO.use (C.2.2.2.2.2.2.2.1.2.2.1 "java/lang/Object" (by simp [aoG]))) rfl hd rfl (fun z => hb (Or.inl z)) (by
      have : n.toNatClampNeg ≤ 16777216 := Nat.not_lt.mp fun z => hb (Or.inr z)
      omega) h1 h2 fun cA kA comp f1 f2 f3 f4 => ?_
    obtain ⟨kA', comp', r1, r2, r3, r4⟩ := (C.2.2.2.2.2.2.2.1.1.2 6 _ rfl).2
    have hcA : cA = P.2.1 6 := Option.some.inj (f1.symm.trans r4)
    subst hcA
    have hsz := hI.1
    have w2 := w (H.push { cls := P.2.1 6, slots := Array.replicate n.toNatClampNeg .null, vm := .none }) (by
      show (H.push _)[S.2.1]? = some (vp_cell _ _)
      rw [← hsz, Array.getElem?_push_size, vp_cell_q, ← arrV_new]
      rfl) (by rw [Array.size_push, hsz]) (fun q hq => by rw [Array.getElem?_push, if_neg (by omega)])
    exact W.eq (g2 := F0 X.2.2.2.2.1 (pc + 3) ls (.ref S.2.1 :: st)) (by rw [hsz]) w2
end GW
