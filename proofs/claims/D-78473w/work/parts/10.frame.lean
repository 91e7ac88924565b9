/-! THE FRAME OF MY WALKS: a method's body is walked in lockstep with a pure partial function E : Option ρ -/
/-- the fixed things of a body; last: whether it returns (none) or throws (the class; .inr: which object is known) -/
abbrev Ctx : Type := Program × Launch × Env × State × MethodId × Array Value × List Frame × Method × Code × Option (String ⊕ String)
/-- a world: what the heap holds at a state, the counters (cells, slots), which addresses may change, what the tables say -/
abbrev Wd (Sg : Type) : Type := (Sg → Heap → Prop) × (Sg → Nat × Nat) × (Sg → Nat → Prop) × (State → Prop) × (Sg → Heap → Prop)
def LE {Sg : Type} (O : Wd Sg) (S S' : Sg) : Prop := (O.2.1 S).1 ≤ (O.2.1 S').1 ∧ (O.2.1 S).2 ≤ (O.2.1 S').2 ∧ ∀ q, O.2.2.1 S' q → O.2.2.1 S q
theorem LE.rf {Sg : Type} {O : Wd Sg} {S : Sg} : LE O S S := ⟨Nat.le_refl _, Nat.le_refl _, fun _ h => h⟩
theorem LE.tr {Sg : Type} {O : Wd Sg} {S S' S'' : Sg} (h : LE O S S') (h2 : LE O S' S'') : LE O S S'' := ⟨Nat.le_trans h.1 h2.1, Nat.le_trans h.2.1 h2.2.1, fun q z => h.2.2 q (h2.2.2 q z)⟩
/-- the tables' words can be taken along -/
def WdOk {Sg : Type} (O : Wd Sg) : Prop := (∀ s U : State, s.WarmedH U.vm → O.2.2.2.1 s → O.2.2.2.1 U) ∧ (∀ (U : State) (g : JFrame) (mk : MethodId) (a : Array Value), O.2.2.2.1 U → O.2.2.2.1 (U.calling g mk a))
abbrev rmOf {Sg : Type} (O : Wd Sg) (fr lo : Nat) (S S' : Sg) : Room := { frames := fr, cells := (O.2.1 S').1 - (O.2.1 S).1, slots := (O.2.1 S').2 - (O.2.1 S).2, locals := lo }
def Qo {Sg : Type} (O : Wd Sg) (S0 : Sg) (f : Option Value × Sg) : Array Value → State → Outcome → State → Prop := fun _ st oc t => oc = .returned f.1 ∧ O.1 f.2 t.heap ∧ va_F (O.2.2.1 S0) st t
/-- a contract: from the world S the method y, called with args, answers v and leaves the world S' -/
def FM {Sg : Type} (l : Launch) (O : Wd Sg) (y : MethodName) (ws : List Cond) (fr lo : Nat) (args : List Value) (S : Sg) (f : Option Value × Sg) : Prop :=
  LE O S f.2 ∧ Met l y ws (rmOf O fr lo S f.2) (va_Pc args (fun U => O.1 S U.heap ∧ O.2.2.2.1 U)) (Qo O S f) ((O.2.1 f.2).1 - (O.2.1 S).1) ((O.2.1 f.2).2 - (O.2.1 S).2) (O.2.2.1 S)
/-- the end of a body that throws: the heap holds the state but for its size -/
def Xo {Sg : Type} (O : Wd Sg) (S0 : Sg) (E : String) (S' : Sg) : String → State → State → Prop := fun E' st t => E' = E ∧ O.2.2.2.2 S' t.heap ∧ va_F (O.2.2.1 S0) st t
def Xf {Sg : Type} (O : Wd Sg) (S0 : Sg) (E : String) (f : Option Value × Sg) : Addr → String → State → State → Prop := fun q E' st t => E' = E ∧ f.1 = some (.ref q) ∧ O.1 f.2 t.heap ∧ va_F (O.2.2.1 S0) st t
def Qz {Sg : Type} (O : Wd Sg) (X : Ctx) (S0 : Sg) (f : Option Value × Sg) : State → Prop := match X.2.2.2.2.2.2.2.2.2 with
  | none => MQ X.2.2.2.2.2.2.1 (Qo O S0 f) X.2.2.2.2.2.1 X.2.2.2.1 ((O.2.1 f.2).1 - (O.2.1 S0).1) ((O.2.1 f.2).2 - (O.2.1 S0).2) (O.2.2.1 S0)
  | some (.inl E) => vx_MQ X.2.2.2.2.2.2.1 (fun _ _ _ _ => False) (Xo O S0 E f.2) X.2.2.2.2.2.1 X.2.2.2.1 ((O.2.1 f.2).1 - (O.2.1 S0).1) ((O.2.1 f.2).2 - (O.2.1 S0).2) (O.2.2.1 S0)
  | some (.inr E) => fx_MQ X.2.2.2.2.2.2.1 (fun _ _ _ _ => False) (Xf O S0 E f) X.2.2.2.2.2.1 X.2.2.2.1 ((O.2.1 f.2).1 - (O.2.1 S0).1) ((O.2.1 f.2).2 - (O.2.1 S0).2) (O.2.2.1 S0)
/-- what holds in a body -/
def CX {Sg : Type} (O : Wd Sg) (X : Ctx) (l : Launch) (cc : ByteArray) (nL : Nat) (own : String) (ret : Option FieldType) : Prop :=
  X.1.tables.exec = Jvm.exec ∧ X.2.2.2.2.2.2.2.2.1.code = cc ∧ X.2.2.2.2.2.2.2.2.1.maxLocals = nL ∧ X.2.2.2.1.vm.findClass own = some X.2.2.2.2.1.cls ∧ (∀ w ∈ lw_all, w.before X.2.2.2.2.2.1 X.2.2.2.1 = true) ∧ X.2.2.2.2.2.2.2.1.sig.returnType = ret ∧ X.2.2.2.2.2.2.2.1.locks = false ∧ O.2.2.2.1 X.2.2.2.1 ∧ X.2.1 = l ∧ WdOk O
def V {Sg : Type} (O : Wd Sg) (X : Ctx) (nL fr lo : Nat) (S0 : Sg) (f : Option Value × Sg) (S : Sg) (pc : Nat) (lv : List (Nat × Value)) (st : List Value) : Prop :=
  ∀ (H : Heap) (locs : List Loc) (ls : Array Slot), O.1 S H → va_S (O.2.2.1 S0) X.2.2.2.1.heap H locs → lv_has ls nL lv →
    W X.1 X.2.1 X.2.2.1 (headSpec [] (rmOf O fr lo S0 f.2)).room X.2.2.2.1 X.2.2.2.2.1 X.2.2.2.2.2.1 X.2.2.2.2.2.2.1 X.2.2.2.2.2.2.2.1 X.2.2.2.2.2.2.2.2.1 H locs ((O.2.1 S).1 - (O.2.1 S0).1) ((O.2.1 S).2 - (O.2.1 S0).2)
      (Qz O X S0 f) (F0 X.2.2.2.2.1 pc ls st)
/-- the machine at pc does what the pure E says -/
def VF {Sg ρ : Type} (O : Wd Sg) (X : Ctx) (nL fr lo : Nat) (S0 : Sg) (fin : ρ → Option Value × Sg) (E : Option ρ) (S : Sg) (pc : Nat) (lv : List (Nat × Value)) (st : List Value) : Prop :=
  ∀ r, E = some r → LE O S0 S → LE O S (fin r).2 ∧ V O X nL fr lo S0 (fin r) S pc lv st
section FR
variable {Sg ρ : Type} {O : Wd Sg} {X : Ctx} {l : Launch} {cc : ByteArray} {nL fr lo : Nat} {own : String} {ret : Option FieldType} {S0 S : Sg} {fin : ρ → Option Value × Sg} {E : Option ρ} {pc : Nat} {lv : List (Nat × Value)} {st : List Value}
theorem VF.lift {pc' : Nat} {st' : List Value} (k : VF O X nL fr lo S0 fin E S pc' lv st')
    (h : ∀ (R : Room) (H : Heap) (locs : List Loc) (cells slots : Nat) (Q : State → Prop) (ls : Array Slot), lv_has ls nL lv → W X.1 X.2.1 X.2.2.1 R X.2.2.2.1 X.2.2.2.2.1 X.2.2.2.2.2.1 X.2.2.2.2.2.2.1 X.2.2.2.2.2.2.2.1 X.2.2.2.2.2.2.2.2.1 H locs cells slots Q (F0 X.2.2.2.2.1 pc' ls st') → W X.1 X.2.1 X.2.2.1 R X.2.2.2.1 X.2.2.2.2.1 X.2.2.2.2.2.1 X.2.2.2.2.2.2.1 X.2.2.2.2.2.2.2.1 X.2.2.2.2.2.2.2.2.1 H locs cells slots Q (F0 X.2.2.2.2.1 pc ls st)) : VF O X nL fr lo S0 fin E S pc lv st := by
  intro r hr hL
  obtain ⟨h1, h2⟩ := k r hr hL
  exact ⟨h1, fun H locs ls hI hS hl => h _ _ _ _ _ _ _ hl (h2 H locs ls hI hS hl)⟩
theorem VF.lifts {pc' : Nat} {lv' : List (Nat × Value)} {st' : List Value} (k : VF O X nL fr lo S0 fin E S pc' lv' st')
    (h : ∀ (R : Room) (H : Heap) (locs : List Loc) (cells slots : Nat) (Q : State → Prop) (ls : Array Slot), lv_has ls nL lv → (∀ ls' : Array Slot, lv_has ls' nL lv' → W X.1 X.2.1 X.2.2.1 R X.2.2.2.1 X.2.2.2.2.1 X.2.2.2.2.2.1 X.2.2.2.2.2.2.1 X.2.2.2.2.2.2.2.1 X.2.2.2.2.2.2.2.2.1 H locs cells slots Q (F0 X.2.2.2.2.1 pc' ls' st')) → W X.1 X.2.1 X.2.2.1 R X.2.2.2.1 X.2.2.2.2.1 X.2.2.2.2.2.1 X.2.2.2.2.2.2.1 X.2.2.2.2.2.2.2.1 X.2.2.2.2.2.2.2.2.1 H locs cells slots Q (F0 X.2.2.2.2.1 pc ls st)) : VF O X nL fr lo S0 fin E S pc lv st := by
  intro r hr hL
  obtain ⟨h1, h2⟩ := k r hr hL
  exact ⟨h1, fun H locs ls hI hS hl => h _ _ _ _ _ _ _ hl (fun ls' hl' => h2 H locs ls' hI hS hl')⟩
theorem VF.lift2 {c : Prop} {ic : Decidable c} {Ea Eb : Option ρ} {pa pb : Nat} {sa sb : List Value} (ka : c → VF O X nL fr lo S0 fin Ea S pa lv sa) (kb : ¬ c → VF O X nL fr lo S0 fin Eb S pb lv sb)
    (h : ∀ (R : Room) (H : Heap) (locs : List Loc) (cells slots : Nat) (Q : State → Prop) (ls : Array Slot), (c → W X.1 X.2.1 X.2.2.1 R X.2.2.2.1 X.2.2.2.2.1 X.2.2.2.2.2.1 X.2.2.2.2.2.2.1 X.2.2.2.2.2.2.2.1 X.2.2.2.2.2.2.2.2.1 H locs cells slots Q (F0 X.2.2.2.2.1 pa ls sa)) → (¬ c → W X.1 X.2.1 X.2.2.1 R X.2.2.2.1 X.2.2.2.2.1 X.2.2.2.2.2.1 X.2.2.2.2.2.2.1 X.2.2.2.2.2.2.2.1 X.2.2.2.2.2.2.2.2.1 H locs cells slots Q (F0 X.2.2.2.2.1 pb ls sb)) → W X.1 X.2.1 X.2.2.1 R X.2.2.2.1 X.2.2.2.2.1 X.2.2.2.2.2.1 X.2.2.2.2.2.2.1 X.2.2.2.2.2.2.2.1 X.2.2.2.2.2.2.2.2.1 H locs cells slots Q (F0 X.2.2.2.2.1 pc ls st)) : VF O X nL fr lo S0 fin (@ite _ c ic Ea Eb) S pc lv st := by
  intro r hr hL
  by_cases hc : c
  · rw [if_pos hc] at hr
    obtain ⟨h1, h2⟩ := ka hc r hr hL
    exact ⟨h1, fun H locs ls hI hS hl => h _ _ _ _ _ _ _ (fun _ => h2 H locs ls hI hS hl) (fun n => absurd hc n)⟩
  · rw [if_neg hc] at hr
    obtain ⟨h1, h2⟩ := kb hc r hr hL
    exact ⟨h1, fun H locs ls hI hS hl => h _ _ _ _ _ _ _ (fun n => absurd n hc) (fun _ => h2 H locs ls hI hS hl)⟩
/-- a partial step: the walk goes on with its value -/
theorem VF.bind {α : Type} {F : Option α} {G : α → Option ρ} (k : ∀ a, F = some a → VF O X nL fr lo S0 fin (G a) S pc lv st) : VF O X nL fr lo S0 fin (F >>= G) S pc lv st := by
  intro r hr hL
  cases hF : F with
  | none => rw [hF] at hr; cases hr
  | some a => rw [hF] at hr; exact k a hF r hr hL
theorem VF.none : VF O X nL fr lo S0 fin (Option.none : Option ρ) S pc lv st := fun r hr => by cases hr
theorem v_leti {x : Int32} {G : Int32 → Option ρ} (k : ∀ y : Int32, y = x → VF O X nL fr lo S0 fin (G y) S pc lv (.int y :: st)) : VF O X nL fr lo S0 fin (some x >>= G) S pc lv (.int x :: st) := k x rfl
theorem v_letl {x : Int64} {G : Int64 → Option ρ} (k : ∀ y : Int64, y = x → VF O X nL fr lo S0 fin (G y) S pc lv (.long y :: st)) : VF O X nL fr lo S0 fin (some x >>= G) S pc lv (.long x :: st) := k x rfl
theorem v_iconst (C : CX O X l cc nL own ret) {n : Int} {v : Int32} (hd : decode cc pc = .ok (.iconst n, 1)) (hv : Int32.ofInt n = v) (k : VF O X nL fr lo S0 fin E S (pc + 1) lv (.int v :: st)) : VF O X nL fr lo S0 fin E S pc lv (st) :=
  VF.lift k (fun _ _ _ _ _ _ _ hl kk => lv_iconst C.1 C.2.1 hd hv kk)
theorem v_bipush (C : CX O X l cc nL own ret) {n : Int} {v : Int32} (hd : decode cc pc = .ok (.bipush n, 2)) (hv : (Int8.ofInt n).toInt32 = v) (k : VF O X nL fr lo S0 fin E S (pc + 2) lv (.int v :: st)) : VF O X nL fr lo S0 fin E S pc lv (st) :=
  VF.lift k (fun _ _ _ _ _ _ _ hl kk => lv_bipush C.1 C.2.1 hd hv kk)
theorem v_sipush (C : CX O X l cc nL own ret) {n : Int} {v : Int32} (hd : decode cc pc = .ok (.sipush n, 3)) (hv : (Int16.ofInt n).toInt32 = v) (k : VF O X nL fr lo S0 fin E S (pc + 3) lv (.int v :: st)) : VF O X nL fr lo S0 fin E S pc lv (st) :=
  VF.lift k (fun _ _ _ _ _ _ _ hl kk => lv_sipush C.1 C.2.1 hd hv kk)
theorem v_lconst (C : CX O X l cc nL own ret) {n : Fin 2} {v : Int64} (hd : decode cc pc = .ok (.lconst n, 1)) (hv : Int64.ofNat n = v) (k : VF O X nL fr lo S0 fin E S (pc + 1) lv (.long v :: st)) : VF O X nL fr lo S0 fin E S pc lv (st) :=
  VF.lift k (fun _ _ _ _ _ _ _ hl kk => lv_lconst C.1 C.2.1 hd hv kk)
theorem v_ldc (C : CX O X l cc nL own ret) {v : Int32} {i : Nat} (hd : decode cc pc = .ok (.ldc i, 2)) (hc : Jvm.Cond.constant own i v ∈ lw_all) (k : VF O X nL fr lo S0 fin E S (pc + 2) lv (.int v :: st)) : VF O X nL fr lo S0 fin E S pc lv (st) :=
  VF.lift k (fun _ _ _ _ _ _ _ hl kk => lv_ldc C.1 C.2.1 C.2.2.2.1 (C.2.2.2.2.1 _ hc) hd kk)
theorem v_ldc2 (C : CX O X l cc nL own ret) {v : Int64} {i : Nat} (hd : decode cc pc = .ok (.ldc2_w i, 3)) (hc : Jvm.Cond.constantLong own i v ∈ lw_all) (k : VF O X nL fr lo S0 fin E S (pc + 3) lv (.long v :: st)) : VF O X nL fr lo S0 fin E S pc lv (st) :=
  VF.lift k (fun _ _ _ _ _ _ _ hl kk => lv_ldc2 C.1 C.2.1 C.2.2.2.1 (C.2.2.2.2.1 _ hc) hd kk)
theorem v_iload_n (C : CX O X l cc nL own ret) {k0 : Fin 4} {x : Int32} (hd : decode cc pc = .ok (.iload_n k0, 1)) (j : Nat) (hj : lv[j]? = some (k0.val, .int x)) (k : VF O X nL fr lo S0 fin E S (pc + 1) lv (.int x :: st)) : VF O X nL fr lo S0 fin E S pc lv (st) :=
  VF.lift k (fun _ _ _ _ _ _ _ hl kk => lv_iload_n C.1 C.2.1 hd rfl (lv_at hl j hj) kk)
theorem v_iload (C : CX O X l cc nL own ret) {i : Nat} {x : Int32} (hd : decode cc pc = .ok (.iload i, 2)) (j : Nat) (hj : lv[j]? = some (i, .int x)) (k : VF O X nL fr lo S0 fin E S (pc + 2) lv (.int x :: st)) : VF O X nL fr lo S0 fin E S pc lv (st) :=
  VF.lift k (fun _ _ _ _ _ _ _ hl kk => lv_iload C.1 C.2.1 hd (lv_at hl j hj) kk)
theorem v_lload_n (C : CX O X l cc nL own ret) {k0 : Fin 4} {x : Int64} (hd : decode cc pc = .ok (.lload_n k0, 1)) (j : Nat) (hj : lv[j]? = some (k0.val, .long x)) (k : VF O X nL fr lo S0 fin E S (pc + 1) lv (.long x :: st)) : VF O X nL fr lo S0 fin E S pc lv (st) :=
  VF.lift k (fun _ _ _ _ _ _ _ hl kk => lv_lload_n C.1 C.2.1 hd rfl (lv_at hl j hj) kk)
theorem v_lload (C : CX O X l cc nL own ret) {i : Nat} {x : Int64} (hd : decode cc pc = .ok (.lload i, 2)) (j : Nat) (hj : lv[j]? = some (i, .long x)) (k : VF O X nL fr lo S0 fin E S (pc + 2) lv (.long x :: st)) : VF O X nL fr lo S0 fin E S pc lv (st) :=
  VF.lift k (fun _ _ _ _ _ _ _ hl kk => lv_lload C.1 C.2.1 hd (lv_at hl j hj) kk)
theorem v_aload_n (C : CX O X l cc nL own ret) {k0 : Fin 4} {x : Nat} (hd : decode cc pc = .ok (.aload_n k0, 1)) (j : Nat) (hj : lv[j]? = some (k0.val, .ref x)) (k : VF O X nL fr lo S0 fin E S (pc + 1) lv (.ref x :: st)) : VF O X nL fr lo S0 fin E S pc lv (st) :=
  VF.lift k (fun _ _ _ _ _ _ _ hl kk => lv_aload_n C.1 C.2.1 hd rfl (lv_at hl j hj) kk)
theorem v_aload (C : CX O X l cc nL own ret) {i : Nat} {x : Nat} (hd : decode cc pc = .ok (.aload i, 2)) (j : Nat) (hj : lv[j]? = some (i, .ref x)) (k : VF O X nL fr lo S0 fin E S (pc + 2) lv (.ref x :: st)) : VF O X nL fr lo S0 fin E S pc lv (st) :=
  VF.lift k (fun _ _ _ _ _ _ _ hl kk => lv_aload C.1 C.2.1 hd (lv_at hl j hj) kk)
theorem v_iadd (C : CX O X l cc nL own ret) {x y : Int32} (hd : decode cc pc = .ok (.iadd, 1)) (k : VF O X nL fr lo S0 fin E S (pc + 1) lv (.int (x + y) :: st)) : VF O X nL fr lo S0 fin E S pc lv (.int y :: .int x :: st) :=
  VF.lift k (fun _ _ _ _ _ _ _ hl kk => lv_iadd C.1 C.2.1 hd kk)
theorem v_isub (C : CX O X l cc nL own ret) {x y : Int32} (hd : decode cc pc = .ok (.isub, 1)) (k : VF O X nL fr lo S0 fin E S (pc + 1) lv (.int (x - y) :: st)) : VF O X nL fr lo S0 fin E S pc lv (.int y :: .int x :: st) :=
  VF.lift k (fun _ _ _ _ _ _ _ hl kk => lv_isub C.1 C.2.1 hd kk)
theorem v_imul (C : CX O X l cc nL own ret) {x y : Int32} (hd : decode cc pc = .ok (.imul, 1)) (k : VF O X nL fr lo S0 fin E S (pc + 1) lv (.int (x * y) :: st)) : VF O X nL fr lo S0 fin E S pc lv (.int y :: .int x :: st) :=
  VF.lift k (fun _ _ _ _ _ _ _ hl kk => lv_imul C.1 C.2.1 hd kk)
theorem v_iand (C : CX O X l cc nL own ret) {x y : Int32} (hd : decode cc pc = .ok (.iand, 1)) (k : VF O X nL fr lo S0 fin E S (pc + 1) lv (.int (x &&& y) :: st)) : VF O X nL fr lo S0 fin E S pc lv (.int y :: .int x :: st) :=
  VF.lift k (fun _ _ _ _ _ _ _ hl kk => lv_iand C.1 C.2.1 hd kk)
theorem v_ior (C : CX O X l cc nL own ret) {x y : Int32} (hd : decode cc pc = .ok (.ior, 1)) (k : VF O X nL fr lo S0 fin E S (pc + 1) lv (.int (x ||| y) :: st)) : VF O X nL fr lo S0 fin E S pc lv (.int y :: .int x :: st) :=
  VF.lift k (fun _ _ _ _ _ _ _ hl kk => lv_ior C.1 C.2.1 hd kk)
theorem v_ixor (C : CX O X l cc nL own ret) {x y : Int32} (hd : decode cc pc = .ok (.ixor, 1)) (k : VF O X nL fr lo S0 fin E S (pc + 1) lv (.int (x ^^^ y) :: st)) : VF O X nL fr lo S0 fin E S pc lv (.int y :: .int x :: st) :=
  VF.lift k (fun _ _ _ _ _ _ _ hl kk => lv_ixor C.1 C.2.1 hd kk)
theorem v_ishl (C : CX O X l cc nL own ret) {x y : Int32} (hd : decode cc pc = .ok (.ishl, 1)) (k : VF O X nL fr lo S0 fin E S (pc + 1) lv (.int (x <<< (y &&& 31)) :: st)) : VF O X nL fr lo S0 fin E S pc lv (.int y :: .int x :: st) :=
  VF.lift k (fun _ _ _ _ _ _ _ hl kk => lv_ishl C.1 C.2.1 hd kk)
theorem v_ishr (C : CX O X l cc nL own ret) {x y : Int32} (hd : decode cc pc = .ok (.ishr, 1)) (k : VF O X nL fr lo S0 fin E S (pc + 1) lv (.int (x >>> (y &&& 31)) :: st)) : VF O X nL fr lo S0 fin E S pc lv (.int y :: .int x :: st) :=
  VF.lift k (fun _ _ _ _ _ _ _ hl kk => lv_ishr C.1 C.2.1 hd kk)
theorem v_ladd (C : CX O X l cc nL own ret) {x y : Int64} (hd : decode cc pc = .ok (.ladd, 1)) (k : VF O X nL fr lo S0 fin E S (pc + 1) lv (.long (x + y) :: st)) : VF O X nL fr lo S0 fin E S pc lv (.long y :: .long x :: st) :=
  VF.lift k (fun _ _ _ _ _ _ _ hl kk => lv_ladd C.1 C.2.1 hd kk)
theorem v_lsub (C : CX O X l cc nL own ret) {x y : Int64} (hd : decode cc pc = .ok (.lsub, 1)) (k : VF O X nL fr lo S0 fin E S (pc + 1) lv (.long (x - y) :: st)) : VF O X nL fr lo S0 fin E S pc lv (.long y :: .long x :: st) :=
  VF.lift k (fun _ _ _ _ _ _ _ hl kk => lv_lsub C.1 C.2.1 hd kk)
theorem v_lmul (C : CX O X l cc nL own ret) {x y : Int64} (hd : decode cc pc = .ok (.lmul, 1)) (k : VF O X nL fr lo S0 fin E S (pc + 1) lv (.long (x * y) :: st)) : VF O X nL fr lo S0 fin E S pc lv (.long y :: .long x :: st) :=
  VF.lift k (fun _ _ _ _ _ _ _ hl kk => lv_lmul C.1 C.2.1 hd kk)
theorem v_land (C : CX O X l cc nL own ret) {x y : Int64} (hd : decode cc pc = .ok (.land, 1)) (k : VF O X nL fr lo S0 fin E S (pc + 1) lv (.long (x &&& y) :: st)) : VF O X nL fr lo S0 fin E S pc lv (.long y :: .long x :: st) :=
  VF.lift k (fun _ _ _ _ _ _ _ hl kk => lv_land C.1 C.2.1 hd kk)
theorem v_lor (C : CX O X l cc nL own ret) {x y : Int64} (hd : decode cc pc = .ok (.lor, 1)) (k : VF O X nL fr lo S0 fin E S (pc + 1) lv (.long (x ||| y) :: st)) : VF O X nL fr lo S0 fin E S pc lv (.long y :: .long x :: st) :=
  VF.lift k (fun _ _ _ _ _ _ _ hl kk => lv_lor C.1 C.2.1 hd kk)
theorem v_lxor (C : CX O X l cc nL own ret) {x y : Int64} (hd : decode cc pc = .ok (.lxor, 1)) (k : VF O X nL fr lo S0 fin E S (pc + 1) lv (.long (x ^^^ y) :: st)) : VF O X nL fr lo S0 fin E S pc lv (.long y :: .long x :: st) :=
  VF.lift k (fun _ _ _ _ _ _ _ hl kk => lv_lxor C.1 C.2.1 hd kk)
theorem v_ineg (C : CX O X l cc nL own ret) {x : Int32} (hd : decode cc pc = .ok (.ineg, 1)) (k : VF O X nL fr lo S0 fin E S (pc + 1) lv (.int (-x) :: st)) : VF O X nL fr lo S0 fin E S pc lv (.int x :: st) :=
  VF.lift k (fun _ _ _ _ _ _ _ hl kk => lv_ineg C.1 C.2.1 hd kk)
theorem v_lneg (C : CX O X l cc nL own ret) {x : Int64} (hd : decode cc pc = .ok (.lneg, 1)) (k : VF O X nL fr lo S0 fin E S (pc + 1) lv (.long (-x) :: st)) : VF O X nL fr lo S0 fin E S pc lv (.long x :: st) :=
  VF.lift k (fun _ _ _ _ _ _ _ hl kk => lv_lneg C.1 C.2.1 hd kk)
theorem v_i2l (C : CX O X l cc nL own ret) {x : Int32} (hd : decode cc pc = .ok (.i2l, 1)) (k : VF O X nL fr lo S0 fin E S (pc + 1) lv (.long x.toInt64 :: st)) : VF O X nL fr lo S0 fin E S pc lv (.int x :: st) :=
  VF.lift k (fun _ _ _ _ _ _ _ hl kk => lv_i2l C.1 C.2.1 hd rfl kk)
theorem v_l2i (C : CX O X l cc nL own ret) {x : Int64} (hd : decode cc pc = .ok (.l2i, 1)) (k : VF O X nL fr lo S0 fin E S (pc + 1) lv (.int x.toInt32 :: st)) : VF O X nL fr lo S0 fin E S pc lv (.long x :: st) :=
  VF.lift k (fun _ _ _ _ _ _ _ hl kk => lv_l2i C.1 C.2.1 hd rfl kk)
theorem v_i2c (C : CX O X l cc nL own ret) {x : Int32} (hd : decode cc pc = .ok (.i2c, 1)) (k : VF O X nL fr lo S0 fin E S (pc + 1) lv (.int (x.toUInt32 % 65536).toInt32 :: st)) : VF O X nL fr lo S0 fin E S pc lv (.int x :: st) :=
  VF.lift k (fun _ _ _ _ _ _ _ hl kk => lv_i2c C.1 C.2.1 hd rfl kk)
theorem v_i2b (C : CX O X l cc nL own ret) {x : Int32} (hd : decode cc pc = .ok (.i2b, 1)) (k : VF O X nL fr lo S0 fin E S (pc + 1) lv (.int x.toInt8.toInt32 :: st)) : VF O X nL fr lo S0 fin E S pc lv (.int x :: st) :=
  VF.lift k (fun _ _ _ _ _ _ _ hl kk => lv_i2b C.1 C.2.1 hd rfl kk)
theorem v_iushr (C : CX O X l cc nL own ret) {x y : Int32} (hd : decode cc pc = .ok (.iushr, 1)) (k : VF O X nL fr lo S0 fin E S (pc + 1) lv (.int (x.toUInt32 >>> (y.toUInt32 &&& Int32.toUInt32 31)).toInt32 :: st)) : VF O X nL fr lo S0 fin E S pc lv (.int y :: .int x :: st) :=
  VF.lift k (fun _ _ _ _ _ _ _ hl kk => lv_iushr C.1 C.2.1 hd rfl kk)
theorem v_lushr (C : CX O X l cc nL own ret) {x : Int64} {y : Int32} (hd : decode cc pc = .ok (.lushr, 1)) (k : VF O X nL fr lo S0 fin E S (pc + 1) lv (.long (x.toUInt64 >>> (y.toInt64.toUInt64 &&& Int64.toUInt64 63)).toInt64 :: st)) : VF O X nL fr lo S0 fin E S pc lv (.int y :: .long x :: st) :=
  VF.lift k (fun _ _ _ _ _ _ _ hl kk => lv_lushr C.1 C.2.1 hd rfl kk)
theorem v_lshl (C : CX O X l cc nL own ret) {x : Int64} {y : Int32} (hd : decode cc pc = .ok (.lshl, 1)) (k : VF O X nL fr lo S0 fin E S (pc + 1) lv (.long (x <<< (y.toInt64 &&& 63)) :: st)) : VF O X nL fr lo S0 fin E S pc lv (.int y :: .long x :: st) :=
  VF.lift k (fun _ _ _ _ _ _ _ hl kk => lv_lshl C.1 C.2.1 hd rfl kk)
theorem v_lcmp (C : CX O X l cc nL own ret) {x y : Int64} (hd : decode cc pc = .ok (.lcmp, 1)) (k : VF O X nL fr lo S0 fin E S (pc + 1) lv (.int (lg_cmp x y) :: st)) : VF O X nL fr lo S0 fin E S pc lv (.long y :: .long x :: st) :=
  VF.lift k (fun _ _ _ _ _ _ _ hl kk => W.lcmp C.1 C.2.1 hd kk)
theorem v_idiv (C : CX O X l cc nL own ret) {x y : Int32} {i0 : Decidable (y = 0)} {G : Option ρ} (hd : decode cc pc = .ok (.idiv, 1)) (k : ¬ y = 0 → VF O X nL fr lo S0 fin G S (pc + 1) lv (.int (x / y) :: st)) : VF O X nL fr lo S0 fin (@ite _ (y = 0) i0 Option.none G) S pc lv (.int y :: .int x :: st) := by
  intro r hr hL
  by_cases hy : y = 0
  · rw [if_pos hy] at hr; cases hr
  · rw [if_neg hy] at hr
    exact VF.lift (k hy) (fun _ _ _ _ _ _ _ hl kk => lv_idiv C.1 C.2.1 hd hy kk) r hr hL
theorem v_irem (C : CX O X l cc nL own ret) {x y : Int32} {i0 : Decidable (y = 0)} {G : Option ρ} (hd : decode cc pc = .ok (.irem, 1)) (k : ¬ y = 0 → VF O X nL fr lo S0 fin G S (pc + 1) lv (.int (x - x / y * y) :: st)) : VF O X nL fr lo S0 fin (@ite _ (y = 0) i0 Option.none G) S pc lv (.int y :: .int x :: st) := by
  intro r hr hL
  by_cases hy : y = 0
  · rw [if_pos hy] at hr; cases hr
  · rw [if_neg hy] at hr
    exact VF.lift (k hy) (fun _ _ _ _ _ _ _ hl kk => lv_irem C.1 C.2.1 hd hy kk) r hr hL
theorem v_ldiv (C : CX O X l cc nL own ret) {x y : Int64} {i0 : Decidable (y = 0)} {G : Option ρ} (hd : decode cc pc = .ok (.ldiv, 1)) (k : ¬ y = 0 → VF O X nL fr lo S0 fin G S (pc + 1) lv (.long (x / y) :: st)) : VF O X nL fr lo S0 fin (@ite _ (y = 0) i0 Option.none G) S pc lv (.long y :: .long x :: st) := by
  intro r hr hL
  by_cases hy : y = 0
  · rw [if_pos hy] at hr; cases hr
  · rw [if_neg hy] at hr
    exact VF.lift (k hy) (fun _ _ _ _ _ _ _ hl kk => lv_ldiv C.1 C.2.1 hd hy kk) r hr hL
theorem v_lrem (C : CX O X l cc nL own ret) {x y : Int64} {i0 : Decidable (y = 0)} {G : Option ρ} (hd : decode cc pc = .ok (.lrem, 1)) (k : ¬ y = 0 → VF O X nL fr lo S0 fin G S (pc + 1) lv (.long (x - x / y * y) :: st)) : VF O X nL fr lo S0 fin (@ite _ (y = 0) i0 Option.none G) S pc lv (.long y :: .long x :: st) := by
  intro r hr hL
  by_cases hy : y = 0
  · rw [if_pos hy] at hr; cases hr
  · rw [if_neg hy] at hr
    exact VF.lift (k hy) (fun _ _ _ _ _ _ _ hl kk => lv_lrem C.1 C.2.1 hd hy kk) r hr hL
theorem v_dup (C : CX O X l cc nL own ret) {v : Value} (hd : decode cc pc = .ok (.dup, 1)) (hv : v.category = 1) (k : VF O X nL fr lo S0 fin E S (pc + 1) lv (v :: v :: st)) : VF O X nL fr lo S0 fin E S pc lv (v :: st) :=
  VF.lift k (fun _ _ _ _ _ _ _ hl kk => lv_dup C.1 C.2.1 hd hv kk)
theorem v_pop (C : CX O X l cc nL own ret) {v : Value} (hd : decode cc pc = .ok (.pop, 1)) (hv : v.category = 1) (k : VF O X nL fr lo S0 fin E S (pc + 1) lv (st)) : VF O X nL fr lo S0 fin E S pc lv (v :: st) :=
  VF.lift k (fun _ _ _ _ _ _ _ hl kk => lv_pop C.1 C.2.1 hd hv kk)
theorem v_dup_x1 (C : CX O X l cc nL own ret) {va vb : Value} (hd : decode cc pc = .ok (.dup_x1, 1)) (ha : va.category = 1) (hb2 : vb.category = 1) (k : VF O X nL fr lo S0 fin E S (pc + 1) lv (va :: vb :: va :: st)) : VF O X nL fr lo S0 fin E S pc lv (va :: vb :: st) :=
  VF.lift k (fun _ _ _ _ _ _ _ hl kk => lv_dup_x1 C.1 C.2.1 hd ha hb2 kk)
theorem v_dup2_11 (C : CX O X l cc nL own ret) {va vb : Value} (hd : decode cc pc = .ok (.dup2, 1)) (ha : va.category = 1) (hb2 : vb.category = 1) (k : VF O X nL fr lo S0 fin E S (pc + 1) lv (va :: vb :: va :: vb :: st)) : VF O X nL fr lo S0 fin E S pc lv (va :: vb :: st) :=
  VF.lift k (fun _ _ _ _ _ _ _ hl kk => lv_dup2_11 C.1 C.2.1 hd ha hb2 kk)
theorem v_dup2_2 (C : CX O X l cc nL own ret) {va : Value} (hd : decode cc pc = .ok (.dup2, 1)) (ha : va.category = 2) (k : VF O X nL fr lo S0 fin E S (pc + 1) lv (va :: va :: st)) : VF O X nL fr lo S0 fin E S pc lv (va :: st) :=
  VF.lift k (fun _ _ _ _ _ _ _ hl kk => lv_dup2_2 C.1 C.2.1 hd ha kk)
theorem v_istore_n (C : CX O X l cc nL own ret) {k0 : Fin 4} {x : Int32} {lv' : List (Nat × Value)} (hd : decode cc pc = .ok (.istore_n k0, 1)) (hn : k0.val < nL) (hl' : (k0.val, Value.int x) :: lv.filter (fun q => !(q.1 == k0.val) && !(q.1 + 1 == k0.val && q.2.category == 2)) = lv') (k : VF O X nL fr lo S0 fin E S (pc + 1) lv' st) : VF O X nL fr lo S0 fin E S pc lv (.int x :: st) :=
  VF.lifts k (fun _ _ _ _ _ _ _ hl kk => lv_istore_n C.1 C.2.1 hd rfl hl hn hl' kk)
theorem v_istore (C : CX O X l cc nL own ret) {i : Nat} {x : Int32} {lv' : List (Nat × Value)} (hd : decode cc pc = .ok (.istore i, 2)) (hn : i < nL) (hl' : (i, Value.int x) :: lv.filter (fun q => !(q.1 == i) && !(q.1 + 1 == i && q.2.category == 2)) = lv') (k : VF O X nL fr lo S0 fin E S (pc + 2) lv' st) : VF O X nL fr lo S0 fin E S pc lv (.int x :: st) :=
  VF.lifts k (fun _ _ _ _ _ _ _ hl kk => lv_istore C.1 C.2.1 hd hl hn hl' kk)
theorem v_lstore_n (C : CX O X l cc nL own ret) {k0 : Fin 4} {x : Int64} {lv' : List (Nat × Value)} (hd : decode cc pc = .ok (.lstore_n k0, 1)) (hn : k0.val + 1 < nL) (hl' : (k0.val, Value.long x) :: lv.filter (fun q => !(q.1 == k0.val) && (!(q.1 == k0.val + 1) && !(q.1 + 1 == k0.val && q.2.category == 2))) = lv') (k : VF O X nL fr lo S0 fin E S (pc + 1) lv' st) : VF O X nL fr lo S0 fin E S pc lv (.long x :: st) :=
  VF.lifts k (fun _ _ _ _ _ _ _ hl kk => lv_lstore_n C.1 C.2.1 hd rfl hl hn hl' kk)
theorem v_lstore (C : CX O X l cc nL own ret) {i : Nat} {x : Int64} {lv' : List (Nat × Value)} (hd : decode cc pc = .ok (.lstore i, 2)) (hn : i + 1 < nL) (hl' : (i, Value.long x) :: lv.filter (fun q => !(q.1 == i) && (!(q.1 == i + 1) && !(q.1 + 1 == i && q.2.category == 2))) = lv') (k : VF O X nL fr lo S0 fin E S (pc + 2) lv' st) : VF O X nL fr lo S0 fin E S pc lv (.long x :: st) :=
  VF.lifts k (fun _ _ _ _ _ _ _ hl kk => lv_lstore C.1 C.2.1 hd hl hn hl' kk)
theorem v_astore_n (C : CX O X l cc nL own ret) {k0 : Fin 4} {x : Nat} {lv' : List (Nat × Value)} (hd : decode cc pc = .ok (.astore_n k0, 1)) (hn : k0.val < nL) (hl' : (k0.val, Value.ref x) :: lv.filter (fun q => !(q.1 == k0.val) && !(q.1 + 1 == k0.val && q.2.category == 2)) = lv') (k : VF O X nL fr lo S0 fin E S (pc + 1) lv' st) : VF O X nL fr lo S0 fin E S pc lv (.ref x :: st) :=
  VF.lifts k (fun _ _ _ _ _ _ _ hl kk => lv_astore_n C.1 C.2.1 hd rfl hl hn hl' kk)
theorem v_astore (C : CX O X l cc nL own ret) {i : Nat} {x : Nat} {lv' : List (Nat × Value)} (hd : decode cc pc = .ok (.astore i, 2)) (hn : i < nL) (hl' : (i, Value.ref x) :: lv.filter (fun q => !(q.1 == i) && !(q.1 + 1 == i && q.2.category == 2)) = lv') (k : VF O X nL fr lo S0 fin E S (pc + 2) lv' st) : VF O X nL fr lo S0 fin E S pc lv (.ref x :: st) :=
  VF.lifts k (fun _ _ _ _ _ _ _ hl kk => lv_astore C.1 C.2.1 hd hl hn hl' kk)
theorem v_iinc (C : CX O X l cc nL own ret) {i : Nat} {n : Int} {x w : Int32} {lv' : List (Nat × Value)} (hd : decode cc pc = .ok (.iinc i n, 3)) (j : Nat) (hj : lv[j]? = some (i, .int x)) (hw : Int32.ofInt n = w) (hn : i < nL) (hl' : (i, Value.int (x + w)) :: lv.filter (fun q => !(q.1 == i) && !(q.1 + 1 == i && q.2.category == 2)) = lv') (k : VF O X nL fr lo S0 fin E S (pc + 3) lv' st) : VF O X nL fr lo S0 fin E S pc lv st :=
  VF.lifts k (fun _ _ _ _ _ _ _ hl kk => lv_iinc C.1 C.2.1 hd hl hj (by rw [hw]) hn hl' kk)
theorem v_goto (C : CX O X l cc nL own ret) {off : Int} {tgt : Nat} (hd : decode cc pc = .ok (.goto off, 3)) (ht : (pc : Int) + off = (tgt : Int)) (k : VF O X nL fr lo S0 fin E S tgt lv st) : VF O X nL fr lo S0 fin E S pc lv st :=
  VF.lift k (fun _ _ _ _ _ _ _ hl kk => lv_goto C.1 C.2.1 hd ht kk)
theorem v_if_eq (C : CX O X l cc nL own ret) {x : Int32} {off : Int} {tgt : Nat} {ic : Decidable (x = 0)} {Ea Eb : Option ρ} (hd : decode cc pc = .ok (.ifCond .eq off, 3)) (ht : (pc : Int) + off = (tgt : Int)) (ka : x = 0 → VF O X nL fr lo S0 fin Ea S (tgt) lv st) (kb : ¬ (x = 0) → VF O X nL fr lo S0 fin Eb S (pc + 3) lv st) : VF O X nL fr lo S0 fin (@ite _ (x = 0) ic Ea Eb) S pc lv (.int x :: st) :=
  VF.lift2 ka kb (fun _ _ _ _ _ _ _ wa wb => lv_if_eq C.1 C.2.1 hd ht wa wb)
theorem v_if_lt (C : CX O X l cc nL own ret) {x : Int32} {off : Int} {tgt : Nat} {ic : Decidable (x < 0)} {Ea Eb : Option ρ} (hd : decode cc pc = .ok (.ifCond .lt off, 3)) (ht : (pc : Int) + off = (tgt : Int)) (ka : x < 0 → VF O X nL fr lo S0 fin Ea S (tgt) lv st) (kb : ¬ (x < 0) → VF O X nL fr lo S0 fin Eb S (pc + 3) lv st) : VF O X nL fr lo S0 fin (@ite _ (x < 0) ic Ea Eb) S pc lv (.int x :: st) :=
  VF.lift2 ka kb (fun _ _ _ _ _ _ _ wa wb => lv_if_lt C.1 C.2.1 hd ht wa wb)
theorem v_if_ge (C : CX O X l cc nL own ret) {x : Int32} {off : Int} {tgt : Nat} {ic : Decidable (0 ≤ x)} {Ea Eb : Option ρ} (hd : decode cc pc = .ok (.ifCond .ge off, 3)) (ht : (pc : Int) + off = (tgt : Int)) (ka : 0 ≤ x → VF O X nL fr lo S0 fin Ea S (tgt) lv st) (kb : ¬ (0 ≤ x) → VF O X nL fr lo S0 fin Eb S (pc + 3) lv st) : VF O X nL fr lo S0 fin (@ite _ (0 ≤ x) ic Ea Eb) S pc lv (.int x :: st) :=
  VF.lift2 ka kb (fun _ _ _ _ _ _ _ wa wb => lv_if_ge C.1 C.2.1 hd ht wa wb)
theorem v_if_gt (C : CX O X l cc nL own ret) {x : Int32} {off : Int} {tgt : Nat} {ic : Decidable (0 < x)} {Ea Eb : Option ρ} (hd : decode cc pc = .ok (.ifCond .gt off, 3)) (ht : (pc : Int) + off = (tgt : Int)) (ka : 0 < x → VF O X nL fr lo S0 fin Ea S (tgt) lv st) (kb : ¬ (0 < x) → VF O X nL fr lo S0 fin Eb S (pc + 3) lv st) : VF O X nL fr lo S0 fin (@ite _ (0 < x) ic Ea Eb) S pc lv (.int x :: st) :=
  VF.lift2 ka kb (fun _ _ _ _ _ _ _ wa wb => lv_if_gt C.1 C.2.1 hd ht wa wb)
theorem v_if_le (C : CX O X l cc nL own ret) {x : Int32} {off : Int} {tgt : Nat} {ic : Decidable (x ≤ 0)} {Ea Eb : Option ρ} (hd : decode cc pc = .ok (.ifCond .le off, 3)) (ht : (pc : Int) + off = (tgt : Int)) (ka : x ≤ 0 → VF O X nL fr lo S0 fin Ea S (tgt) lv st) (kb : ¬ (x ≤ 0) → VF O X nL fr lo S0 fin Eb S (pc + 3) lv st) : VF O X nL fr lo S0 fin (@ite _ (x ≤ 0) ic Ea Eb) S pc lv (.int x :: st) :=
  VF.lift2 ka kb (fun _ _ _ _ _ _ _ wa wb => lv_if_le C.1 C.2.1 hd ht wa wb)
theorem v_if_ne (C : CX O X l cc nL own ret) {x : Int32} {off : Int} {tgt : Nat} {ic : Decidable (x = 0)} {Ea Eb : Option ρ} (hd : decode cc pc = .ok (.ifCond .ne off, 3)) (ht : (pc : Int) + off = (tgt : Int)) (ka : x = 0 → VF O X nL fr lo S0 fin Ea S (pc + 3) lv st) (kb : ¬ (x = 0) → VF O X nL fr lo S0 fin Eb S (tgt) lv st) : VF O X nL fr lo S0 fin (@ite _ (x = 0) ic Ea Eb) S pc lv (.int x :: st) :=
  VF.lift2 ka kb (fun _ _ _ _ _ _ _ wa wb => lv_if_ne C.1 C.2.1 hd ht wb wa)
theorem v_icmp_eq (C : CX O X l cc nL own ret) {x y : Int32} {off : Int} {tgt : Nat} {ic : Decidable (x = y)} {Ea Eb : Option ρ} (hd : decode cc pc = .ok (.if_icmp .eq off, 3)) (ht : (pc : Int) + off = (tgt : Int)) (ka : x = y → VF O X nL fr lo S0 fin Ea S (tgt) lv st) (kb : ¬ (x = y) → VF O X nL fr lo S0 fin Eb S (pc + 3) lv st) : VF O X nL fr lo S0 fin (@ite _ (x = y) ic Ea Eb) S pc lv (.int y :: .int x :: st) :=
  VF.lift2 ka kb (fun _ _ _ _ _ _ _ wa wb => lv_icmp_eq C.1 C.2.1 hd ht wa wb)
theorem v_icmp_lt (C : CX O X l cc nL own ret) {x y : Int32} {off : Int} {tgt : Nat} {ic : Decidable (x < y)} {Ea Eb : Option ρ} (hd : decode cc pc = .ok (.if_icmp .lt off, 3)) (ht : (pc : Int) + off = (tgt : Int)) (ka : x < y → VF O X nL fr lo S0 fin Ea S (tgt) lv st) (kb : ¬ (x < y) → VF O X nL fr lo S0 fin Eb S (pc + 3) lv st) : VF O X nL fr lo S0 fin (@ite _ (x < y) ic Ea Eb) S pc lv (.int y :: .int x :: st) :=
  VF.lift2 ka kb (fun _ _ _ _ _ _ _ wa wb => lv_icmp_lt C.1 C.2.1 hd ht wa wb)
theorem v_icmp_ge (C : CX O X l cc nL own ret) {x y : Int32} {off : Int} {tgt : Nat} {ic : Decidable (y ≤ x)} {Ea Eb : Option ρ} (hd : decode cc pc = .ok (.if_icmp .ge off, 3)) (ht : (pc : Int) + off = (tgt : Int)) (ka : y ≤ x → VF O X nL fr lo S0 fin Ea S (tgt) lv st) (kb : ¬ (y ≤ x) → VF O X nL fr lo S0 fin Eb S (pc + 3) lv st) : VF O X nL fr lo S0 fin (@ite _ (y ≤ x) ic Ea Eb) S pc lv (.int y :: .int x :: st) :=
  VF.lift2 ka kb (fun _ _ _ _ _ _ _ wa wb => lv_icmp_ge C.1 C.2.1 hd ht wa wb)
theorem v_icmp_gt (C : CX O X l cc nL own ret) {x y : Int32} {off : Int} {tgt : Nat} {ic : Decidable (y < x)} {Ea Eb : Option ρ} (hd : decode cc pc = .ok (.if_icmp .gt off, 3)) (ht : (pc : Int) + off = (tgt : Int)) (ka : y < x → VF O X nL fr lo S0 fin Ea S (tgt) lv st) (kb : ¬ (y < x) → VF O X nL fr lo S0 fin Eb S (pc + 3) lv st) : VF O X nL fr lo S0 fin (@ite _ (y < x) ic Ea Eb) S pc lv (.int y :: .int x :: st) :=
  VF.lift2 ka kb (fun _ _ _ _ _ _ _ wa wb => lv_icmp_gt C.1 C.2.1 hd ht wa wb)
theorem v_icmp_le (C : CX O X l cc nL own ret) {x y : Int32} {off : Int} {tgt : Nat} {ic : Decidable (x ≤ y)} {Ea Eb : Option ρ} (hd : decode cc pc = .ok (.if_icmp .le off, 3)) (ht : (pc : Int) + off = (tgt : Int)) (ka : x ≤ y → VF O X nL fr lo S0 fin Ea S (tgt) lv st) (kb : ¬ (x ≤ y) → VF O X nL fr lo S0 fin Eb S (pc + 3) lv st) : VF O X nL fr lo S0 fin (@ite _ (x ≤ y) ic Ea Eb) S pc lv (.int y :: .int x :: st) :=
  VF.lift2 ka kb (fun _ _ _ _ _ _ _ wa wb => lv_icmp_le C.1 C.2.1 hd ht wa wb)
theorem v_icmp_ne (C : CX O X l cc nL own ret) {x y : Int32} {off : Int} {tgt : Nat} {ic : Decidable (x = y)} {Ea Eb : Option ρ} (hd : decode cc pc = .ok (.if_icmp .ne off, 3)) (ht : (pc : Int) + off = (tgt : Int)) (ka : x = y → VF O X nL fr lo S0 fin Ea S (pc + 3) lv st) (kb : ¬ (x = y) → VF O X nL fr lo S0 fin Eb S (tgt) lv st) : VF O X nL fr lo S0 fin (@ite _ (x = y) ic Ea Eb) S pc lv (.int y :: .int x :: st) :=
  VF.lift2 ka kb (fun _ _ _ _ _ _ _ wa wb => lv_icmp_ne C.1 C.2.1 hd ht wb wa)

theorem v_ireturn (C : CX O X l cc nL own (some .int)) (hm : X.2.2.2.2.2.2.2.2.2 = none) {a : ρ} {v : Int32} (hd : decode cc pc = .ok (.ireturn, 1)) (hf : fin a = (some (.int v), S)) : VF O X nL fr lo S0 fin (some a) S pc lv [.int v] := by
  intro r hr hL
  cases hr
  rw [hf]
  refine ⟨LE.rf, fun H locs ls hI hS hl => ?_⟩
  show W _ _ _ _ _ _ _ _ _ _ _ _ _ _ (Qz O X S0 _) _
  unfold Qz
  rw [hm]
  exact W.iret C.1 C.2.1 C.2.2.2.2.2.1 (fun t ht hW => ⟨rfl, by rw [ht]; exact hI, hS.F ht⟩) hS.2.2 hd C.2.2.2.2.2.2.1
theorem v_zreturn (C : CX O X l cc nL own (some .boolean)) (hm : X.2.2.2.2.2.2.2.2.2 = none) {a : ρ} {v : Int32} (hd : decode cc pc = .ok (.ireturn, 1)) (hv : v = 0 ∨ v = 1) (hf : fin a = (some (.int v), S)) : VF O X nL fr lo S0 fin (some a) S pc lv [.int v] := by
  intro r hr hL
  cases hr
  rw [hf]
  refine ⟨LE.rf, fun H locs ls hI hS hl => ?_⟩
  show W _ _ _ _ _ _ _ _ _ _ _ _ _ _ (Qz O X S0 _) _
  unfold Qz
  rw [hm]
  exact W.zret C.1 C.2.1 C.2.2.2.2.2.1 (by rcases hv with rfl | rfl <;> rfl) (fun t ht hW => ⟨rfl, by rw [ht]; exact hI, hS.F ht⟩) hS.2.2 hd C.2.2.2.2.2.2.1
theorem v_lreturn (C : CX O X l cc nL own (some .long)) (hm : X.2.2.2.2.2.2.2.2.2 = none) {a : ρ} {v : Int64} (hd : decode cc pc = .ok (.lreturn, 1)) (hf : fin a = (some (.long v), S)) : VF O X nL fr lo S0 fin (some a) S pc lv [.long v] := by
  intro r hr hL
  cases hr
  rw [hf]
  refine ⟨LE.rf, fun H locs ls hI hS hl => ?_⟩
  show W _ _ _ _ _ _ _ _ _ _ _ _ _ _ (Qz O X S0 _) _
  unfold Qz
  rw [hm]
  exact W.lret C.1 C.2.1 C.2.2.2.2.2.1 (fun t ht hW => ⟨rfl, by rw [ht]; exact hI, hS.F ht⟩) hS.2.2 hd C.2.2.2.2.2.2.1
theorem v_vreturn (C : CX O X l cc nL own none) (hm : X.2.2.2.2.2.2.2.2.2 = none) {a : ρ} (hd : decode cc pc = .ok (.return_, 1)) (hf : fin a = (none, S)) : VF O X nL fr lo S0 fin (some a) S pc lv [] := by
  intro r hr hL
  cases hr
  rw [hf]
  refine ⟨LE.rf, fun H locs ls hI hS hl => ?_⟩
  show W _ _ _ _ _ _ _ _ _ _ _ _ _ _ (Qz O X S0 _) _
  unfold Qz
  rw [hm]
  exact W.vret C.1 C.2.1 C.2.2.2.2.2.1 (fun t ht hW => ⟨rfl, by rw [ht]; exact hI, hS.F ht⟩) hS.2.2 hd C.2.2.2.2.2.2.1
theorem v_areturn {rt : FieldType} (C : CX O X l cc nL own (some rt)) (hm : X.2.2.2.2.2.2.2.2.2 = none) {a : ρ} {v : Value} (hd : decode cc pc = .ok (.areturn, 1)) (hrt : (∃ n, rt = .object n) ∨ ∃ t, rt = .array t) (hv : v = .null ∨ ∃ a, v = .ref a) (hf : fin a = (some v, S)) : VF O X nL fr lo S0 fin (some a) S pc lv [v] := by
  intro r hr hL
  cases hr
  rw [hf]
  refine ⟨LE.rf, fun H locs ls hI hS hl => ?_⟩
  show W _ _ _ _ _ _ _ _ _ _ _ _ _ _ (Qz O X S0 _) _
  unfold Qz
  rw [hm]
  exact W.aret C.1 C.2.1 C.2.2.2.2.2.1 hrt hv (fun t ht hW => ⟨rfl, by rw [ht]; exact hI, hS.F ht⟩) hS.2.2 hd C.2.2.2.2.2.2.1
/-- a boolean answer -/
def zz (v : Int32) : Option Int32 := if v = 0 then some 0 else if v = 1 then some 1 else none
theorem v_zz {v : Int32} {G : Int32 → Option ρ} (k : ∀ b : Int32, (b = 0 ∨ b = 1) → VF O X nL fr lo S0 fin (G b) S pc lv (.int b :: st)) : VF O X nL fr lo S0 fin (zz v >>= G) S pc lv (.int v :: st) := by
  intro r hr hL
  by_cases h0 : v = 0
  · subst h0; exact k 0 (Or.inl rfl) r hr hL
  · by_cases h1 : v = 1
    · subst h1; exact k 1 (Or.inr rfl) r hr hL
    · have : zz v = none := by unfold zz; rw [if_neg h0, if_neg h1]
      rw [this] at hr; cases hr
/-- the contract out of the walk -/
theorem FM.of {y : MethodName} {args : List Value} {r : ρ} (hO : WdOk O) (hy : plainName y.cls = true) (hc : y.cls = own) (hn : (lg_sl args).length ≤ nL) (hlv : lv_args 0 args = lv) (hE : E = some r) (hLE : LE O S (fin r).2)
    (body : ∀ X : Ctx, CX O X l cc nL own ret → X.2.2.2.2.2.2.2.2.2 = none → VF O X nL fr lo S fin E S 0 lv []) : FM l O y (ws_ y cc nL ret) fr lo args S (fin r) := by
  refine ⟨hLE, Met.ofW (cc := cc) (maxL := nL) (ret := ret) hy rfl ?_⟩
  intro p e s m args' below meth c s₁ B hml hv
  obtain ⟨rfl, hI, hT⟩ := hv
  have hts := atoms_spec (ws := ws_ y cc nL ret) B.pre
  have hl := lv_entry args (n := nL) hn
  rw [hlv] at hl
  rw [lg_entry_eq]
  have hown : s.vm.findClass own = some m.cls := by rw [← hc]; exact findClass_of_methodNamed B.named
  have hX := body (p, l, e, s, m, args.toArray, below, meth, c, none) ⟨B.exec, B.bytes, hml, hown, fun w h => hts w (List.mem_cons_of_mem _ h), B.returns, B.notSynchronized, hT, rfl, hO⟩ rfl r hE LE.rf
  have h0 := hX.2 s.heap [] _ hI va_S.rf hl
  rw [Nat.sub_self, Nat.sub_self] at h0
  exact h0
/-- what a static call asks of the tables, once for all -/
def LkS (own : String) (idx : Nat) (y : MethodName) (b : ByteArray) (L : Nat) (r : Option FieldType) (n : Nat) : Prop := GoodIn lw_all (va_wsS own idx y (ws_ y b L r)) ∧ y.cls ≠ "java/lang/invoke/MethodHandle" ∧ y.cls ≠ "java/lang/invoke/VarHandle" ∧ (parseMethodDescriptor y.desc).map (fun d => d.parameters.length) = some n
def LkV (own : String) (idx : Nat) (y : MethodName) (b : ByteArray) (L : Nat) (r : Option FieldType) (n : Nat) : Prop := GoodIn lw_all (wsV own idx y.cls y (ws_ y b L r)) ∧ y.cls ≠ "java/lang/invoke/MethodHandle" ∧ y.cls ≠ "java/lang/invoke/VarHandle" ∧ (parseMethodDescriptor y.desc).map (fun d => d.parameters.length) = some n
def LkI (own : String) (idx : Nat) (y : MethodName) (b : ByteArray) (L : Nat) (n : Nat) : Prop := (Cond.code y b L none ∈ lw_all ∧ Cond.initialized y.cls ∈ lw_all ∧ Cond.methodLink own idx y ∈ lw_all ∧ Cond.instanceMethod y ∈ lw_all ∧ y.name = "<init>") ∧ y.cls ≠ "java/lang/invoke/MethodHandle" ∧ y.cls ≠ "java/lang/invoke/VarHandle" ∧ (parseMethodDescriptor y.desc).map (fun d => d.parameters.length) = some n
theorem LE.sub {S S' : Sg} (h : LE O S0 S) (h2 : LE O S S') : (O.2.1 S).1 - (O.2.1 S0).1 + ((O.2.1 S').1 - (O.2.1 S).1) = (O.2.1 S').1 - (O.2.1 S0).1 ∧ (O.2.1 S).2 - (O.2.1 S0).2 + ((O.2.1 S').2 - (O.2.1 S).2) = (O.2.1 S').2 - (O.2.1 S0).2 := by
  obtain ⟨a, b, -⟩ := h
  obtain ⟨c, d, -⟩ := h2
  omega
theorem FM.pre {l' : Launch} (C : CX O X l cc nL own ret) {As : List Value} {H : Heap} (hI : O.1 S H) : PreS X.2.2.2.1 H (va_Pc As (fun U => O.1 S U.heap ∧ O.2.2.2.1 U)) As :=
  ⟨fun a U g mk h => ⟨h.1, h.2.1, C.2.2.2.2.2.2.2.2.2.2 U g mk a h.2.2⟩, fun U hU hW => ⟨rfl, by rw [hU]; exact hI, C.2.2.2.2.2.2.2.2.2.1 _ U hW C.2.2.2.2.2.2.2.1⟩⟩
/-- behind a call -/
theorem v_after {α : Type} {fin' : α → Option Value × Sg} {G : α → Option ρ} {a : α} {r : ρ} {st0 : List Value} {av : Array Value} (hL : LE O S0 S) (hLE : LE O S (fin' a).2) (k : VF O X nL fr lo S0 fin (G a) (fin' a).2 (pc + 3) lv ((fin' a).1.toList ++ st)) (hr : G a = some r)
    (hrun : ∀ (H : Heap) (locs : List Loc) (ls : Array Slot), O.1 S H → lv_has ls nL lv → (O.2.1 S).1 - (O.2.1 S0).1 + ((O.2.1 (fin' a).2).1 - (O.2.1 S).1) ≤ (rmOf O fr lo S0 (fin r).2).cells ∧ (O.2.1 S).2 - (O.2.1 S0).2 + ((O.2.1 (fin' a).2).2 - (O.2.1 S).2) ≤ (rmOf O fr lo S0 (fin r).2).slots → va_Run X.1 X.2.1 X.2.2.1 (headSpec [] (rmOf O fr lo S0 (fin r).2)).room X.2.2.2.1 X.2.2.2.2.1 X.2.2.2.2.2.1 X.2.2.2.2.2.2.1 X.2.2.2.2.2.2.2.1 X.2.2.2.2.2.2.2.2.1 H locs ((O.2.1 S).1 - (O.2.1 S0).1) ((O.2.1 S).2 - (O.2.1 S0).2) ((O.2.1 (fin' a).2).1 - (O.2.1 S).1) ((O.2.1 (fin' a).2).2 - (O.2.1 S).2) (F0 X.2.2.2.2.1 pc ls st0) st (Qo O S (fin' a) av) (O.2.2.1 S)) :
    LE O S (fin r).2 ∧ V O X nL fr lo S0 (fin r) S pc lv st0 := by
  obtain ⟨h1, h2⟩ := k r hr (hL.tr hLE)
  refine ⟨hLE.tr h1, fun H locs ls hI hS hl T hT Y => ?_⟩
  obtain ⟨e1, e2⟩ := LE.sub hL hLE
  obtain ⟨v, st₀, t, T', L, h0, Y', hL', t1, t2, ⟨hv, hI', hz, hk⟩, go⟩ := hrun H locs ls hI hl (by
    rw [e1, e2]
    exact ⟨Nat.sub_le_sub_right h1.1 _, Nat.sub_le_sub_right h1.2.1 _⟩) T hT Y
  cases hv
  rw [h0] at hz hk
  rw [e1, e2] at Y'
  have hS' : va_S (O.2.2.1 S0) X.2.2.2.1.heap T'.heap (locs ++ L) := ⟨Nat.le_trans hS.1 (by rw [t1]; exact hz), fun q q1 q2 => by rw [t1, hk q (Nat.lt_of_lt_of_le q1 hS.1) (fun z => q2 (hL.2.2 q z))]; exact hS.2.1 q q1 q2, fun q hq => by
    rcases List.mem_append.mp hq with h | h
    · exact hS.2.2 q h
    · exact hL.2.2 _ (hL' q h)⟩
  obtain ⟨t3, a1, b1⟩ := h2 T'.heap (locs ++ L) ls (by rw [t1]; exact hI') hS' hl T' rfl Y'
  exact ⟨t3, go t3 a1, b1⟩
theorem v_callS (C : CX O X l cc nL own ret) {idx : Nat} {y : MethodName} {b : ByteArray} {L n fr' lo' : Nat} {r' : Option FieldType} {As : List Value} {α : Type} {F : Option α} {fin' : α → Option Value × Sg} {G : α → Option ρ} (lk : LkS own idx y b L r' n) (hd : decode cc pc = .ok (.invokestatic idx, 3)) (hn : As.length = n) (hfr : fr' + 1 ≤ fr) (hlo : 8 + (L + 11) + lo' ≤ lo) (hst : (st.map fun v => v.category).sum ≤ 8)
    (hM : ∀ a, F = some a → FM l O y (ws_ y b L r') fr' lo' As S (fin' a)) (k : ∀ a, F = some a → VF O X nL fr lo S0 fin (G a) (fin' a).2 (pc + 3) lv ((fin' a).1.toList ++ st)) : VF O X nL fr lo S0 fin (F >>= G) S pc lv (As.reverse ++ st) := by
  intro r hr hL
  cases hF : F with
  | none => rw [hF] at hr; cases hr
  | some a =>
    rw [hF] at hr
    obtain ⟨hLE, hM⟩ := hM a hF
    refine v_after (av := As.toArray) hL hLE (k a hF) hr fun H locs ls hI hl hf => ?_
    rw [show l = X.2.1 from C.2.2.2.2.2.2.2.2.1.symm] at hM
    exact va_runS (n := n) ⟨C.1, C.2.1, C.2.2.1, C.2.2.2.1, C.2.2.2.2.1⟩ hM (va_cwS n C.2.2.2.2.1 lk.1 rfl rfl rfl lk.2 ⟨hfr, hlo⟩) (FM.pre (l' := l) C hI) rfl hn hl.1 rfl (lv_room hst) hd hf
theorem v_callV (C : CX O X l cc nL own ret) {idx : Nat} {y : MethodName} {b : ByteArray} {L n fr' lo' : Nat} {r' : Option FieldType} {o : Nat} {As : List Value} {α : Type} {F : Option α} {fin' : α → Option Value × Sg} {G : α → Option ρ} (lk : LkV own idx y b L r' n) (hd : decode cc pc = .ok (.invokevirtual idx, 3)) (hn : As.length = n) (hfr : fr' + 1 ≤ fr) (hlo : 8 + (L + 11) + lo' ≤ lo) (hst : (st.map fun v => v.category).sum ≤ 8)
    (hrc : ∀ H, O.1 S H → ∃ cell : Cell, H[o]? = some cell ∧ cell.vm.isStatics = false ∧ X.2.2.2.1.vm.findClass y.cls = some cell.cls)
    (hM : ∀ a, F = some a → FM l O y (ws_ y b L r') fr' lo' (.ref o :: As) S (fin' a)) (k : ∀ a, F = some a → VF O X nL fr lo S0 fin (G a) (fin' a).2 (pc + 3) lv ((fin' a).1.toList ++ st)) : VF O X nL fr lo S0 fin (F >>= G) S pc lv (As.reverse ++ .ref o :: st) := by
  intro r hr hL
  cases hF : F with
  | none => rw [hF] at hr; cases hr
  | some a =>
    rw [hF] at hr
    obtain ⟨hLE, hM⟩ := hM a hF
    refine v_after (av := (Value.ref o :: As).toArray) hL hLE (k a hF) hr fun H locs ls hI hl hf => ?_
    rw [show l = X.2.1 from C.2.2.2.2.2.2.2.2.1.symm] at hM
    have hp := FM.pre (l' := l) (As := .ref o :: As) C hI
    exact va_runV (n := n) (C := y.cls) ⟨C.1, C.2.1, C.2.2.1, C.2.2.2.1, C.2.2.2.2.1⟩ hM (cwV n C.2.2.2.2.1 lk.1 rfl rfl rfl ⟨rfl, lk.2⟩ ⟨hfr, hlo⟩) ⟨hp.1, hrc H hI, hp.2⟩ rfl hn hl.1 rfl (lv_room hst) hd hf
theorem v_callI (C : CX O X l cc nL own ret) {idx : Nat} {y : MethodName} {b : ByteArray} {L n fr' lo' : Nat} {o : Nat} {As : List Value} {α : Type} {F : Option α} {fin' : α → Option Value × Sg} {G : α → Option ρ} (lk : LkI own idx y b L n) (hd : decode cc pc = .ok (.invokespecial idx, 3)) (hn : As.length = n) (hfr : fr' + 1 ≤ fr) (hlo : 8 + (L + 11) + lo' ≤ lo) (hst : (st.map fun v => v.category).sum ≤ 8)
    (hM : ∀ a, F = some a → FM l O y (ws_ y b L none) fr' lo' (.ref o :: As) S (fin' a)) (k : ∀ a, F = some a → VF O X nL fr lo S0 fin (G a) (fin' a).2 (pc + 3) lv ((fin' a).1.toList ++ st)) : VF O X nL fr lo S0 fin (F >>= G) S pc lv (As.reverse ++ .ref o :: st) := by
  intro r hr hL
  cases hF : F with
  | none => rw [hF] at hr; cases hr
  | some a =>
    rw [hF] at hr
    obtain ⟨hLE, hM⟩ := hM a hF
    refine v_after (av := (Value.ref o :: As).toArray) hL hLE (k a hF) hr fun H locs ls hI hl hf => ?_
    rw [show l = X.2.1 from C.2.2.2.2.2.2.2.2.1.symm] at hM
    obtain ⟨⟨l1, l2, l3, l4, l5⟩, l6⟩ := lk
    exact va_runI (n := n) ⟨C.1, C.2.1, C.2.2.1, C.2.2.2.1, C.2.2.2.2.1⟩ hM (cwI n C.2.2.2.2.1 (lw_meth l1) rfl rfl rfl (C.2.2.2.2.1 _ l2) (C.2.2.2.2.1 _ l3) (C.2.2.2.2.1 _ l4) l5 l6 ⟨hfr, hlo⟩) (FM.pre (l' := l) C hI) rfl hn hl.1 rfl (lv_room hst) hd hf
theorem v_lcmp_eq (C : CX O X l cc nL own ret) {x y : Int64} {off : Int} {tgt : Nat} {ic : Decidable (x = y)} {Ea Eb : Option ρ} (hd : decode cc pc = .ok (.lcmp, 1)) (hd2 : decode cc (pc + 1) = .ok (.ifCond .eq off, 3)) (ht : ((pc + 1 : Nat) : Int) + off = (tgt : Int)) (ka : x = y → VF O X nL fr lo S0 fin Ea S tgt lv st) (kb : ¬ (x = y) → VF O X nL fr lo S0 fin Eb S (pc + 4) lv st) : VF O X nL fr lo S0 fin (@ite _ (x = y) ic Ea Eb) S pc lv (.long y :: .long x :: st) :=
  VF.lift2 ka kb (fun _ _ _ _ _ _ _ wa wb => W.lcmp C.1 C.2.1 hd (lv_if_eq C.1 C.2.1 hd2 ht (fun z => wa ((lg_cmp_eq x y).mp z)) (fun z => wb (fun w => z ((lg_cmp_eq x y).mpr w)))))
theorem v_lcmp_lt (C : CX O X l cc nL own ret) {x y : Int64} {off : Int} {tgt : Nat} {ic : Decidable (x < y)} {Ea Eb : Option ρ} (hd : decode cc pc = .ok (.lcmp, 1)) (hd2 : decode cc (pc + 1) = .ok (.ifCond .lt off, 3)) (ht : ((pc + 1 : Nat) : Int) + off = (tgt : Int)) (ka : x < y → VF O X nL fr lo S0 fin Ea S tgt lv st) (kb : ¬ (x < y) → VF O X nL fr lo S0 fin Eb S (pc + 4) lv st) : VF O X nL fr lo S0 fin (@ite _ (x < y) ic Ea Eb) S pc lv (.long y :: .long x :: st) :=
  VF.lift2 ka kb (fun _ _ _ _ _ _ _ wa wb => W.lcmp C.1 C.2.1 hd (lv_if_lt C.1 C.2.1 hd2 ht (fun z => wa ((lg_cmp_lt x y).mp z)) (fun z => wb (fun w => z ((lg_cmp_lt x y).mpr w)))))
theorem v_lcmp_ge (C : CX O X l cc nL own ret) {x y : Int64} {off : Int} {tgt : Nat} {ic : Decidable (y ≤ x)} {Ea Eb : Option ρ} (hd : decode cc pc = .ok (.lcmp, 1)) (hd2 : decode cc (pc + 1) = .ok (.ifCond .ge off, 3)) (ht : ((pc + 1 : Nat) : Int) + off = (tgt : Int)) (ka : y ≤ x → VF O X nL fr lo S0 fin Ea S tgt lv st) (kb : ¬ (y ≤ x) → VF O X nL fr lo S0 fin Eb S (pc + 4) lv st) : VF O X nL fr lo S0 fin (@ite _ (y ≤ x) ic Ea Eb) S pc lv (.long y :: .long x :: st) :=
  VF.lift2 ka kb (fun _ _ _ _ _ _ _ wa wb => W.lcmp C.1 C.2.1 hd (lv_if_ge C.1 C.2.1 hd2 ht (fun z => wa ((lg_cmp_ge x y).mp z)) (fun z => wb (fun w => z ((lg_cmp_ge x y).mpr w)))))
theorem v_lcmp_gt (C : CX O X l cc nL own ret) {x y : Int64} {off : Int} {tgt : Nat} {ic : Decidable (y < x)} {Ea Eb : Option ρ} (hd : decode cc pc = .ok (.lcmp, 1)) (hd2 : decode cc (pc + 1) = .ok (.ifCond .gt off, 3)) (ht : ((pc + 1 : Nat) : Int) + off = (tgt : Int)) (ka : y < x → VF O X nL fr lo S0 fin Ea S tgt lv st) (kb : ¬ (y < x) → VF O X nL fr lo S0 fin Eb S (pc + 4) lv st) : VF O X nL fr lo S0 fin (@ite _ (y < x) ic Ea Eb) S pc lv (.long y :: .long x :: st) :=
  VF.lift2 ka kb (fun _ _ _ _ _ _ _ wa wb => W.lcmp C.1 C.2.1 hd (lv_if_gt C.1 C.2.1 hd2 ht (fun z => wa ((lg_cmp_gt x y).mp z)) (fun z => wb (fun w => z ((lg_cmp_gt x y).mpr w)))))
theorem v_lcmp_le (C : CX O X l cc nL own ret) {x y : Int64} {off : Int} {tgt : Nat} {ic : Decidable (x ≤ y)} {Ea Eb : Option ρ} (hd : decode cc pc = .ok (.lcmp, 1)) (hd2 : decode cc (pc + 1) = .ok (.ifCond .le off, 3)) (ht : ((pc + 1 : Nat) : Int) + off = (tgt : Int)) (ka : x ≤ y → VF O X nL fr lo S0 fin Ea S tgt lv st) (kb : ¬ (x ≤ y) → VF O X nL fr lo S0 fin Eb S (pc + 4) lv st) : VF O X nL fr lo S0 fin (@ite _ (x ≤ y) ic Ea Eb) S pc lv (.long y :: .long x :: st) :=
  VF.lift2 ka kb (fun _ _ _ _ _ _ _ wa wb => W.lcmp C.1 C.2.1 hd (lv_if_le C.1 C.2.1 hd2 ht (fun z => wa ((lg_cmp_le x y).mp z)) (fun z => wb (fun w => z ((lg_cmp_le x y).mpr w)))))
theorem v_lcmp_ne (C : CX O X l cc nL own ret) {x y : Int64} {off : Int} {tgt : Nat} {ic : Decidable (x = y)} {Ea Eb : Option ρ} (hd : decode cc pc = .ok (.lcmp, 1)) (hd2 : decode cc (pc + 1) = .ok (.ifCond .ne off, 3)) (ht : ((pc + 1 : Nat) : Int) + off = (tgt : Int)) (ka : x = y → VF O X nL fr lo S0 fin Ea S (pc + 4) lv st) (kb : ¬ (x = y) → VF O X nL fr lo S0 fin Eb S tgt lv st) : VF O X nL fr lo S0 fin (@ite _ (x = y) ic Ea Eb) S pc lv (.long y :: .long x :: st) :=
  VF.lift2 ka kb (fun _ _ _ _ _ _ _ wa wb => W.lcmp C.1 C.2.1 hd (lv_if_ne C.1 C.2.1 hd2 ht (fun z => wb (fun w => z ((lg_cmp_eq x y).mpr w))) (fun z => wa ((lg_cmp_eq x y).mp z))))
theorem v_sub (ks : List Nat) {lv' : List (Nat × Value)} (h : lv_pick lv ks = lv') (k : VF O X nL fr lo S0 fin E S pc lv' st) : VF O X nL fr lo S0 fin E S pc lv st := by
  intro r hr hL
  obtain ⟨h1, h2⟩ := k r hr hL
  exact ⟨h1, fun H locs ls hI hS hl => h2 H locs ls hI hS (lv_sub hl ks h)⟩
theorem v_iincN (C : CX O X l cc nL own ret) {i : Nat} {n : Int} {x w : Int32} {G : Int32 → Option ρ} {lv' : Int32 → List (Nat × Value)} (hd : decode cc pc = .ok (.iinc i n, 3)) (j : Nat) (hj : lv[j]? = some (i, .int x)) (hw : Int32.ofInt n = w) (hn : i < nL) (hl' : ∀ y : Int32, (i, Value.int y) :: lv.filter (fun q => !(q.1 == i) && !(q.1 + 1 == i && q.2.category == 2)) = lv' y) (k : ∀ y : Int32, y = x + w → VF O X nL fr lo S0 fin (G y) S (pc + 3) (lv' y) st) : VF O X nL fr lo S0 fin (some (x + w) >>= G) S pc lv st :=
  v_iinc C hd j hj hw hn (hl' (x + w)) (k (x + w) rfl)
abbrev f_ri {Sg : Type} (S : Sg) : Int32 → Option Value × Sg := fun r => (some (.int r), S)
abbrev f_rl {Sg : Type} (S : Sg) : Int64 → Option Value × Sg := fun r => (some (.long r), S)
abbrev f_ra {Sg : Type} (S : Sg) : Nat → Option Value × Sg := fun r => (some (.ref r), S)
abbrev f_rq {Sg : Type} (S : Sg) : (Option Nat) → Option Value × Sg := fun r => (some (va_rf r), S)
abbrev f_rv {Sg : Type} (S : Sg) : Unit → Option Value × Sg := fun _ => (none, S)
abbrev f_mi {Sg : Type}  : (Int32 × Sg) → Option Value × Sg := fun r => (some (.int r.1), r.2)
abbrev f_ml {Sg : Type}  : (Int64 × Sg) → Option Value × Sg := fun r => (some (.long r.1), r.2)
abbrev f_ma {Sg : Type}  : (Nat × Sg) → Option Value × Sg := fun r => (some (.ref r.1), r.2)
abbrev f_mq {Sg : Type}  : (Option Nat × Sg) → Option Value × Sg := fun r => (some (va_rf r.1), r.2)
abbrev f_mv {Sg : Type}  : Sg → Option Value × Sg := fun r => (none, r)
theorem v_callS_ri (C : CX O X l cc nL own ret) {idx : Nat} {y : MethodName} {b : ByteArray} {L n fr' lo' : Nat} {r' : Option FieldType} {As : List Value} {F : Option (Int32)} {G : (Int32) → Option ρ} (lk : LkS own idx y b L r' n) (hd : decode cc pc = .ok (.invokestatic idx, 3)) (hn : As.length = n) (hfr : fr' + 1 ≤ fr) (hlo : 8 + (L + 11) + lo' ≤ lo) (hst : (st.map fun v => v.category).sum ≤ 8) (hM : ∀ a, F = some a → FM l O y (ws_ y b L r') fr' lo' As S ((f_ri S) a)) (k : ∀ r : Int32, F = some r → VF O X nL fr lo S0 fin (G r) S (pc + 3) lv (.int r :: st)) : VF O X nL fr lo S0 fin (F >>= G) S pc lv (As.reverse ++ st) := v_callS (fin' := (f_ri S)) C lk hd hn hfr hlo hst hM k
theorem v_callV_ri (C : CX O X l cc nL own ret) {idx : Nat} {y : MethodName} {b : ByteArray} {L n fr' lo' : Nat} {r' : Option FieldType} {o : Nat} {As : List Value} {F : Option (Int32)} {G : (Int32) → Option ρ} (lk : LkV own idx y b L r' n) (hd : decode cc pc = .ok (.invokevirtual idx, 3)) (hn : As.length = n) (hfr : fr' + 1 ≤ fr) (hlo : 8 + (L + 11) + lo' ≤ lo) (hst : (st.map fun v => v.category).sum ≤ 8) (hrc : ∀ H, O.1 S H → ∃ cell : Cell, H[o]? = some cell ∧ cell.vm.isStatics = false ∧ X.2.2.2.1.vm.findClass y.cls = some cell.cls) (hM : ∀ a, F = some a → FM l O y (ws_ y b L r') fr' lo' (.ref o :: As) S ((f_ri S) a)) (k : ∀ r : Int32, F = some r → VF O X nL fr lo S0 fin (G r) S (pc + 3) lv (.int r :: st)) : VF O X nL fr lo S0 fin (F >>= G) S pc lv (As.reverse ++ .ref o :: st) := v_callV (fin' := (f_ri S)) C lk hd hn hfr hlo hst hrc hM k
theorem v_callS_rl (C : CX O X l cc nL own ret) {idx : Nat} {y : MethodName} {b : ByteArray} {L n fr' lo' : Nat} {r' : Option FieldType} {As : List Value} {F : Option (Int64)} {G : (Int64) → Option ρ} (lk : LkS own idx y b L r' n) (hd : decode cc pc = .ok (.invokestatic idx, 3)) (hn : As.length = n) (hfr : fr' + 1 ≤ fr) (hlo : 8 + (L + 11) + lo' ≤ lo) (hst : (st.map fun v => v.category).sum ≤ 8) (hM : ∀ a, F = some a → FM l O y (ws_ y b L r') fr' lo' As S ((f_rl S) a)) (k : ∀ r : Int64, F = some r → VF O X nL fr lo S0 fin (G r) S (pc + 3) lv (.long r :: st)) : VF O X nL fr lo S0 fin (F >>= G) S pc lv (As.reverse ++ st) := v_callS (fin' := (f_rl S)) C lk hd hn hfr hlo hst hM k
theorem v_callV_rl (C : CX O X l cc nL own ret) {idx : Nat} {y : MethodName} {b : ByteArray} {L n fr' lo' : Nat} {r' : Option FieldType} {o : Nat} {As : List Value} {F : Option (Int64)} {G : (Int64) → Option ρ} (lk : LkV own idx y b L r' n) (hd : decode cc pc = .ok (.invokevirtual idx, 3)) (hn : As.length = n) (hfr : fr' + 1 ≤ fr) (hlo : 8 + (L + 11) + lo' ≤ lo) (hst : (st.map fun v => v.category).sum ≤ 8) (hrc : ∀ H, O.1 S H → ∃ cell : Cell, H[o]? = some cell ∧ cell.vm.isStatics = false ∧ X.2.2.2.1.vm.findClass y.cls = some cell.cls) (hM : ∀ a, F = some a → FM l O y (ws_ y b L r') fr' lo' (.ref o :: As) S ((f_rl S) a)) (k : ∀ r : Int64, F = some r → VF O X nL fr lo S0 fin (G r) S (pc + 3) lv (.long r :: st)) : VF O X nL fr lo S0 fin (F >>= G) S pc lv (As.reverse ++ .ref o :: st) := v_callV (fin' := (f_rl S)) C lk hd hn hfr hlo hst hrc hM k
theorem v_callS_ra (C : CX O X l cc nL own ret) {idx : Nat} {y : MethodName} {b : ByteArray} {L n fr' lo' : Nat} {r' : Option FieldType} {As : List Value} {F : Option (Nat)} {G : (Nat) → Option ρ} (lk : LkS own idx y b L r' n) (hd : decode cc pc = .ok (.invokestatic idx, 3)) (hn : As.length = n) (hfr : fr' + 1 ≤ fr) (hlo : 8 + (L + 11) + lo' ≤ lo) (hst : (st.map fun v => v.category).sum ≤ 8) (hM : ∀ a, F = some a → FM l O y (ws_ y b L r') fr' lo' As S ((f_ra S) a)) (k : ∀ r : Nat, F = some r → VF O X nL fr lo S0 fin (G r) S (pc + 3) lv (.ref r :: st)) : VF O X nL fr lo S0 fin (F >>= G) S pc lv (As.reverse ++ st) := v_callS (fin' := (f_ra S)) C lk hd hn hfr hlo hst hM k
theorem v_callV_ra (C : CX O X l cc nL own ret) {idx : Nat} {y : MethodName} {b : ByteArray} {L n fr' lo' : Nat} {r' : Option FieldType} {o : Nat} {As : List Value} {F : Option (Nat)} {G : (Nat) → Option ρ} (lk : LkV own idx y b L r' n) (hd : decode cc pc = .ok (.invokevirtual idx, 3)) (hn : As.length = n) (hfr : fr' + 1 ≤ fr) (hlo : 8 + (L + 11) + lo' ≤ lo) (hst : (st.map fun v => v.category).sum ≤ 8) (hrc : ∀ H, O.1 S H → ∃ cell : Cell, H[o]? = some cell ∧ cell.vm.isStatics = false ∧ X.2.2.2.1.vm.findClass y.cls = some cell.cls) (hM : ∀ a, F = some a → FM l O y (ws_ y b L r') fr' lo' (.ref o :: As) S ((f_ra S) a)) (k : ∀ r : Nat, F = some r → VF O X nL fr lo S0 fin (G r) S (pc + 3) lv (.ref r :: st)) : VF O X nL fr lo S0 fin (F >>= G) S pc lv (As.reverse ++ .ref o :: st) := v_callV (fin' := (f_ra S)) C lk hd hn hfr hlo hst hrc hM k
theorem v_callS_rq (C : CX O X l cc nL own ret) {idx : Nat} {y : MethodName} {b : ByteArray} {L n fr' lo' : Nat} {r' : Option FieldType} {As : List Value} {F : Option (Option Nat)} {G : (Option Nat) → Option ρ} (lk : LkS own idx y b L r' n) (hd : decode cc pc = .ok (.invokestatic idx, 3)) (hn : As.length = n) (hfr : fr' + 1 ≤ fr) (hlo : 8 + (L + 11) + lo' ≤ lo) (hst : (st.map fun v => v.category).sum ≤ 8) (hM : ∀ a, F = some a → FM l O y (ws_ y b L r') fr' lo' As S ((f_rq S) a)) (k : ∀ r : Option Nat, F = some r → VF O X nL fr lo S0 fin (G r) S (pc + 3) lv (va_rf r :: st)) : VF O X nL fr lo S0 fin (F >>= G) S pc lv (As.reverse ++ st) := v_callS (fin' := (f_rq S)) C lk hd hn hfr hlo hst hM k
theorem v_callV_rq (C : CX O X l cc nL own ret) {idx : Nat} {y : MethodName} {b : ByteArray} {L n fr' lo' : Nat} {r' : Option FieldType} {o : Nat} {As : List Value} {F : Option (Option Nat)} {G : (Option Nat) → Option ρ} (lk : LkV own idx y b L r' n) (hd : decode cc pc = .ok (.invokevirtual idx, 3)) (hn : As.length = n) (hfr : fr' + 1 ≤ fr) (hlo : 8 + (L + 11) + lo' ≤ lo) (hst : (st.map fun v => v.category).sum ≤ 8) (hrc : ∀ H, O.1 S H → ∃ cell : Cell, H[o]? = some cell ∧ cell.vm.isStatics = false ∧ X.2.2.2.1.vm.findClass y.cls = some cell.cls) (hM : ∀ a, F = some a → FM l O y (ws_ y b L r') fr' lo' (.ref o :: As) S ((f_rq S) a)) (k : ∀ r : Option Nat, F = some r → VF O X nL fr lo S0 fin (G r) S (pc + 3) lv (va_rf r :: st)) : VF O X nL fr lo S0 fin (F >>= G) S pc lv (As.reverse ++ .ref o :: st) := v_callV (fin' := (f_rq S)) C lk hd hn hfr hlo hst hrc hM k
theorem v_callS_rv (C : CX O X l cc nL own ret) {idx : Nat} {y : MethodName} {b : ByteArray} {L n fr' lo' : Nat} {r' : Option FieldType} {As : List Value} {F : Option (Unit)} {G : (Unit) → Option ρ} (lk : LkS own idx y b L r' n) (hd : decode cc pc = .ok (.invokestatic idx, 3)) (hn : As.length = n) (hfr : fr' + 1 ≤ fr) (hlo : 8 + (L + 11) + lo' ≤ lo) (hst : (st.map fun v => v.category).sum ≤ 8) (hM : ∀ a, F = some a → FM l O y (ws_ y b L r') fr' lo' As S ((f_rv S) a)) (k : ∀ r : Unit, F = some r → VF O X nL fr lo S0 fin (G r) S (pc + 3) lv (st)) : VF O X nL fr lo S0 fin (F >>= G) S pc lv (As.reverse ++ st) := v_callS (fin' := (f_rv S)) C lk hd hn hfr hlo hst hM k
theorem v_callV_rv (C : CX O X l cc nL own ret) {idx : Nat} {y : MethodName} {b : ByteArray} {L n fr' lo' : Nat} {r' : Option FieldType} {o : Nat} {As : List Value} {F : Option (Unit)} {G : (Unit) → Option ρ} (lk : LkV own idx y b L r' n) (hd : decode cc pc = .ok (.invokevirtual idx, 3)) (hn : As.length = n) (hfr : fr' + 1 ≤ fr) (hlo : 8 + (L + 11) + lo' ≤ lo) (hst : (st.map fun v => v.category).sum ≤ 8) (hrc : ∀ H, O.1 S H → ∃ cell : Cell, H[o]? = some cell ∧ cell.vm.isStatics = false ∧ X.2.2.2.1.vm.findClass y.cls = some cell.cls) (hM : ∀ a, F = some a → FM l O y (ws_ y b L r') fr' lo' (.ref o :: As) S ((f_rv S) a)) (k : ∀ r : Unit, F = some r → VF O X nL fr lo S0 fin (G r) S (pc + 3) lv (st)) : VF O X nL fr lo S0 fin (F >>= G) S pc lv (As.reverse ++ .ref o :: st) := v_callV (fin' := (f_rv S)) C lk hd hn hfr hlo hst hrc hM k
theorem v_callI_rv (C : CX O X l cc nL own ret) {idx : Nat} {y : MethodName} {b : ByteArray} {L n fr' lo' : Nat} {o : Nat} {As : List Value} {F : Option (Unit)} {G : (Unit) → Option ρ} (lk : LkI own idx y b L n) (hd : decode cc pc = .ok (.invokespecial idx, 3)) (hn : As.length = n) (hfr : fr' + 1 ≤ fr) (hlo : 8 + (L + 11) + lo' ≤ lo) (hst : (st.map fun v => v.category).sum ≤ 8) (hM : ∀ a, F = some a → FM l O y (ws_ y b L none) fr' lo' (.ref o :: As) S ((f_rv S) a)) (k : ∀ r : Unit, F = some r → VF O X nL fr lo S0 fin (G r) S (pc + 3) lv (st)) : VF O X nL fr lo S0 fin (F >>= G) S pc lv (As.reverse ++ .ref o :: st) := v_callI (fin' := (f_rv S)) C lk hd hn hfr hlo hst hM k
theorem v_callS_mi (C : CX O X l cc nL own ret) {idx : Nat} {y : MethodName} {b : ByteArray} {L n fr' lo' : Nat} {r' : Option FieldType} {As : List Value} {F : Option (Int32 × Sg)} {G : (Int32 × Sg) → Option ρ} (lk : LkS own idx y b L r' n) (hd : decode cc pc = .ok (.invokestatic idx, 3)) (hn : As.length = n) (hfr : fr' + 1 ≤ fr) (hlo : 8 + (L + 11) + lo' ≤ lo) (hst : (st.map fun v => v.category).sum ≤ 8) (hM : ∀ a, F = some a → FM l O y (ws_ y b L r') fr' lo' As S (f_mi a)) (k : ∀ r : Int32 × Sg, F = some r → VF O X nL fr lo S0 fin (G r) r.2 (pc + 3) lv (.int r.1 :: st)) : VF O X nL fr lo S0 fin (F >>= G) S pc lv (As.reverse ++ st) := v_callS (fin' := f_mi) C lk hd hn hfr hlo hst hM k
theorem v_callV_mi (C : CX O X l cc nL own ret) {idx : Nat} {y : MethodName} {b : ByteArray} {L n fr' lo' : Nat} {r' : Option FieldType} {o : Nat} {As : List Value} {F : Option (Int32 × Sg)} {G : (Int32 × Sg) → Option ρ} (lk : LkV own idx y b L r' n) (hd : decode cc pc = .ok (.invokevirtual idx, 3)) (hn : As.length = n) (hfr : fr' + 1 ≤ fr) (hlo : 8 + (L + 11) + lo' ≤ lo) (hst : (st.map fun v => v.category).sum ≤ 8) (hrc : ∀ H, O.1 S H → ∃ cell : Cell, H[o]? = some cell ∧ cell.vm.isStatics = false ∧ X.2.2.2.1.vm.findClass y.cls = some cell.cls) (hM : ∀ a, F = some a → FM l O y (ws_ y b L r') fr' lo' (.ref o :: As) S (f_mi a)) (k : ∀ r : Int32 × Sg, F = some r → VF O X nL fr lo S0 fin (G r) r.2 (pc + 3) lv (.int r.1 :: st)) : VF O X nL fr lo S0 fin (F >>= G) S pc lv (As.reverse ++ .ref o :: st) := v_callV (fin' := f_mi) C lk hd hn hfr hlo hst hrc hM k
theorem v_callS_ml (C : CX O X l cc nL own ret) {idx : Nat} {y : MethodName} {b : ByteArray} {L n fr' lo' : Nat} {r' : Option FieldType} {As : List Value} {F : Option (Int64 × Sg)} {G : (Int64 × Sg) → Option ρ} (lk : LkS own idx y b L r' n) (hd : decode cc pc = .ok (.invokestatic idx, 3)) (hn : As.length = n) (hfr : fr' + 1 ≤ fr) (hlo : 8 + (L + 11) + lo' ≤ lo) (hst : (st.map fun v => v.category).sum ≤ 8) (hM : ∀ a, F = some a → FM l O y (ws_ y b L r') fr' lo' As S (f_ml a)) (k : ∀ r : Int64 × Sg, F = some r → VF O X nL fr lo S0 fin (G r) r.2 (pc + 3) lv (.long r.1 :: st)) : VF O X nL fr lo S0 fin (F >>= G) S pc lv (As.reverse ++ st) := v_callS (fin' := f_ml) C lk hd hn hfr hlo hst hM k
theorem v_callV_ml (C : CX O X l cc nL own ret) {idx : Nat} {y : MethodName} {b : ByteArray} {L n fr' lo' : Nat} {r' : Option FieldType} {o : Nat} {As : List Value} {F : Option (Int64 × Sg)} {G : (Int64 × Sg) → Option ρ} (lk : LkV own idx y b L r' n) (hd : decode cc pc = .ok (.invokevirtual idx, 3)) (hn : As.length = n) (hfr : fr' + 1 ≤ fr) (hlo : 8 + (L + 11) + lo' ≤ lo) (hst : (st.map fun v => v.category).sum ≤ 8) (hrc : ∀ H, O.1 S H → ∃ cell : Cell, H[o]? = some cell ∧ cell.vm.isStatics = false ∧ X.2.2.2.1.vm.findClass y.cls = some cell.cls) (hM : ∀ a, F = some a → FM l O y (ws_ y b L r') fr' lo' (.ref o :: As) S (f_ml a)) (k : ∀ r : Int64 × Sg, F = some r → VF O X nL fr lo S0 fin (G r) r.2 (pc + 3) lv (.long r.1 :: st)) : VF O X nL fr lo S0 fin (F >>= G) S pc lv (As.reverse ++ .ref o :: st) := v_callV (fin' := f_ml) C lk hd hn hfr hlo hst hrc hM k
theorem v_callS_ma (C : CX O X l cc nL own ret) {idx : Nat} {y : MethodName} {b : ByteArray} {L n fr' lo' : Nat} {r' : Option FieldType} {As : List Value} {F : Option (Nat × Sg)} {G : (Nat × Sg) → Option ρ} (lk : LkS own idx y b L r' n) (hd : decode cc pc = .ok (.invokestatic idx, 3)) (hn : As.length = n) (hfr : fr' + 1 ≤ fr) (hlo : 8 + (L + 11) + lo' ≤ lo) (hst : (st.map fun v => v.category).sum ≤ 8) (hM : ∀ a, F = some a → FM l O y (ws_ y b L r') fr' lo' As S (f_ma a)) (k : ∀ r : Nat × Sg, F = some r → VF O X nL fr lo S0 fin (G r) r.2 (pc + 3) lv (.ref r.1 :: st)) : VF O X nL fr lo S0 fin (F >>= G) S pc lv (As.reverse ++ st) := v_callS (fin' := f_ma) C lk hd hn hfr hlo hst hM k
theorem v_callV_ma (C : CX O X l cc nL own ret) {idx : Nat} {y : MethodName} {b : ByteArray} {L n fr' lo' : Nat} {r' : Option FieldType} {o : Nat} {As : List Value} {F : Option (Nat × Sg)} {G : (Nat × Sg) → Option ρ} (lk : LkV own idx y b L r' n) (hd : decode cc pc = .ok (.invokevirtual idx, 3)) (hn : As.length = n) (hfr : fr' + 1 ≤ fr) (hlo : 8 + (L + 11) + lo' ≤ lo) (hst : (st.map fun v => v.category).sum ≤ 8) (hrc : ∀ H, O.1 S H → ∃ cell : Cell, H[o]? = some cell ∧ cell.vm.isStatics = false ∧ X.2.2.2.1.vm.findClass y.cls = some cell.cls) (hM : ∀ a, F = some a → FM l O y (ws_ y b L r') fr' lo' (.ref o :: As) S (f_ma a)) (k : ∀ r : Nat × Sg, F = some r → VF O X nL fr lo S0 fin (G r) r.2 (pc + 3) lv (.ref r.1 :: st)) : VF O X nL fr lo S0 fin (F >>= G) S pc lv (As.reverse ++ .ref o :: st) := v_callV (fin' := f_ma) C lk hd hn hfr hlo hst hrc hM k
theorem v_callS_mq (C : CX O X l cc nL own ret) {idx : Nat} {y : MethodName} {b : ByteArray} {L n fr' lo' : Nat} {r' : Option FieldType} {As : List Value} {F : Option (Option Nat × Sg)} {G : (Option Nat × Sg) → Option ρ} (lk : LkS own idx y b L r' n) (hd : decode cc pc = .ok (.invokestatic idx, 3)) (hn : As.length = n) (hfr : fr' + 1 ≤ fr) (hlo : 8 + (L + 11) + lo' ≤ lo) (hst : (st.map fun v => v.category).sum ≤ 8) (hM : ∀ a, F = some a → FM l O y (ws_ y b L r') fr' lo' As S (f_mq a)) (k : ∀ r : Option Nat × Sg, F = some r → VF O X nL fr lo S0 fin (G r) r.2 (pc + 3) lv (va_rf r.1 :: st)) : VF O X nL fr lo S0 fin (F >>= G) S pc lv (As.reverse ++ st) := v_callS (fin' := f_mq) C lk hd hn hfr hlo hst hM k
theorem v_callV_mq (C : CX O X l cc nL own ret) {idx : Nat} {y : MethodName} {b : ByteArray} {L n fr' lo' : Nat} {r' : Option FieldType} {o : Nat} {As : List Value} {F : Option (Option Nat × Sg)} {G : (Option Nat × Sg) → Option ρ} (lk : LkV own idx y b L r' n) (hd : decode cc pc = .ok (.invokevirtual idx, 3)) (hn : As.length = n) (hfr : fr' + 1 ≤ fr) (hlo : 8 + (L + 11) + lo' ≤ lo) (hst : (st.map fun v => v.category).sum ≤ 8) (hrc : ∀ H, O.1 S H → ∃ cell : Cell, H[o]? = some cell ∧ cell.vm.isStatics = false ∧ X.2.2.2.1.vm.findClass y.cls = some cell.cls) (hM : ∀ a, F = some a → FM l O y (ws_ y b L r') fr' lo' (.ref o :: As) S (f_mq a)) (k : ∀ r : Option Nat × Sg, F = some r → VF O X nL fr lo S0 fin (G r) r.2 (pc + 3) lv (va_rf r.1 :: st)) : VF O X nL fr lo S0 fin (F >>= G) S pc lv (As.reverse ++ .ref o :: st) := v_callV (fin' := f_mq) C lk hd hn hfr hlo hst hrc hM k
theorem v_callS_mv (C : CX O X l cc nL own ret) {idx : Nat} {y : MethodName} {b : ByteArray} {L n fr' lo' : Nat} {r' : Option FieldType} {As : List Value} {F : Option (Sg)} {G : (Sg) → Option ρ} (lk : LkS own idx y b L r' n) (hd : decode cc pc = .ok (.invokestatic idx, 3)) (hn : As.length = n) (hfr : fr' + 1 ≤ fr) (hlo : 8 + (L + 11) + lo' ≤ lo) (hst : (st.map fun v => v.category).sum ≤ 8) (hM : ∀ a, F = some a → FM l O y (ws_ y b L r') fr' lo' As S (f_mv a)) (k : ∀ r : Sg, F = some r → VF O X nL fr lo S0 fin (G r) r (pc + 3) lv (st)) : VF O X nL fr lo S0 fin (F >>= G) S pc lv (As.reverse ++ st) := v_callS (fin' := f_mv) C lk hd hn hfr hlo hst hM k
theorem v_callV_mv (C : CX O X l cc nL own ret) {idx : Nat} {y : MethodName} {b : ByteArray} {L n fr' lo' : Nat} {r' : Option FieldType} {o : Nat} {As : List Value} {F : Option (Sg)} {G : (Sg) → Option ρ} (lk : LkV own idx y b L r' n) (hd : decode cc pc = .ok (.invokevirtual idx, 3)) (hn : As.length = n) (hfr : fr' + 1 ≤ fr) (hlo : 8 + (L + 11) + lo' ≤ lo) (hst : (st.map fun v => v.category).sum ≤ 8) (hrc : ∀ H, O.1 S H → ∃ cell : Cell, H[o]? = some cell ∧ cell.vm.isStatics = false ∧ X.2.2.2.1.vm.findClass y.cls = some cell.cls) (hM : ∀ a, F = some a → FM l O y (ws_ y b L r') fr' lo' (.ref o :: As) S (f_mv a)) (k : ∀ r : Sg, F = some r → VF O X nL fr lo S0 fin (G r) r (pc + 3) lv (st)) : VF O X nL fr lo S0 fin (F >>= G) S pc lv (As.reverse ++ .ref o :: st) := v_callV (fin' := f_mv) C lk hd hn hfr hlo hst hrc hM k
theorem v_callI_mv (C : CX O X l cc nL own ret) {idx : Nat} {y : MethodName} {b : ByteArray} {L n fr' lo' : Nat} {o : Nat} {As : List Value} {F : Option (Sg)} {G : (Sg) → Option ρ} (lk : LkI own idx y b L n) (hd : decode cc pc = .ok (.invokespecial idx, 3)) (hn : As.length = n) (hfr : fr' + 1 ≤ fr) (hlo : 8 + (L + 11) + lo' ≤ lo) (hst : (st.map fun v => v.category).sum ≤ 8) (hM : ∀ a, F = some a → FM l O y (ws_ y b L none) fr' lo' (.ref o :: As) S (f_mv a)) (k : ∀ r : Sg, F = some r → VF O X nL fr lo S0 fin (G r) r (pc + 3) lv (st)) : VF O X nL fr lo S0 fin (F >>= G) S pc lv (As.reverse ++ .ref o :: st) := v_callI (fin' := f_mv) C lk hd hn hfr hlo hst hM k
end FR
