/-! NetworkCenters$Edge -/
set_option maxRecDepth 100000
def RX5 : String := "NetworkCenters$Edge"
def TX5 : u_T := fun k => match k with
  | 0 => ("NetworkCenters$Edge", "a", "I", true)
  | 1 => ("NetworkCenters$Edge", "b", "I", true)
  | _ => ("NetworkCenters$Edge", "length", "I", true)
def tyX5 : Nat → FieldType := fun k => match k with
  | 0 => .int
  | 1 => .int
  | _ => .int
abbrev wsX50 : List Cond := u_ws RX5 TX5 3
theorem nmX5 : ∀ a, a < 3 → ∀ b, b < 3 → a ≠ b → (TX5 a).2.1 ≠ (TX5 b).2.1 := by decide +kernel
theorem tyX5_ok : ∀ k, k < 3 → parseFieldDescriptor (TX5 k).2.2.1 = some (tyX5 k) := by decide +kernel
abbrev cX5_property : ByteArray := prog_2_method_3_code
def yX5_property : MethodName := ⟨RX5, "property", "(I)I"⟩
def dkwX5_property_1 : List UInt8 := [180, 0, 16, 172]
abbrev dktX5_property_1 : List UInt8 := dkwX5_property_1 ++ []
def dkwX5_property_0 : List UInt8 := [27, 154, 0, 10, 42, 180, 0, 7, 167, 0, 19, 27, 4, 160, 0, 10, 42, 180, 0, 13, 167, 0, 7, 42]
abbrev dktX5_property_0 : List UInt8 := dkwX5_property_0 ++ dktX5_property_1
theorem dksX5_property_0 : cX5_property.data.toList.drop 0 = dktX5_property_0 := by decide +kernel
theorem dksX5_property_1 : cX5_property.data.toList.drop 24 = dktX5_property_1 := dk_seg dksX5_property_0 24 rfl rfl
theorem dX5_property_0 : decode cX5_property 0 = .ok (.iload_n 1, 1) := dk_27 (dk_at dksX5_property_0 0 rfl rfl)
theorem dX5_property_1 : decode cX5_property 1 = .ok (.ifCond .ne 10, 3) := dk_154 0 10 (dk_at dksX5_property_0 1 rfl rfl)
theorem dX5_property_4 : decode cX5_property 4 = .ok (.aload_n 0, 1) := dk_42 (dk_at dksX5_property_0 4 rfl rfl)
theorem dX5_property_5 : decode cX5_property 5 = .ok (.getfield 7, 3) := dk_180 0 7 (dk_at dksX5_property_0 5 rfl rfl)
theorem dX5_property_8 : decode cX5_property 8 = .ok (.goto 19, 3) := dk_167 0 19 (dk_at dksX5_property_0 8 rfl rfl)
theorem dX5_property_11 : decode cX5_property 11 = .ok (.iload_n 1, 1) := dk_27 (dk_at dksX5_property_0 11 rfl rfl)
theorem dX5_property_12 : decode cX5_property 12 = .ok (.iconst 1, 1) := dk_4 (dk_at dksX5_property_0 12 rfl rfl)
theorem dX5_property_13 : decode cX5_property 13 = .ok (.if_icmp .ne 10, 3) := dk_160 0 10 (dk_at dksX5_property_0 13 rfl rfl)
theorem dX5_property_16 : decode cX5_property 16 = .ok (.aload_n 0, 1) := dk_42 (dk_at dksX5_property_0 16 rfl rfl)
theorem dX5_property_17 : decode cX5_property 17 = .ok (.getfield 13, 3) := dk_180 0 13 (dk_at dksX5_property_0 17 rfl rfl)
theorem dX5_property_20 : decode cX5_property 20 = .ok (.goto 7, 3) := dk_167 0 7 (dk_at dksX5_property_0 20 rfl rfl)
theorem dX5_property_23 : decode cX5_property 23 = .ok (.aload_n 0, 1) := dk_42 (dk_at dksX5_property_0 23 rfl rfl)
theorem dX5_property_24 : decode cX5_property 24 = .ok (.getfield 16, 3) := dk_180 0 16 (dk_at dksX5_property_1 0 rfl rfl)
theorem dX5_property_27 : decode cX5_property 27 = .ok (.ireturn, 1) := dk_172 (dk_at dksX5_property_1 3 rfl rfl)
abbrev cX5_joins : ByteArray := prog_2_method_2_code
def yX5_joins : MethodName := ⟨RX5, "joins", "(II)Z"⟩
def dkwX5_joins_1 : List UInt8 := [42, 180, 0, 13, 27, 160, 0, 7, 4, 167, 0, 4, 3, 172]
abbrev dktX5_joins_1 : List UInt8 := dkwX5_joins_1 ++ []
def dkwX5_joins_0 : List UInt8 := [42, 180, 0, 7, 27, 160, 0, 11, 42, 180, 0, 13, 28, 159, 0, 19, 42, 180, 0, 7, 28, 160, 0, 15]
abbrev dktX5_joins_0 : List UInt8 := dkwX5_joins_0 ++ dktX5_joins_1
theorem dksX5_joins_0 : cX5_joins.data.toList.drop 0 = dktX5_joins_0 := by decide +kernel
theorem dksX5_joins_1 : cX5_joins.data.toList.drop 24 = dktX5_joins_1 := dk_seg dksX5_joins_0 24 rfl rfl
theorem dX5_joins_0 : decode cX5_joins 0 = .ok (.aload_n 0, 1) := dk_42 (dk_at dksX5_joins_0 0 rfl rfl)
theorem dX5_joins_1 : decode cX5_joins 1 = .ok (.getfield 7, 3) := dk_180 0 7 (dk_at dksX5_joins_0 1 rfl rfl)
theorem dX5_joins_4 : decode cX5_joins 4 = .ok (.iload_n 1, 1) := dk_27 (dk_at dksX5_joins_0 4 rfl rfl)
theorem dX5_joins_5 : decode cX5_joins 5 = .ok (.if_icmp .ne 11, 3) := dk_160 0 11 (dk_at dksX5_joins_0 5 rfl rfl)
theorem dX5_joins_8 : decode cX5_joins 8 = .ok (.aload_n 0, 1) := dk_42 (dk_at dksX5_joins_0 8 rfl rfl)
theorem dX5_joins_9 : decode cX5_joins 9 = .ok (.getfield 13, 3) := dk_180 0 13 (dk_at dksX5_joins_0 9 rfl rfl)
theorem dX5_joins_12 : decode cX5_joins 12 = .ok (.iload_n 2, 1) := dk_28 (dk_at dksX5_joins_0 12 rfl rfl)
theorem dX5_joins_13 : decode cX5_joins 13 = .ok (.if_icmp .eq 19, 3) := dk_159 0 19 (dk_at dksX5_joins_0 13 rfl rfl)
theorem dX5_joins_16 : decode cX5_joins 16 = .ok (.aload_n 0, 1) := dk_42 (dk_at dksX5_joins_0 16 rfl rfl)
theorem dX5_joins_17 : decode cX5_joins 17 = .ok (.getfield 7, 3) := dk_180 0 7 (dk_at dksX5_joins_0 17 rfl rfl)
theorem dX5_joins_20 : decode cX5_joins 20 = .ok (.iload_n 2, 1) := dk_28 (dk_at dksX5_joins_0 20 rfl rfl)
theorem dX5_joins_21 : decode cX5_joins 21 = .ok (.if_icmp .ne 15, 3) := dk_160 0 15 (dk_at dksX5_joins_0 21 rfl rfl)
theorem dX5_joins_24 : decode cX5_joins 24 = .ok (.aload_n 0, 1) := dk_42 (dk_at dksX5_joins_1 0 rfl rfl)
theorem dX5_joins_25 : decode cX5_joins 25 = .ok (.getfield 13, 3) := dk_180 0 13 (dk_at dksX5_joins_1 1 rfl rfl)
theorem dX5_joins_28 : decode cX5_joins 28 = .ok (.iload_n 1, 1) := dk_27 (dk_at dksX5_joins_1 4 rfl rfl)
theorem dX5_joins_29 : decode cX5_joins 29 = .ok (.if_icmp .ne 7, 3) := dk_160 0 7 (dk_at dksX5_joins_1 5 rfl rfl)
theorem dX5_joins_32 : decode cX5_joins 32 = .ok (.iconst 1, 1) := dk_4 (dk_at dksX5_joins_1 8 rfl rfl)
theorem dX5_joins_33 : decode cX5_joins 33 = .ok (.goto 4, 3) := dk_167 0 4 (dk_at dksX5_joins_1 9 rfl rfl)
theorem dX5_joins_36 : decode cX5_joins 36 = .ok (.iconst 0, 1) := dk_3 (dk_at dksX5_joins_1 12 rfl rfl)
theorem dX5_joins_37 : decode cX5_joins 37 = .ok (.ireturn, 1) := dk_172 (dk_at dksX5_joins_1 13 rfl rfl)
abbrev cX5_init : ByteArray := prog_2_method_1_code
def yX5_init : MethodName := ⟨RX5, "<init>", "(III)V"⟩
def dkwX5_init_0 : List UInt8 := [42, 183, 0, 1, 42, 27, 181, 0, 7, 42, 28, 181, 0, 13, 42, 29, 181, 0, 16, 177]
abbrev dktX5_init_0 : List UInt8 := dkwX5_init_0 ++ []
theorem dksX5_init_0 : cX5_init.data.toList.drop 0 = dktX5_init_0 := by decide +kernel
theorem dX5_init_0 : decode cX5_init 0 = .ok (.aload_n 0, 1) := dk_42 (dk_at dksX5_init_0 0 rfl rfl)
theorem dX5_init_1 : decode cX5_init 1 = .ok (.invokespecial 1, 3) := dk_183 0 1 (dk_at dksX5_init_0 1 rfl rfl)
theorem dX5_init_4 : decode cX5_init 4 = .ok (.aload_n 0, 1) := dk_42 (dk_at dksX5_init_0 4 rfl rfl)
theorem dX5_init_5 : decode cX5_init 5 = .ok (.iload_n 1, 1) := dk_27 (dk_at dksX5_init_0 5 rfl rfl)
theorem dX5_init_6 : decode cX5_init 6 = .ok (.putfield 7, 3) := dk_181 0 7 (dk_at dksX5_init_0 6 rfl rfl)
theorem dX5_init_9 : decode cX5_init 9 = .ok (.aload_n 0, 1) := dk_42 (dk_at dksX5_init_0 9 rfl rfl)
theorem dX5_init_10 : decode cX5_init 10 = .ok (.iload_n 2, 1) := dk_28 (dk_at dksX5_init_0 10 rfl rfl)
theorem dX5_init_11 : decode cX5_init 11 = .ok (.putfield 13, 3) := dk_181 0 13 (dk_at dksX5_init_0 11 rfl rfl)
theorem dX5_init_14 : decode cX5_init 14 = .ok (.aload_n 0, 1) := dk_42 (dk_at dksX5_init_0 14 rfl rfl)
theorem dX5_init_15 : decode cX5_init 15 = .ok (.iload_n 3, 1) := dk_29 (dk_at dksX5_init_0 15 rfl rfl)
theorem dX5_init_16 : decode cX5_init 16 = .ok (.putfield 16, 3) := dk_181 0 16 (dk_at dksX5_init_0 16 rfl rfl)
theorem dX5_init_19 : decode cX5_init 19 = .ok (.return_, 1) := dk_177 (dk_at dksX5_init_0 19 rfl rfl)
theorem q125 : (Jvm.Cond.initialized "NetworkCenters$Edge") ∈ lw_all := lw_g (lw_at lw_m1 21 rfl) rfl
theorem q836 : (Jvm.Cond.instanceMethod ({ cls := "NetworkCenters$Edge", name := "property", desc := "(I)I" } : Jvm.MethodName)) ∈ lw_all := lw_g (lw_at lw_m4 12 rfl) rfl
theorem q837 : (Jvm.Cond.selects "NetworkCenters$Edge" ({ cls := "NetworkCenters$Edge", name := "property", desc := "(I)I" } : Jvm.MethodName) ({ cls := "NetworkCenters$Edge", name := "property", desc := "(I)I" } : Jvm.MethodName)) ∈ lw_all := lw_g (lw_at lw_m4 13 rfl) rfl
theorem q838 : (Jvm.Cond.code ({ cls := "NetworkCenters$Edge", name := "property", desc := "(I)I" } : Jvm.MethodName) prog_2_method_3_code (2 : Nat) (Option.some Jvm.ClassFile.FieldType.int)) ∈ lw_all := lw_g (lw_at lw_m4 14 rfl) rfl
theorem q1237 : (Jvm.Cond.selects "NetworkCenters$Edge" ({ cls := "java/lang/Object", name := "getClass", desc := "()Ljava/lang/Class;" } : Jvm.MethodName) ({ cls := "java/lang/Object", name := "getClass", desc := "()Ljava/lang/Class;" } : Jvm.MethodName)) ∈ lw_all := lw_g (lw_at lw_m5 173 rfl) rfl
theorem q1319 : (Jvm.Cond.instanceMethod ({ cls := "NetworkCenters$Edge", name := "joins", desc := "(II)Z" } : Jvm.MethodName)) ∈ lw_all := lw_g (lw_at lw_m6 15 rfl) rfl
theorem q1320 : (Jvm.Cond.selects "NetworkCenters$Edge" ({ cls := "NetworkCenters$Edge", name := "joins", desc := "(II)Z" } : Jvm.MethodName) ({ cls := "NetworkCenters$Edge", name := "joins", desc := "(II)Z" } : Jvm.MethodName)) ∈ lw_all := lw_g (lw_at lw_m6 16 rfl) rfl
theorem q1321 : (Jvm.Cond.code ({ cls := "NetworkCenters$Edge", name := "joins", desc := "(II)Z" } : Jvm.MethodName) prog_2_method_2_code (3 : Nat) (Option.some Jvm.ClassFile.FieldType.boolean)) ∈ lw_all := lw_g (lw_at lw_m6 17 rfl) rfl
theorem q1331 : (Jvm.Cond.instantiable "NetworkCenters$Edge" (3 : Nat)) ∈ lw_all := lw_g (lw_at lw_m6 27 rfl) rfl
theorem q1333 : (Jvm.Cond.instanceMethod ({ cls := "NetworkCenters$Edge", name := "<init>", desc := "(III)V" } : Jvm.MethodName)) ∈ lw_all := lw_g (lw_at lw_m6 29 rfl) rfl
theorem q1334 : (Jvm.Cond.code ({ cls := "NetworkCenters$Edge", name := "<init>", desc := "(III)V" } : Jvm.MethodName) prog_2_method_1_code (4 : Nat) (Option.none : Option Jvm.ClassFile.FieldType)) ∈ lw_all := lw_g (lw_at lw_m6 30 rfl) rfl
theorem q1335 : (Jvm.Cond.methodLink "NetworkCenters$Edge" (1 : Nat) ({ cls := "java/lang/Object", name := "<init>", desc := "()V" } : Jvm.MethodName)) ∈ lw_all := lw_g (lw_at lw_m6 31 rfl) rfl
theorem q1336 : (Jvm.Cond.fieldLink "NetworkCenters$Edge" (7 : Nat) "NetworkCenters$Edge" "a" "I") ∈ lw_all := lw_g (lw_at lw_m6 32 rfl) rfl
theorem q1340 : (Jvm.Cond.fieldLink "NetworkCenters$Edge" (13 : Nat) "NetworkCenters$Edge" "b" "I") ∈ lw_all := lw_g (lw_at lw_m6 36 rfl) rfl
theorem q1344 : (Jvm.Cond.fieldLink "NetworkCenters$Edge" (16 : Nat) "NetworkCenters$Edge" "length" "I") ∈ lw_all := lw_g (lw_at lw_m6 40 rfl) rfl
theorem q1348 : (Jvm.Cond.laysFinal "NetworkCenters$Edge" "NetworkCenters$Edge" "a" "I") ∈ lw_all := lw_g (lw_at lw_m6 44 rfl) rfl
theorem q1349 : (Jvm.Cond.soleField "NetworkCenters$Edge" "a") ∈ lw_all := lw_g (lw_at lw_m6 45 rfl) rfl
theorem q1350 : (Jvm.Cond.laysFinal "NetworkCenters$Edge" "NetworkCenters$Edge" "b" "I") ∈ lw_all := lw_g (lw_at lw_m6 46 rfl) rfl
theorem q1351 : (Jvm.Cond.soleField "NetworkCenters$Edge" "b") ∈ lw_all := lw_g (lw_at lw_m6 47 rfl) rfl
theorem q1352 : (Jvm.Cond.laysFinal "NetworkCenters$Edge" "NetworkCenters$Edge" "length" "I") ∈ lw_all := lw_g (lw_at lw_m6 48 rfl) rfl
theorem q1353 : (Jvm.Cond.soleField "NetworkCenters$Edge" "length") ∈ lw_all := lw_g (lw_at lw_m6 49 rfl) rfl
theorem q1354 : (Jvm.Cond.superclass "NetworkCenters$Edge" "java/lang/Object") ∈ lw_all := lw_g (lw_at lw_m6 50 rfl) rfl
theorem q2536 : (Jvm.Cond.castable "NetworkCenters$Edge" "java/lang/Object") ∈ lw_tbl := lw_at lw_m11 32 rfl
theorem in_X5 : ∀ w ∈ wsX50, w ∈ lw_all := lw_in wsX50 [1348, 1350, 1352] (by decide +kernel) (by decide +kernel)
/-! NetworkCenters$Stretch -/
set_option maxRecDepth 100000
def RX6 : String := "NetworkCenters$Stretch"
def TX6 : u_T := fun k => match k with
  | 0 => ("NetworkCenters$Stretch", "edge", "I", true)
  | 1 => ("NetworkCenters$Stretch", "a", "I", true)
  | _ => ("NetworkCenters$Stretch", "b", "I", true)
def tyX6 : Nat → FieldType := fun k => match k with
  | 0 => .int
  | 1 => .int
  | _ => .int
abbrev wsX60 : List Cond := u_ws RX6 TX6 3
theorem nmX6 : ∀ a, a < 3 → ∀ b, b < 3 → a ≠ b → (TX6 a).2.1 ≠ (TX6 b).2.1 := by decide +kernel
theorem tyX6_ok : ∀ k, k < 3 → parseFieldDescriptor (TX6 k).2.2.1 = some (tyX6 k) := by decide +kernel
abbrev cX6_property : ByteArray := prog_16_method_3_code
def yX6_property : MethodName := ⟨RX6, "property", "(I)I"⟩
def dkwX6_property_1 : List UInt8 := [180, 0, 16, 172]
abbrev dktX6_property_1 : List UInt8 := dkwX6_property_1 ++ []
def dkwX6_property_0 : List UInt8 := [27, 154, 0, 10, 42, 180, 0, 7, 167, 0, 19, 27, 4, 160, 0, 10, 42, 180, 0, 13, 167, 0, 7, 42]
abbrev dktX6_property_0 : List UInt8 := dkwX6_property_0 ++ dktX6_property_1
theorem dksX6_property_0 : cX6_property.data.toList.drop 0 = dktX6_property_0 := by decide +kernel
theorem dksX6_property_1 : cX6_property.data.toList.drop 24 = dktX6_property_1 := dk_seg dksX6_property_0 24 rfl rfl
theorem dX6_property_0 : decode cX6_property 0 = .ok (.iload_n 1, 1) := dk_27 (dk_at dksX6_property_0 0 rfl rfl)
theorem dX6_property_1 : decode cX6_property 1 = .ok (.ifCond .ne 10, 3) := dk_154 0 10 (dk_at dksX6_property_0 1 rfl rfl)
theorem dX6_property_4 : decode cX6_property 4 = .ok (.aload_n 0, 1) := dk_42 (dk_at dksX6_property_0 4 rfl rfl)
theorem dX6_property_5 : decode cX6_property 5 = .ok (.getfield 7, 3) := dk_180 0 7 (dk_at dksX6_property_0 5 rfl rfl)
theorem dX6_property_8 : decode cX6_property 8 = .ok (.goto 19, 3) := dk_167 0 19 (dk_at dksX6_property_0 8 rfl rfl)
theorem dX6_property_11 : decode cX6_property 11 = .ok (.iload_n 1, 1) := dk_27 (dk_at dksX6_property_0 11 rfl rfl)
theorem dX6_property_12 : decode cX6_property 12 = .ok (.iconst 1, 1) := dk_4 (dk_at dksX6_property_0 12 rfl rfl)
theorem dX6_property_13 : decode cX6_property 13 = .ok (.if_icmp .ne 10, 3) := dk_160 0 10 (dk_at dksX6_property_0 13 rfl rfl)
theorem dX6_property_16 : decode cX6_property 16 = .ok (.aload_n 0, 1) := dk_42 (dk_at dksX6_property_0 16 rfl rfl)
theorem dX6_property_17 : decode cX6_property 17 = .ok (.getfield 13, 3) := dk_180 0 13 (dk_at dksX6_property_0 17 rfl rfl)
theorem dX6_property_20 : decode cX6_property 20 = .ok (.goto 7, 3) := dk_167 0 7 (dk_at dksX6_property_0 20 rfl rfl)
theorem dX6_property_23 : decode cX6_property 23 = .ok (.aload_n 0, 1) := dk_42 (dk_at dksX6_property_0 23 rfl rfl)
theorem dX6_property_24 : decode cX6_property 24 = .ok (.getfield 16, 3) := dk_180 0 16 (dk_at dksX6_property_1 0 rfl rfl)
theorem dX6_property_27 : decode cX6_property 27 = .ok (.ireturn, 1) := dk_172 (dk_at dksX6_property_1 3 rfl rfl)
abbrev cX6_contains : ByteArray := prog_16_method_2_code
def yX6_contains : MethodName := ⟨RX6, "contains", "(IJJ)Z"⟩
def dkwX6_contains_1 : List UInt8 := [180, 0, 16, 133, 22, 4, 105, 148, 156, 0, 7, 4, 167, 0, 4, 3, 172]
abbrev dktX6_contains_1 : List UInt8 := dkwX6_contains_1 ++ []
def dkwX6_contains_0 : List UInt8 := [42, 180, 0, 7, 27, 160, 0, 33, 32, 42, 180, 0, 13, 133, 22, 4, 105, 148, 158, 0, 20, 32, 42]
abbrev dktX6_contains_0 : List UInt8 := dkwX6_contains_0 ++ dktX6_contains_1
theorem dksX6_contains_0 : cX6_contains.data.toList.drop 0 = dktX6_contains_0 := by decide +kernel
theorem dksX6_contains_1 : cX6_contains.data.toList.drop 23 = dktX6_contains_1 := dk_seg dksX6_contains_0 23 rfl rfl
theorem dX6_contains_0 : decode cX6_contains 0 = .ok (.aload_n 0, 1) := dk_42 (dk_at dksX6_contains_0 0 rfl rfl)
theorem dX6_contains_1 : decode cX6_contains 1 = .ok (.getfield 7, 3) := dk_180 0 7 (dk_at dksX6_contains_0 1 rfl rfl)
theorem dX6_contains_4 : decode cX6_contains 4 = .ok (.iload_n 1, 1) := dk_27 (dk_at dksX6_contains_0 4 rfl rfl)
theorem dX6_contains_5 : decode cX6_contains 5 = .ok (.if_icmp .ne 33, 3) := dk_160 0 33 (dk_at dksX6_contains_0 5 rfl rfl)
theorem dX6_contains_8 : decode cX6_contains 8 = .ok (.lload_n 2, 1) := dk_32 (dk_at dksX6_contains_0 8 rfl rfl)
theorem dX6_contains_9 : decode cX6_contains 9 = .ok (.aload_n 0, 1) := dk_42 (dk_at dksX6_contains_0 9 rfl rfl)
theorem dX6_contains_10 : decode cX6_contains 10 = .ok (.getfield 13, 3) := dk_180 0 13 (dk_at dksX6_contains_0 10 rfl rfl)
theorem dX6_contains_13 : decode cX6_contains 13 = .ok (.i2l, 1) := dk_133 (dk_at dksX6_contains_0 13 rfl rfl)
theorem dX6_contains_14 : decode cX6_contains 14 = .ok (.lload 4, 2) := dk_22 4 (dk_at dksX6_contains_0 14 rfl rfl)
theorem dX6_contains_16 : decode cX6_contains 16 = .ok (.lmul, 1) := dk_105 (dk_at dksX6_contains_0 16 rfl rfl)
theorem dX6_contains_17 : decode cX6_contains 17 = .ok (.lcmp, 1) := dk_148 (dk_at dksX6_contains_0 17 rfl rfl)
theorem dX6_contains_18 : decode cX6_contains 18 = .ok (.ifCond .le 20, 3) := dk_158 0 20 (dk_at dksX6_contains_0 18 rfl rfl)
theorem dX6_contains_21 : decode cX6_contains 21 = .ok (.lload_n 2, 1) := dk_32 (dk_at dksX6_contains_0 21 rfl rfl)
theorem dX6_contains_22 : decode cX6_contains 22 = .ok (.aload_n 0, 1) := dk_42 (dk_at dksX6_contains_0 22 rfl rfl)
theorem dX6_contains_23 : decode cX6_contains 23 = .ok (.getfield 16, 3) := dk_180 0 16 (dk_at dksX6_contains_1 0 rfl rfl)
theorem dX6_contains_26 : decode cX6_contains 26 = .ok (.i2l, 1) := dk_133 (dk_at dksX6_contains_1 3 rfl rfl)
theorem dX6_contains_27 : decode cX6_contains 27 = .ok (.lload 4, 2) := dk_22 4 (dk_at dksX6_contains_1 4 rfl rfl)
theorem dX6_contains_29 : decode cX6_contains 29 = .ok (.lmul, 1) := dk_105 (dk_at dksX6_contains_1 6 rfl rfl)
theorem dX6_contains_30 : decode cX6_contains 30 = .ok (.lcmp, 1) := dk_148 (dk_at dksX6_contains_1 7 rfl rfl)
theorem dX6_contains_31 : decode cX6_contains 31 = .ok (.ifCond .ge 7, 3) := dk_156 0 7 (dk_at dksX6_contains_1 8 rfl rfl)
theorem dX6_contains_34 : decode cX6_contains 34 = .ok (.iconst 1, 1) := dk_4 (dk_at dksX6_contains_1 11 rfl rfl)
theorem dX6_contains_35 : decode cX6_contains 35 = .ok (.goto 4, 3) := dk_167 0 4 (dk_at dksX6_contains_1 12 rfl rfl)
theorem dX6_contains_38 : decode cX6_contains 38 = .ok (.iconst 0, 1) := dk_3 (dk_at dksX6_contains_1 15 rfl rfl)
theorem dX6_contains_39 : decode cX6_contains 39 = .ok (.ireturn, 1) := dk_172 (dk_at dksX6_contains_1 16 rfl rfl)
abbrev cX6_init : ByteArray := prog_16_method_1_code
def yX6_init : MethodName := ⟨RX6, "<init>", "(III)V"⟩
def dkwX6_init_0 : List UInt8 := [42, 183, 0, 1, 42, 27, 181, 0, 7, 42, 28, 181, 0, 13, 42, 29, 181, 0, 16, 177]
abbrev dktX6_init_0 : List UInt8 := dkwX6_init_0 ++ []
theorem dksX6_init_0 : cX6_init.data.toList.drop 0 = dktX6_init_0 := by decide +kernel
theorem dX6_init_0 : decode cX6_init 0 = .ok (.aload_n 0, 1) := dk_42 (dk_at dksX6_init_0 0 rfl rfl)
theorem dX6_init_1 : decode cX6_init 1 = .ok (.invokespecial 1, 3) := dk_183 0 1 (dk_at dksX6_init_0 1 rfl rfl)
theorem dX6_init_4 : decode cX6_init 4 = .ok (.aload_n 0, 1) := dk_42 (dk_at dksX6_init_0 4 rfl rfl)
theorem dX6_init_5 : decode cX6_init 5 = .ok (.iload_n 1, 1) := dk_27 (dk_at dksX6_init_0 5 rfl rfl)
theorem dX6_init_6 : decode cX6_init 6 = .ok (.putfield 7, 3) := dk_181 0 7 (dk_at dksX6_init_0 6 rfl rfl)
theorem dX6_init_9 : decode cX6_init 9 = .ok (.aload_n 0, 1) := dk_42 (dk_at dksX6_init_0 9 rfl rfl)
theorem dX6_init_10 : decode cX6_init 10 = .ok (.iload_n 2, 1) := dk_28 (dk_at dksX6_init_0 10 rfl rfl)
theorem dX6_init_11 : decode cX6_init 11 = .ok (.putfield 13, 3) := dk_181 0 13 (dk_at dksX6_init_0 11 rfl rfl)
theorem dX6_init_14 : decode cX6_init 14 = .ok (.aload_n 0, 1) := dk_42 (dk_at dksX6_init_0 14 rfl rfl)
theorem dX6_init_15 : decode cX6_init 15 = .ok (.iload_n 3, 1) := dk_29 (dk_at dksX6_init_0 15 rfl rfl)
theorem dX6_init_16 : decode cX6_init 16 = .ok (.putfield 16, 3) := dk_181 0 16 (dk_at dksX6_init_0 16 rfl rfl)
theorem dX6_init_19 : decode cX6_init 19 = .ok (.return_, 1) := dk_177 (dk_at dksX6_init_0 19 rfl rfl)
theorem q140 : (Jvm.Cond.initialized "NetworkCenters$Stretch") ∈ lw_all := lw_g (lw_at lw_m1 36 rfl) rfl
theorem q840 : (Jvm.Cond.instanceMethod ({ cls := "NetworkCenters$Stretch", name := "property", desc := "(I)I" } : Jvm.MethodName)) ∈ lw_all := lw_g (lw_at lw_m4 16 rfl) rfl
theorem q841 : (Jvm.Cond.selects "NetworkCenters$Stretch" ({ cls := "NetworkCenters$Stretch", name := "property", desc := "(I)I" } : Jvm.MethodName) ({ cls := "NetworkCenters$Stretch", name := "property", desc := "(I)I" } : Jvm.MethodName)) ∈ lw_all := lw_g (lw_at lw_m4 17 rfl) rfl
theorem q842 : (Jvm.Cond.code ({ cls := "NetworkCenters$Stretch", name := "property", desc := "(I)I" } : Jvm.MethodName) prog_16_method_3_code (2 : Nat) (Option.some Jvm.ClassFile.FieldType.int)) ∈ lw_all := lw_g (lw_at lw_m4 18 rfl) rfl
theorem q1004 : (Jvm.Cond.instanceMethod ({ cls := "NetworkCenters$Stretch", name := "contains", desc := "(IJJ)Z" } : Jvm.MethodName)) ∈ lw_all := lw_g (lw_at lw_m4 180 rfl) rfl
theorem q1005 : (Jvm.Cond.selects "NetworkCenters$Stretch" ({ cls := "NetworkCenters$Stretch", name := "contains", desc := "(IJJ)Z" } : Jvm.MethodName) ({ cls := "NetworkCenters$Stretch", name := "contains", desc := "(IJJ)Z" } : Jvm.MethodName)) ∈ lw_all := lw_g (lw_at lw_m4 181 rfl) rfl
theorem q1006 : (Jvm.Cond.code ({ cls := "NetworkCenters$Stretch", name := "contains", desc := "(IJJ)Z" } : Jvm.MethodName) prog_16_method_2_code (6 : Nat) (Option.some Jvm.ClassFile.FieldType.boolean)) ∈ lw_all := lw_g (lw_at lw_m4 182 rfl) rfl
theorem q1249 : (Jvm.Cond.selects "NetworkCenters$Stretch" ({ cls := "java/lang/Object", name := "getClass", desc := "()Ljava/lang/Class;" } : Jvm.MethodName) ({ cls := "java/lang/Object", name := "getClass", desc := "()Ljava/lang/Class;" } : Jvm.MethodName)) ∈ lw_all := lw_g (lw_at lw_m5 185 rfl) rfl
theorem q1679 : (Jvm.Cond.instantiable "NetworkCenters$Stretch" (3 : Nat)) ∈ lw_all := lw_g (lw_at lw_m7 135 rfl) rfl
theorem q1681 : (Jvm.Cond.instanceMethod ({ cls := "NetworkCenters$Stretch", name := "<init>", desc := "(III)V" } : Jvm.MethodName)) ∈ lw_all := lw_g (lw_at lw_m7 137 rfl) rfl
theorem q1682 : (Jvm.Cond.code ({ cls := "NetworkCenters$Stretch", name := "<init>", desc := "(III)V" } : Jvm.MethodName) prog_16_method_1_code (4 : Nat) (Option.none : Option Jvm.ClassFile.FieldType)) ∈ lw_all := lw_g (lw_at lw_m7 138 rfl) rfl
theorem q1683 : (Jvm.Cond.methodLink "NetworkCenters$Stretch" (1 : Nat) ({ cls := "java/lang/Object", name := "<init>", desc := "()V" } : Jvm.MethodName)) ∈ lw_all := lw_g (lw_at lw_m7 139 rfl) rfl
theorem q1684 : (Jvm.Cond.fieldLink "NetworkCenters$Stretch" (7 : Nat) "NetworkCenters$Stretch" "edge" "I") ∈ lw_all := lw_g (lw_at lw_m7 140 rfl) rfl
theorem q1688 : (Jvm.Cond.fieldLink "NetworkCenters$Stretch" (13 : Nat) "NetworkCenters$Stretch" "a" "I") ∈ lw_all := lw_g (lw_at lw_m7 144 rfl) rfl
theorem q1691 : (Jvm.Cond.fieldLink "NetworkCenters$Stretch" (16 : Nat) "NetworkCenters$Stretch" "b" "I") ∈ lw_all := lw_g (lw_at lw_m7 147 rfl) rfl
theorem q1694 : (Jvm.Cond.laysFinal "NetworkCenters$Stretch" "NetworkCenters$Stretch" "edge" "I") ∈ lw_all := lw_g (lw_at lw_m7 150 rfl) rfl
theorem q1695 : (Jvm.Cond.soleField "NetworkCenters$Stretch" "edge") ∈ lw_all := lw_g (lw_at lw_m7 151 rfl) rfl
theorem q1696 : (Jvm.Cond.laysFinal "NetworkCenters$Stretch" "NetworkCenters$Stretch" "a" "I") ∈ lw_all := lw_g (lw_at lw_m7 152 rfl) rfl
theorem q1697 : (Jvm.Cond.soleField "NetworkCenters$Stretch" "a") ∈ lw_all := lw_g (lw_at lw_m7 153 rfl) rfl
theorem q1698 : (Jvm.Cond.laysFinal "NetworkCenters$Stretch" "NetworkCenters$Stretch" "b" "I") ∈ lw_all := lw_g (lw_at lw_m7 154 rfl) rfl
theorem q1699 : (Jvm.Cond.soleField "NetworkCenters$Stretch" "b") ∈ lw_all := lw_g (lw_at lw_m7 155 rfl) rfl
theorem q1700 : (Jvm.Cond.superclass "NetworkCenters$Stretch" "java/lang/Object") ∈ lw_all := lw_g (lw_at lw_m7 156 rfl) rfl
theorem q2537 : (Jvm.Cond.castable "NetworkCenters$Stretch" "java/lang/Object") ∈ lw_tbl := lw_at lw_m11 33 rfl
theorem in_X6 : ∀ w ∈ wsX60, w ∈ lw_all := lw_in wsX60 [1694, 1696, 1698] (by decide +kernel) (by decide +kernel)
/-! NetworkCenters$Points -/
set_option maxRecDepth 100000
def RX7 : String := "NetworkCenters$Points"
def TX7 : u_T := fun k => match k with
  | 0 => ("NetworkCenters$Points", "edges", "[I", false)
  | 1 => ("NetworkCenters$Points", "above", "[I", false)
  | 2 => ("NetworkCenters$Points", "below", "[I", false)
  | 3 => ("NetworkCenters$Points", "many", "I", false)
  | _ => ("NetworkCenters$Points", "first", "I", false)
def tyX7 : Nat → FieldType := fun k => match k with
  | 0 => .array .int
  | 1 => .array .int
  | 2 => .array .int
  | 3 => .int
  | _ => .int
abbrev wsX70 : List Cond := u_ws RX7 TX7 5
theorem nmX7 : ∀ a, a < 5 → ∀ b, b < 5 → a ≠ b → (TX7 a).2.1 ≠ (TX7 b).2.1 := by decide +kernel
theorem tyX7_ok : ∀ k, k < 5 → parseFieldDescriptor (TX7 k).2.2.1 = some (tyX7 k) := by decide +kernel
abbrev cX7_init : ByteArray := prog_13_method_1_code
def yX7_init : MethodName := ⟨RX7, "<init>", "()V"⟩
def dkwX7_init_1 : List UInt8 := [188, 10, 181, 0, 16, 177]
abbrev dktX7_init_1 : List UInt8 := dkwX7_init_1 ++ []
def dkwX7_init_0 : List UInt8 := [42, 183, 0, 1, 42, 16, 64, 188, 10, 181, 0, 7, 42, 16, 64, 188, 10, 181, 0, 13, 42, 16, 64]
abbrev dktX7_init_0 : List UInt8 := dkwX7_init_0 ++ dktX7_init_1
theorem dksX7_init_0 : cX7_init.data.toList.drop 0 = dktX7_init_0 := by decide +kernel
theorem dksX7_init_1 : cX7_init.data.toList.drop 23 = dktX7_init_1 := dk_seg dksX7_init_0 23 rfl rfl
theorem dX7_init_0 : decode cX7_init 0 = .ok (.aload_n 0, 1) := dk_42 (dk_at dksX7_init_0 0 rfl rfl)
theorem dX7_init_1 : decode cX7_init 1 = .ok (.invokespecial 1, 3) := dk_183 0 1 (dk_at dksX7_init_0 1 rfl rfl)
theorem dX7_init_4 : decode cX7_init 4 = .ok (.aload_n 0, 1) := dk_42 (dk_at dksX7_init_0 4 rfl rfl)
theorem dX7_init_5 : decode cX7_init 5 = .ok (.bipush 64, 2) := dk_16 64 (dk_at dksX7_init_0 5 rfl rfl)
theorem dX7_init_7 : decode cX7_init 7 = .ok (.newarray .int, 2) := dk_188_10 (dk_at dksX7_init_0 7 rfl rfl)
theorem dX7_init_9 : decode cX7_init 9 = .ok (.putfield 7, 3) := dk_181 0 7 (dk_at dksX7_init_0 9 rfl rfl)
theorem dX7_init_12 : decode cX7_init 12 = .ok (.aload_n 0, 1) := dk_42 (dk_at dksX7_init_0 12 rfl rfl)
theorem dX7_init_13 : decode cX7_init 13 = .ok (.bipush 64, 2) := dk_16 64 (dk_at dksX7_init_0 13 rfl rfl)
theorem dX7_init_15 : decode cX7_init 15 = .ok (.newarray .int, 2) := dk_188_10 (dk_at dksX7_init_0 15 rfl rfl)
theorem dX7_init_17 : decode cX7_init 17 = .ok (.putfield 13, 3) := dk_181 0 13 (dk_at dksX7_init_0 17 rfl rfl)
theorem dX7_init_20 : decode cX7_init 20 = .ok (.aload_n 0, 1) := dk_42 (dk_at dksX7_init_0 20 rfl rfl)
theorem dX7_init_21 : decode cX7_init 21 = .ok (.bipush 64, 2) := dk_16 64 (dk_at dksX7_init_0 21 rfl rfl)
theorem dX7_init_23 : decode cX7_init 23 = .ok (.newarray .int, 2) := dk_188_10 (dk_at dksX7_init_1 0 rfl rfl)
theorem dX7_init_25 : decode cX7_init 25 = .ok (.putfield 16, 3) := dk_181 0 16 (dk_at dksX7_init_1 2 rfl rfl)
theorem dX7_init_28 : decode cX7_init 28 = .ok (.return_, 1) := dk_177 (dk_at dksX7_init_1 5 rfl rfl)
abbrev cX7_enter : ByteArray := prog_13_method_2_code
def yX7_enter : MethodName := ⟨RX7, "enter", "(IJJ)V"⟩
def dkwX7_enter_11 : List UInt8 := [4, 96, 181, 0, 27, 177]
abbrev dktX7_enter_11 : List UInt8 := dkwX7_enter_11 ++ []
def dkwX7_enter_10 : List UInt8 := [79, 42, 180, 0, 13, 21, 10, 21, 8, 79, 42, 180, 0, 16, 21, 10, 21, 9, 79, 42, 89, 180, 0, 27]
abbrev dktX7_enter_10 : List UInt8 := dkwX7_enter_10 ++ dktX7_enter_11
def dkwX7_enter_9 : List UInt8 := [180, 0, 16, 21, 11, 4, 100, 46, 79, 132, 11, 255, 167, 255, 214, 42, 180, 0, 7, 42, 180, 0, 27, 27]
abbrev dktX7_enter_9 : List UInt8 := dkwX7_enter_9 ++ dktX7_enter_10
def dkwX7_enter_8 : List UInt8 := [180, 0, 13, 21, 11, 42, 180, 0, 13, 21, 11, 4, 100, 46, 79, 42, 180, 0, 16, 21, 11, 42]
abbrev dktX7_enter_8 : List UInt8 := dkwX7_enter_8 ++ dktX7_enter_9
def dkwX7_enter_7 : List UInt8 := [180, 0, 16, 184, 0, 34, 181, 0, 16, 42, 180, 0, 27, 54, 11, 21, 11, 21, 10, 164, 0, 41, 42]
abbrev dktX7_enter_7 : List UInt8 := dkwX7_enter_7 ++ dktX7_enter_8
def dkwX7_enter_6 : List UInt8 := [42, 180, 0, 7, 184, 0, 34, 181, 0, 7, 42, 42, 180, 0, 13, 184, 0, 34, 181, 0, 13, 42, 42]
abbrev dktX7_enter_6 : List UInt8 := dkwX7_enter_6 ++ dktX7_enter_7
def dkwX7_enter_5 : List UInt8 := [21, 10, 4, 100, 46, 21, 9, 160, 0, 4, 177, 42, 180, 0, 27, 42, 180, 0, 7, 190, 160, 0, 36, 42]
abbrev dktX7_enter_5 : List UInt8 := dkwX7_enter_5 ++ dktX7_enter_6
def dkwX7_enter_4 : List UInt8 := [180, 0, 31, 164, 0, 32, 42, 180, 0, 13, 21, 10, 4, 100, 46, 21, 8, 160, 0, 18, 42, 180, 0, 16]
abbrev dktX7_enter_4 : List UInt8 := dkwX7_enter_4 ++ dktX7_enter_5
def dkwX7_enter_3 : List UInt8 := [21, 10, 4, 100, 46, 133, 21, 9, 133, 105, 148, 156, 0, 9, 132, 10, 255, 167, 255, 212, 21, 10, 42]
abbrev dktX7_enter_3 : List UInt8 := dkwX7_enter_3 ++ dktX7_enter_4
def dkwX7_enter_2 : List UInt8 := [180, 0, 31, 164, 0, 41, 21, 8, 133, 42, 180, 0, 16, 21, 10, 4, 100, 46, 133, 105, 42, 180, 0, 13]
abbrev dktX7_enter_2 : List UInt8 := dkwX7_enter_2 ++ dktX7_enter_3
def dkwX7_enter_1 : List UInt8 := [22, 6, 109, 136, 54, 8, 22, 4, 22, 6, 109, 136, 54, 9, 42, 180, 0, 27, 54, 10, 21, 10, 42]
abbrev dktX7_enter_1 : List UInt8 := dkwX7_enter_1 ++ dktX7_enter_2
def dkwX7_enter_0 : List UInt8 := [32, 22, 4, 184, 0, 19, 22, 4, 9, 148, 156, 0, 9, 20, 0, 25, 167, 0, 4, 10, 105, 55, 6, 32]
abbrev dktX7_enter_0 : List UInt8 := dkwX7_enter_0 ++ dktX7_enter_1
theorem dksX7_enter_0 : cX7_enter.data.toList.drop 0 = dktX7_enter_0 := by decide +kernel
theorem dksX7_enter_1 : cX7_enter.data.toList.drop 24 = dktX7_enter_1 := dk_seg dksX7_enter_0 24 rfl rfl
theorem dksX7_enter_2 : cX7_enter.data.toList.drop 47 = dktX7_enter_2 := dk_seg dksX7_enter_1 23 rfl rfl
theorem dksX7_enter_3 : cX7_enter.data.toList.drop 71 = dktX7_enter_3 := dk_seg dksX7_enter_2 24 rfl rfl
theorem dksX7_enter_4 : cX7_enter.data.toList.drop 94 = dktX7_enter_4 := dk_seg dksX7_enter_3 23 rfl rfl
theorem dksX7_enter_5 : cX7_enter.data.toList.drop 118 = dktX7_enter_5 := dk_seg dksX7_enter_4 24 rfl rfl
theorem dksX7_enter_6 : cX7_enter.data.toList.drop 142 = dktX7_enter_6 := dk_seg dksX7_enter_5 24 rfl rfl
theorem dksX7_enter_7 : cX7_enter.data.toList.drop 165 = dktX7_enter_7 := dk_seg dksX7_enter_6 23 rfl rfl
theorem dksX7_enter_8 : cX7_enter.data.toList.drop 188 = dktX7_enter_8 := dk_seg dksX7_enter_7 23 rfl rfl
theorem dksX7_enter_9 : cX7_enter.data.toList.drop 210 = dktX7_enter_9 := dk_seg dksX7_enter_8 22 rfl rfl
theorem dksX7_enter_10 : cX7_enter.data.toList.drop 234 = dktX7_enter_10 := dk_seg dksX7_enter_9 24 rfl rfl
theorem dksX7_enter_11 : cX7_enter.data.toList.drop 258 = dktX7_enter_11 := dk_seg dksX7_enter_10 24 rfl rfl
theorem dX7_enter_0 : decode cX7_enter 0 = .ok (.lload_n 2, 1) := dk_32 (dk_at dksX7_enter_0 0 rfl rfl)
theorem dX7_enter_1 : decode cX7_enter 1 = .ok (.lload 4, 2) := dk_22 4 (dk_at dksX7_enter_0 1 rfl rfl)
theorem dX7_enter_3 : decode cX7_enter 3 = .ok (.invokestatic 19, 3) := dk_184 0 19 (dk_at dksX7_enter_0 3 rfl rfl)
theorem dX7_enter_6 : decode cX7_enter 6 = .ok (.lload 4, 2) := dk_22 4 (dk_at dksX7_enter_0 6 rfl rfl)
theorem dX7_enter_8 : decode cX7_enter 8 = .ok (.lconst 0, 1) := dk_9 (dk_at dksX7_enter_0 8 rfl rfl)
theorem dX7_enter_9 : decode cX7_enter 9 = .ok (.lcmp, 1) := dk_148 (dk_at dksX7_enter_0 9 rfl rfl)
theorem dX7_enter_10 : decode cX7_enter 10 = .ok (.ifCond .ge 9, 3) := dk_156 0 9 (dk_at dksX7_enter_0 10 rfl rfl)
theorem dX7_enter_13 : decode cX7_enter 13 = .ok (.ldc2_w 25, 3) := dk_20 0 25 (dk_at dksX7_enter_0 13 rfl rfl)
theorem dX7_enter_16 : decode cX7_enter 16 = .ok (.goto 4, 3) := dk_167 0 4 (dk_at dksX7_enter_0 16 rfl rfl)
theorem dX7_enter_19 : decode cX7_enter 19 = .ok (.lconst 1, 1) := dk_10 (dk_at dksX7_enter_0 19 rfl rfl)
theorem dX7_enter_20 : decode cX7_enter 20 = .ok (.lmul, 1) := dk_105 (dk_at dksX7_enter_0 20 rfl rfl)
theorem dX7_enter_21 : decode cX7_enter 21 = .ok (.lstore 6, 2) := dk_55 6 (dk_at dksX7_enter_0 21 rfl rfl)
theorem dX7_enter_23 : decode cX7_enter 23 = .ok (.lload_n 2, 1) := dk_32 (dk_at dksX7_enter_0 23 rfl rfl)
theorem dX7_enter_24 : decode cX7_enter 24 = .ok (.lload 6, 2) := dk_22 6 (dk_at dksX7_enter_1 0 rfl rfl)
theorem dX7_enter_26 : decode cX7_enter 26 = .ok (.ldiv, 1) := dk_109 (dk_at dksX7_enter_1 2 rfl rfl)
theorem dX7_enter_27 : decode cX7_enter 27 = .ok (.l2i, 1) := dk_136 (dk_at dksX7_enter_1 3 rfl rfl)
theorem dX7_enter_28 : decode cX7_enter 28 = .ok (.istore 8, 2) := dk_54 8 (dk_at dksX7_enter_1 4 rfl rfl)
theorem dX7_enter_30 : decode cX7_enter 30 = .ok (.lload 4, 2) := dk_22 4 (dk_at dksX7_enter_1 6 rfl rfl)
theorem dX7_enter_32 : decode cX7_enter 32 = .ok (.lload 6, 2) := dk_22 6 (dk_at dksX7_enter_1 8 rfl rfl)
theorem dX7_enter_34 : decode cX7_enter 34 = .ok (.ldiv, 1) := dk_109 (dk_at dksX7_enter_1 10 rfl rfl)
theorem dX7_enter_35 : decode cX7_enter 35 = .ok (.l2i, 1) := dk_136 (dk_at dksX7_enter_1 11 rfl rfl)
theorem dX7_enter_36 : decode cX7_enter 36 = .ok (.istore 9, 2) := dk_54 9 (dk_at dksX7_enter_1 12 rfl rfl)
theorem dX7_enter_38 : decode cX7_enter 38 = .ok (.aload_n 0, 1) := dk_42 (dk_at dksX7_enter_1 14 rfl rfl)
theorem dX7_enter_39 : decode cX7_enter 39 = .ok (.getfield 27, 3) := dk_180 0 27 (dk_at dksX7_enter_1 15 rfl rfl)
theorem dX7_enter_42 : decode cX7_enter 42 = .ok (.istore 10, 2) := dk_54 10 (dk_at dksX7_enter_1 18 rfl rfl)
theorem dX7_enter_44 : decode cX7_enter 44 = .ok (.iload 10, 2) := dk_21 10 (dk_at dksX7_enter_1 20 rfl rfl)
theorem dX7_enter_46 : decode cX7_enter 46 = .ok (.aload_n 0, 1) := dk_42 (dk_at dksX7_enter_1 22 rfl rfl)
theorem dX7_enter_47 : decode cX7_enter 47 = .ok (.getfield 31, 3) := dk_180 0 31 (dk_at dksX7_enter_2 0 rfl rfl)
theorem dX7_enter_50 : decode cX7_enter 50 = .ok (.if_icmp .le 41, 3) := dk_164 0 41 (dk_at dksX7_enter_2 3 rfl rfl)
theorem dX7_enter_53 : decode cX7_enter 53 = .ok (.iload 8, 2) := dk_21 8 (dk_at dksX7_enter_2 6 rfl rfl)
theorem dX7_enter_55 : decode cX7_enter 55 = .ok (.i2l, 1) := dk_133 (dk_at dksX7_enter_2 8 rfl rfl)
theorem dX7_enter_56 : decode cX7_enter 56 = .ok (.aload_n 0, 1) := dk_42 (dk_at dksX7_enter_2 9 rfl rfl)
theorem dX7_enter_57 : decode cX7_enter 57 = .ok (.getfield 16, 3) := dk_180 0 16 (dk_at dksX7_enter_2 10 rfl rfl)
theorem dX7_enter_60 : decode cX7_enter 60 = .ok (.iload 10, 2) := dk_21 10 (dk_at dksX7_enter_2 13 rfl rfl)
theorem dX7_enter_62 : decode cX7_enter 62 = .ok (.iconst 1, 1) := dk_4 (dk_at dksX7_enter_2 15 rfl rfl)
theorem dX7_enter_63 : decode cX7_enter 63 = .ok (.isub, 1) := dk_100 (dk_at dksX7_enter_2 16 rfl rfl)
theorem dX7_enter_64 : decode cX7_enter 64 = .ok (.iaload, 1) := dk_46 (dk_at dksX7_enter_2 17 rfl rfl)
theorem dX7_enter_65 : decode cX7_enter 65 = .ok (.i2l, 1) := dk_133 (dk_at dksX7_enter_2 18 rfl rfl)
theorem dX7_enter_66 : decode cX7_enter 66 = .ok (.lmul, 1) := dk_105 (dk_at dksX7_enter_2 19 rfl rfl)
theorem dX7_enter_67 : decode cX7_enter 67 = .ok (.aload_n 0, 1) := dk_42 (dk_at dksX7_enter_2 20 rfl rfl)
theorem dX7_enter_68 : decode cX7_enter 68 = .ok (.getfield 13, 3) := dk_180 0 13 (dk_at dksX7_enter_2 21 rfl rfl)
theorem dX7_enter_71 : decode cX7_enter 71 = .ok (.iload 10, 2) := dk_21 10 (dk_at dksX7_enter_3 0 rfl rfl)
theorem dX7_enter_73 : decode cX7_enter 73 = .ok (.iconst 1, 1) := dk_4 (dk_at dksX7_enter_3 2 rfl rfl)
theorem dX7_enter_74 : decode cX7_enter 74 = .ok (.isub, 1) := dk_100 (dk_at dksX7_enter_3 3 rfl rfl)
theorem dX7_enter_75 : decode cX7_enter 75 = .ok (.iaload, 1) := dk_46 (dk_at dksX7_enter_3 4 rfl rfl)
theorem dX7_enter_76 : decode cX7_enter 76 = .ok (.i2l, 1) := dk_133 (dk_at dksX7_enter_3 5 rfl rfl)
theorem dX7_enter_77 : decode cX7_enter 77 = .ok (.iload 9, 2) := dk_21 9 (dk_at dksX7_enter_3 6 rfl rfl)
theorem dX7_enter_79 : decode cX7_enter 79 = .ok (.i2l, 1) := dk_133 (dk_at dksX7_enter_3 8 rfl rfl)
theorem dX7_enter_80 : decode cX7_enter 80 = .ok (.lmul, 1) := dk_105 (dk_at dksX7_enter_3 9 rfl rfl)
theorem dX7_enter_81 : decode cX7_enter 81 = .ok (.lcmp, 1) := dk_148 (dk_at dksX7_enter_3 10 rfl rfl)
theorem dX7_enter_82 : decode cX7_enter 82 = .ok (.ifCond .ge 9, 3) := dk_156 0 9 (dk_at dksX7_enter_3 11 rfl rfl)
theorem dX7_enter_85 : decode cX7_enter 85 = .ok (.iinc 10 (-1), 3) := dk_132 10 255 (dk_at dksX7_enter_3 14 rfl rfl)
theorem dX7_enter_88 : decode cX7_enter 88 = .ok (.goto (-44), 3) := dk_167 255 212 (dk_at dksX7_enter_3 17 rfl rfl)
theorem dX7_enter_91 : decode cX7_enter 91 = .ok (.iload 10, 2) := dk_21 10 (dk_at dksX7_enter_3 20 rfl rfl)
theorem dX7_enter_93 : decode cX7_enter 93 = .ok (.aload_n 0, 1) := dk_42 (dk_at dksX7_enter_3 22 rfl rfl)
theorem dX7_enter_94 : decode cX7_enter 94 = .ok (.getfield 31, 3) := dk_180 0 31 (dk_at dksX7_enter_4 0 rfl rfl)
theorem dX7_enter_97 : decode cX7_enter 97 = .ok (.if_icmp .le 32, 3) := dk_164 0 32 (dk_at dksX7_enter_4 3 rfl rfl)
theorem dX7_enter_100 : decode cX7_enter 100 = .ok (.aload_n 0, 1) := dk_42 (dk_at dksX7_enter_4 6 rfl rfl)
theorem dX7_enter_101 : decode cX7_enter 101 = .ok (.getfield 13, 3) := dk_180 0 13 (dk_at dksX7_enter_4 7 rfl rfl)
theorem dX7_enter_104 : decode cX7_enter 104 = .ok (.iload 10, 2) := dk_21 10 (dk_at dksX7_enter_4 10 rfl rfl)
theorem dX7_enter_106 : decode cX7_enter 106 = .ok (.iconst 1, 1) := dk_4 (dk_at dksX7_enter_4 12 rfl rfl)
theorem dX7_enter_107 : decode cX7_enter 107 = .ok (.isub, 1) := dk_100 (dk_at dksX7_enter_4 13 rfl rfl)
theorem dX7_enter_108 : decode cX7_enter 108 = .ok (.iaload, 1) := dk_46 (dk_at dksX7_enter_4 14 rfl rfl)
theorem dX7_enter_109 : decode cX7_enter 109 = .ok (.iload 8, 2) := dk_21 8 (dk_at dksX7_enter_4 15 rfl rfl)
theorem dX7_enter_111 : decode cX7_enter 111 = .ok (.if_icmp .ne 18, 3) := dk_160 0 18 (dk_at dksX7_enter_4 17 rfl rfl)
theorem dX7_enter_114 : decode cX7_enter 114 = .ok (.aload_n 0, 1) := dk_42 (dk_at dksX7_enter_4 20 rfl rfl)
theorem dX7_enter_115 : decode cX7_enter 115 = .ok (.getfield 16, 3) := dk_180 0 16 (dk_at dksX7_enter_4 21 rfl rfl)
theorem dX7_enter_118 : decode cX7_enter 118 = .ok (.iload 10, 2) := dk_21 10 (dk_at dksX7_enter_5 0 rfl rfl)
theorem dX7_enter_120 : decode cX7_enter 120 = .ok (.iconst 1, 1) := dk_4 (dk_at dksX7_enter_5 2 rfl rfl)
theorem dX7_enter_121 : decode cX7_enter 121 = .ok (.isub, 1) := dk_100 (dk_at dksX7_enter_5 3 rfl rfl)
theorem dX7_enter_122 : decode cX7_enter 122 = .ok (.iaload, 1) := dk_46 (dk_at dksX7_enter_5 4 rfl rfl)
theorem dX7_enter_123 : decode cX7_enter 123 = .ok (.iload 9, 2) := dk_21 9 (dk_at dksX7_enter_5 5 rfl rfl)
theorem dX7_enter_125 : decode cX7_enter 125 = .ok (.if_icmp .ne 4, 3) := dk_160 0 4 (dk_at dksX7_enter_5 7 rfl rfl)
theorem dX7_enter_128 : decode cX7_enter 128 = .ok (.return_, 1) := dk_177 (dk_at dksX7_enter_5 10 rfl rfl)
theorem dX7_enter_129 : decode cX7_enter 129 = .ok (.aload_n 0, 1) := dk_42 (dk_at dksX7_enter_5 11 rfl rfl)
theorem dX7_enter_130 : decode cX7_enter 130 = .ok (.getfield 27, 3) := dk_180 0 27 (dk_at dksX7_enter_5 12 rfl rfl)
theorem dX7_enter_133 : decode cX7_enter 133 = .ok (.aload_n 0, 1) := dk_42 (dk_at dksX7_enter_5 15 rfl rfl)
theorem dX7_enter_134 : decode cX7_enter 134 = .ok (.getfield 7, 3) := dk_180 0 7 (dk_at dksX7_enter_5 16 rfl rfl)
theorem dX7_enter_137 : decode cX7_enter 137 = .ok (.arraylength, 1) := dk_190 (dk_at dksX7_enter_5 19 rfl rfl)
theorem dX7_enter_138 : decode cX7_enter 138 = .ok (.if_icmp .ne 36, 3) := dk_160 0 36 (dk_at dksX7_enter_5 20 rfl rfl)
theorem dX7_enter_141 : decode cX7_enter 141 = .ok (.aload_n 0, 1) := dk_42 (dk_at dksX7_enter_5 23 rfl rfl)
theorem dX7_enter_142 : decode cX7_enter 142 = .ok (.aload_n 0, 1) := dk_42 (dk_at dksX7_enter_6 0 rfl rfl)
theorem dX7_enter_143 : decode cX7_enter 143 = .ok (.getfield 7, 3) := dk_180 0 7 (dk_at dksX7_enter_6 1 rfl rfl)
theorem dX7_enter_146 : decode cX7_enter 146 = .ok (.invokestatic 34, 3) := dk_184 0 34 (dk_at dksX7_enter_6 4 rfl rfl)
theorem dX7_enter_149 : decode cX7_enter 149 = .ok (.putfield 7, 3) := dk_181 0 7 (dk_at dksX7_enter_6 7 rfl rfl)
theorem dX7_enter_152 : decode cX7_enter 152 = .ok (.aload_n 0, 1) := dk_42 (dk_at dksX7_enter_6 10 rfl rfl)
theorem dX7_enter_153 : decode cX7_enter 153 = .ok (.aload_n 0, 1) := dk_42 (dk_at dksX7_enter_6 11 rfl rfl)
theorem dX7_enter_154 : decode cX7_enter 154 = .ok (.getfield 13, 3) := dk_180 0 13 (dk_at dksX7_enter_6 12 rfl rfl)
theorem dX7_enter_157 : decode cX7_enter 157 = .ok (.invokestatic 34, 3) := dk_184 0 34 (dk_at dksX7_enter_6 15 rfl rfl)
theorem dX7_enter_160 : decode cX7_enter 160 = .ok (.putfield 13, 3) := dk_181 0 13 (dk_at dksX7_enter_6 18 rfl rfl)
theorem dX7_enter_163 : decode cX7_enter 163 = .ok (.aload_n 0, 1) := dk_42 (dk_at dksX7_enter_6 21 rfl rfl)
theorem dX7_enter_164 : decode cX7_enter 164 = .ok (.aload_n 0, 1) := dk_42 (dk_at dksX7_enter_6 22 rfl rfl)
theorem dX7_enter_165 : decode cX7_enter 165 = .ok (.getfield 16, 3) := dk_180 0 16 (dk_at dksX7_enter_7 0 rfl rfl)
theorem dX7_enter_168 : decode cX7_enter 168 = .ok (.invokestatic 34, 3) := dk_184 0 34 (dk_at dksX7_enter_7 3 rfl rfl)
theorem dX7_enter_171 : decode cX7_enter 171 = .ok (.putfield 16, 3) := dk_181 0 16 (dk_at dksX7_enter_7 6 rfl rfl)
theorem dX7_enter_174 : decode cX7_enter 174 = .ok (.aload_n 0, 1) := dk_42 (dk_at dksX7_enter_7 9 rfl rfl)
theorem dX7_enter_175 : decode cX7_enter 175 = .ok (.getfield 27, 3) := dk_180 0 27 (dk_at dksX7_enter_7 10 rfl rfl)
theorem dX7_enter_178 : decode cX7_enter 178 = .ok (.istore 11, 2) := dk_54 11 (dk_at dksX7_enter_7 13 rfl rfl)
theorem dX7_enter_180 : decode cX7_enter 180 = .ok (.iload 11, 2) := dk_21 11 (dk_at dksX7_enter_7 15 rfl rfl)
theorem dX7_enter_182 : decode cX7_enter 182 = .ok (.iload 10, 2) := dk_21 10 (dk_at dksX7_enter_7 17 rfl rfl)
theorem dX7_enter_184 : decode cX7_enter 184 = .ok (.if_icmp .le 41, 3) := dk_164 0 41 (dk_at dksX7_enter_7 19 rfl rfl)
theorem dX7_enter_187 : decode cX7_enter 187 = .ok (.aload_n 0, 1) := dk_42 (dk_at dksX7_enter_7 22 rfl rfl)
theorem dX7_enter_188 : decode cX7_enter 188 = .ok (.getfield 13, 3) := dk_180 0 13 (dk_at dksX7_enter_8 0 rfl rfl)
theorem dX7_enter_191 : decode cX7_enter 191 = .ok (.iload 11, 2) := dk_21 11 (dk_at dksX7_enter_8 3 rfl rfl)
theorem dX7_enter_193 : decode cX7_enter 193 = .ok (.aload_n 0, 1) := dk_42 (dk_at dksX7_enter_8 5 rfl rfl)
theorem dX7_enter_194 : decode cX7_enter 194 = .ok (.getfield 13, 3) := dk_180 0 13 (dk_at dksX7_enter_8 6 rfl rfl)
theorem dX7_enter_197 : decode cX7_enter 197 = .ok (.iload 11, 2) := dk_21 11 (dk_at dksX7_enter_8 9 rfl rfl)
theorem dX7_enter_199 : decode cX7_enter 199 = .ok (.iconst 1, 1) := dk_4 (dk_at dksX7_enter_8 11 rfl rfl)
theorem dX7_enter_200 : decode cX7_enter 200 = .ok (.isub, 1) := dk_100 (dk_at dksX7_enter_8 12 rfl rfl)
theorem dX7_enter_201 : decode cX7_enter 201 = .ok (.iaload, 1) := dk_46 (dk_at dksX7_enter_8 13 rfl rfl)
theorem dX7_enter_202 : decode cX7_enter 202 = .ok (.iastore, 1) := dk_79 (dk_at dksX7_enter_8 14 rfl rfl)
theorem dX7_enter_203 : decode cX7_enter 203 = .ok (.aload_n 0, 1) := dk_42 (dk_at dksX7_enter_8 15 rfl rfl)
theorem dX7_enter_204 : decode cX7_enter 204 = .ok (.getfield 16, 3) := dk_180 0 16 (dk_at dksX7_enter_8 16 rfl rfl)
theorem dX7_enter_207 : decode cX7_enter 207 = .ok (.iload 11, 2) := dk_21 11 (dk_at dksX7_enter_8 19 rfl rfl)
theorem dX7_enter_209 : decode cX7_enter 209 = .ok (.aload_n 0, 1) := dk_42 (dk_at dksX7_enter_8 21 rfl rfl)
theorem dX7_enter_210 : decode cX7_enter 210 = .ok (.getfield 16, 3) := dk_180 0 16 (dk_at dksX7_enter_9 0 rfl rfl)
theorem dX7_enter_213 : decode cX7_enter 213 = .ok (.iload 11, 2) := dk_21 11 (dk_at dksX7_enter_9 3 rfl rfl)
theorem dX7_enter_215 : decode cX7_enter 215 = .ok (.iconst 1, 1) := dk_4 (dk_at dksX7_enter_9 5 rfl rfl)
theorem dX7_enter_216 : decode cX7_enter 216 = .ok (.isub, 1) := dk_100 (dk_at dksX7_enter_9 6 rfl rfl)
theorem dX7_enter_217 : decode cX7_enter 217 = .ok (.iaload, 1) := dk_46 (dk_at dksX7_enter_9 7 rfl rfl)
theorem dX7_enter_218 : decode cX7_enter 218 = .ok (.iastore, 1) := dk_79 (dk_at dksX7_enter_9 8 rfl rfl)
theorem dX7_enter_219 : decode cX7_enter 219 = .ok (.iinc 11 (-1), 3) := dk_132 11 255 (dk_at dksX7_enter_9 9 rfl rfl)
theorem dX7_enter_222 : decode cX7_enter 222 = .ok (.goto (-42), 3) := dk_167 255 214 (dk_at dksX7_enter_9 12 rfl rfl)
theorem dX7_enter_225 : decode cX7_enter 225 = .ok (.aload_n 0, 1) := dk_42 (dk_at dksX7_enter_9 15 rfl rfl)
theorem dX7_enter_226 : decode cX7_enter 226 = .ok (.getfield 7, 3) := dk_180 0 7 (dk_at dksX7_enter_9 16 rfl rfl)
theorem dX7_enter_229 : decode cX7_enter 229 = .ok (.aload_n 0, 1) := dk_42 (dk_at dksX7_enter_9 19 rfl rfl)
theorem dX7_enter_230 : decode cX7_enter 230 = .ok (.getfield 27, 3) := dk_180 0 27 (dk_at dksX7_enter_9 20 rfl rfl)
theorem dX7_enter_233 : decode cX7_enter 233 = .ok (.iload_n 1, 1) := dk_27 (dk_at dksX7_enter_9 23 rfl rfl)
theorem dX7_enter_234 : decode cX7_enter 234 = .ok (.iastore, 1) := dk_79 (dk_at dksX7_enter_10 0 rfl rfl)
theorem dX7_enter_235 : decode cX7_enter 235 = .ok (.aload_n 0, 1) := dk_42 (dk_at dksX7_enter_10 1 rfl rfl)
theorem dX7_enter_236 : decode cX7_enter 236 = .ok (.getfield 13, 3) := dk_180 0 13 (dk_at dksX7_enter_10 2 rfl rfl)
theorem dX7_enter_239 : decode cX7_enter 239 = .ok (.iload 10, 2) := dk_21 10 (dk_at dksX7_enter_10 5 rfl rfl)
theorem dX7_enter_241 : decode cX7_enter 241 = .ok (.iload 8, 2) := dk_21 8 (dk_at dksX7_enter_10 7 rfl rfl)
theorem dX7_enter_243 : decode cX7_enter 243 = .ok (.iastore, 1) := dk_79 (dk_at dksX7_enter_10 9 rfl rfl)
theorem dX7_enter_244 : decode cX7_enter 244 = .ok (.aload_n 0, 1) := dk_42 (dk_at dksX7_enter_10 10 rfl rfl)
theorem dX7_enter_245 : decode cX7_enter 245 = .ok (.getfield 16, 3) := dk_180 0 16 (dk_at dksX7_enter_10 11 rfl rfl)
theorem dX7_enter_248 : decode cX7_enter 248 = .ok (.iload 10, 2) := dk_21 10 (dk_at dksX7_enter_10 14 rfl rfl)
theorem dX7_enter_250 : decode cX7_enter 250 = .ok (.iload 9, 2) := dk_21 9 (dk_at dksX7_enter_10 16 rfl rfl)
theorem dX7_enter_252 : decode cX7_enter 252 = .ok (.iastore, 1) := dk_79 (dk_at dksX7_enter_10 18 rfl rfl)
theorem dX7_enter_253 : decode cX7_enter 253 = .ok (.aload_n 0, 1) := dk_42 (dk_at dksX7_enter_10 19 rfl rfl)
theorem dX7_enter_254 : decode cX7_enter 254 = .ok (.dup, 1) := dk_89 (dk_at dksX7_enter_10 20 rfl rfl)
theorem dX7_enter_255 : decode cX7_enter 255 = .ok (.getfield 27, 3) := dk_180 0 27 (dk_at dksX7_enter_10 21 rfl rfl)
theorem dX7_enter_258 : decode cX7_enter 258 = .ok (.iconst 1, 1) := dk_4 (dk_at dksX7_enter_11 0 rfl rfl)
theorem dX7_enter_259 : decode cX7_enter 259 = .ok (.iadd, 1) := dk_96 (dk_at dksX7_enter_11 1 rfl rfl)
theorem dX7_enter_260 : decode cX7_enter 260 = .ok (.putfield 27, 3) := dk_181 0 27 (dk_at dksX7_enter_11 2 rfl rfl)
theorem dX7_enter_263 : decode cX7_enter 263 = .ok (.return_, 1) := dk_177 (dk_at dksX7_enter_11 5 rfl rfl)
abbrev cX7_longer : ByteArray := prog_13_method_4_code
def yX7_longer : MethodName := ⟨RX7, "longer", "([I)[I"⟩
def dkwX7_longer_0 : List UInt8 := [5, 42, 190, 104, 188, 10, 76, 42, 3, 43, 3, 42, 190, 184, 0, 38, 43, 176]
abbrev dktX7_longer_0 : List UInt8 := dkwX7_longer_0 ++ []
theorem dksX7_longer_0 : cX7_longer.data.toList.drop 0 = dktX7_longer_0 := by decide +kernel
theorem dX7_longer_0 : decode cX7_longer 0 = .ok (.iconst 2, 1) := dk_5 (dk_at dksX7_longer_0 0 rfl rfl)
theorem dX7_longer_1 : decode cX7_longer 1 = .ok (.aload_n 0, 1) := dk_42 (dk_at dksX7_longer_0 1 rfl rfl)
theorem dX7_longer_2 : decode cX7_longer 2 = .ok (.arraylength, 1) := dk_190 (dk_at dksX7_longer_0 2 rfl rfl)
theorem dX7_longer_3 : decode cX7_longer 3 = .ok (.imul, 1) := dk_104 (dk_at dksX7_longer_0 3 rfl rfl)
theorem dX7_longer_4 : decode cX7_longer 4 = .ok (.newarray .int, 2) := dk_188_10 (dk_at dksX7_longer_0 4 rfl rfl)
theorem dX7_longer_6 : decode cX7_longer 6 = .ok (.astore_n 1, 1) := dk_76 (dk_at dksX7_longer_0 6 rfl rfl)
theorem dX7_longer_7 : decode cX7_longer 7 = .ok (.aload_n 0, 1) := dk_42 (dk_at dksX7_longer_0 7 rfl rfl)
theorem dX7_longer_8 : decode cX7_longer 8 = .ok (.iconst 0, 1) := dk_3 (dk_at dksX7_longer_0 8 rfl rfl)
theorem dX7_longer_9 : decode cX7_longer 9 = .ok (.aload_n 1, 1) := dk_43 (dk_at dksX7_longer_0 9 rfl rfl)
theorem dX7_longer_10 : decode cX7_longer 10 = .ok (.iconst 0, 1) := dk_3 (dk_at dksX7_longer_0 10 rfl rfl)
theorem dX7_longer_11 : decode cX7_longer 11 = .ok (.aload_n 0, 1) := dk_42 (dk_at dksX7_longer_0 11 rfl rfl)
theorem dX7_longer_12 : decode cX7_longer 12 = .ok (.arraylength, 1) := dk_190 (dk_at dksX7_longer_0 12 rfl rfl)
theorem dX7_longer_13 : decode cX7_longer 13 = .ok (.invokestatic 38, 3) := dk_184 0 38 (dk_at dksX7_longer_0 13 rfl rfl)
theorem dX7_longer_16 : decode cX7_longer 16 = .ok (.aload_n 1, 1) := dk_43 (dk_at dksX7_longer_0 16 rfl rfl)
theorem dX7_longer_17 : decode cX7_longer 17 = .ok (.areturn, 1) := dk_176 (dk_at dksX7_longer_0 17 rfl rfl)
abbrev cX7_turn : ByteArray := prog_13_method_3_code
def yX7_turn : MethodName := ⟨RX7, "turn", "()V"⟩
def dkwX7_turn_0 : List UInt8 := [42, 42, 180, 0, 27, 181, 0, 31, 177]
abbrev dktX7_turn_0 : List UInt8 := dkwX7_turn_0 ++ []
theorem dksX7_turn_0 : cX7_turn.data.toList.drop 0 = dktX7_turn_0 := by decide +kernel
theorem dX7_turn_0 : decode cX7_turn 0 = .ok (.aload_n 0, 1) := dk_42 (dk_at dksX7_turn_0 0 rfl rfl)
theorem dX7_turn_1 : decode cX7_turn 1 = .ok (.aload_n 0, 1) := dk_42 (dk_at dksX7_turn_0 1 rfl rfl)
theorem dX7_turn_2 : decode cX7_turn 2 = .ok (.getfield 27, 3) := dk_180 0 27 (dk_at dksX7_turn_0 2 rfl rfl)
theorem dX7_turn_5 : decode cX7_turn 5 = .ok (.putfield 31, 3) := dk_181 0 31 (dk_at dksX7_turn_0 5 rfl rfl)
theorem dX7_turn_8 : decode cX7_turn 8 = .ok (.return_, 1) := dk_177 (dk_at dksX7_turn_0 8 rfl rfl)
theorem q141 : (Jvm.Cond.initialized "NetworkCenters$Points") ∈ lw_all := lw_g (lw_at lw_m1 37 rfl) rfl
theorem q873 : (Jvm.Cond.instantiable "NetworkCenters$Points" (5 : Nat)) ∈ lw_all := lw_g (lw_at lw_m4 49 rfl) rfl
theorem q875 : (Jvm.Cond.instanceMethod ({ cls := "NetworkCenters$Points", name := "<init>", desc := "()V" } : Jvm.MethodName)) ∈ lw_all := lw_g (lw_at lw_m4 51 rfl) rfl
theorem q876 : (Jvm.Cond.code ({ cls := "NetworkCenters$Points", name := "<init>", desc := "()V" } : Jvm.MethodName) prog_13_method_1_code (1 : Nat) (Option.none : Option Jvm.ClassFile.FieldType)) ∈ lw_all := lw_g (lw_at lw_m4 52 rfl) rfl
theorem q877 : (Jvm.Cond.methodLink "NetworkCenters$Points" (1 : Nat) ({ cls := "java/lang/Object", name := "<init>", desc := "()V" } : Jvm.MethodName)) ∈ lw_all := lw_g (lw_at lw_m4 53 rfl) rfl
theorem q878 : (Jvm.Cond.fieldLink "NetworkCenters$Points" (7 : Nat) "NetworkCenters$Points" "edges" "[I") ∈ lw_all := lw_g (lw_at lw_m4 54 rfl) rfl
theorem q881 : (Jvm.Cond.fieldLink "NetworkCenters$Points" (13 : Nat) "NetworkCenters$Points" "above" "[I") ∈ lw_all := lw_g (lw_at lw_m4 57 rfl) rfl
theorem q884 : (Jvm.Cond.fieldLink "NetworkCenters$Points" (16 : Nat) "NetworkCenters$Points" "below" "[I") ∈ lw_all := lw_g (lw_at lw_m4 60 rfl) rfl
theorem q887 : (Jvm.Cond.fieldLink "NetworkCenters$Points" (27 : Nat) "NetworkCenters$Points" "many" "I") ∈ lw_all := lw_g (lw_at lw_m4 63 rfl) rfl
theorem q889 : (Jvm.Cond.fieldLink "NetworkCenters$Points" (31 : Nat) "NetworkCenters$Points" "first" "I") ∈ lw_all := lw_g (lw_at lw_m4 65 rfl) rfl
theorem q890 : (Jvm.Cond.lays "NetworkCenters$Points" "NetworkCenters$Points" "edges" "[I") ∈ lw_all := lw_g (lw_at lw_m4 66 rfl) rfl
theorem q891 : (Jvm.Cond.soleField "NetworkCenters$Points" "edges") ∈ lw_all := lw_g (lw_at lw_m4 67 rfl) rfl
theorem q892 : (Jvm.Cond.lays "NetworkCenters$Points" "NetworkCenters$Points" "above" "[I") ∈ lw_all := lw_g (lw_at lw_m4 68 rfl) rfl
theorem q893 : (Jvm.Cond.soleField "NetworkCenters$Points" "above") ∈ lw_all := lw_g (lw_at lw_m4 69 rfl) rfl
theorem q894 : (Jvm.Cond.lays "NetworkCenters$Points" "NetworkCenters$Points" "below" "[I") ∈ lw_all := lw_g (lw_at lw_m4 70 rfl) rfl
theorem q895 : (Jvm.Cond.soleField "NetworkCenters$Points" "below") ∈ lw_all := lw_g (lw_at lw_m4 71 rfl) rfl
theorem q896 : (Jvm.Cond.lays "NetworkCenters$Points" "NetworkCenters$Points" "many" "I") ∈ lw_all := lw_g (lw_at lw_m4 72 rfl) rfl
theorem q897 : (Jvm.Cond.soleField "NetworkCenters$Points" "many") ∈ lw_all := lw_g (lw_at lw_m4 73 rfl) rfl
theorem q898 : (Jvm.Cond.lays "NetworkCenters$Points" "NetworkCenters$Points" "first" "I") ∈ lw_all := lw_g (lw_at lw_m4 74 rfl) rfl
theorem q899 : (Jvm.Cond.soleField "NetworkCenters$Points" "first") ∈ lw_all := lw_g (lw_at lw_m4 75 rfl) rfl
theorem q900 : (Jvm.Cond.superclass "NetworkCenters$Points" "java/lang/Object") ∈ lw_all := lw_g (lw_at lw_m4 76 rfl) rfl
theorem q941 : (Jvm.Cond.instanceMethod ({ cls := "NetworkCenters$Points", name := "enter", desc := "(IJJ)V" } : Jvm.MethodName)) ∈ lw_all := lw_g (lw_at lw_m4 117 rfl) rfl
theorem q942 : (Jvm.Cond.selects "NetworkCenters$Points" ({ cls := "NetworkCenters$Points", name := "enter", desc := "(IJJ)V" } : Jvm.MethodName) ({ cls := "NetworkCenters$Points", name := "enter", desc := "(IJJ)V" } : Jvm.MethodName)) ∈ lw_all := lw_g (lw_at lw_m4 118 rfl) rfl
theorem q943 : (Jvm.Cond.code ({ cls := "NetworkCenters$Points", name := "enter", desc := "(IJJ)V" } : Jvm.MethodName) prog_13_method_2_code (12 : Nat) (Option.none : Option Jvm.ClassFile.FieldType)) ∈ lw_all := lw_g (lw_at lw_m4 119 rfl) rfl
theorem q944 : (Jvm.Cond.methodLinkNest "NetworkCenters$Points" (19 : Nat) ({ cls := "NetworkCenters", name := "divisor", desc := "(JJ)J" } : Jvm.MethodName) "NetworkCenters") ∈ lw_tbl := lw_at lw_m4 120 rfl
theorem q951 : (Jvm.Cond.constantLong "NetworkCenters$Points" (25 : Nat) (-1 : Int64)) ∈ lw_all := lw_g (lw_at lw_m4 127 rfl) rfl
theorem q952 : (Jvm.Cond.methodLink "NetworkCenters$Points" (34 : Nat) ({ cls := "NetworkCenters$Points", name := "longer", desc := "([I)[I" } : Jvm.MethodName)) ∈ lw_all := lw_g (lw_at lw_m4 128 rfl) rfl
theorem q953 : (Jvm.Cond.static ({ cls := "NetworkCenters$Points", name := "longer", desc := "([I)[I" } : Jvm.MethodName)) ∈ lw_all := lw_g (lw_at lw_m4 129 rfl) rfl
theorem q954 : (Jvm.Cond.code ({ cls := "NetworkCenters$Points", name := "longer", desc := "([I)[I" } : Jvm.MethodName) prog_13_method_4_code (2 : Nat) (Option.some (Jvm.ClassFile.FieldType.array Jvm.ClassFile.FieldType.int))) ∈ lw_all := lw_g (lw_at lw_m4 130 rfl) rfl
theorem q955 : (Jvm.Cond.methodLink "NetworkCenters$Points" (38 : Nat) ({ cls := "java/lang/System", name := "arraycopy", desc := "(Ljava/lang/Object;ILjava/lang/Object;II)V" } : Jvm.MethodName)) ∈ lw_all := lw_g (lw_at lw_m4 131 rfl) rfl
theorem q972 : (Jvm.Cond.instanceMethod ({ cls := "NetworkCenters$Points", name := "turn", desc := "()V" } : Jvm.MethodName)) ∈ lw_all := lw_g (lw_at lw_m4 148 rfl) rfl
theorem q973 : (Jvm.Cond.selects "NetworkCenters$Points" ({ cls := "NetworkCenters$Points", name := "turn", desc := "()V" } : Jvm.MethodName) ({ cls := "NetworkCenters$Points", name := "turn", desc := "()V" } : Jvm.MethodName)) ∈ lw_all := lw_g (lw_at lw_m4 149 rfl) rfl
theorem q974 : (Jvm.Cond.code ({ cls := "NetworkCenters$Points", name := "turn", desc := "()V" } : Jvm.MethodName) prog_13_method_3_code (1 : Nat) (Option.none : Option Jvm.ClassFile.FieldType)) ∈ lw_all := lw_g (lw_at lw_m4 150 rfl) rfl
theorem q1246 : (Jvm.Cond.selects "NetworkCenters$Points" ({ cls := "java/lang/Object", name := "getClass", desc := "()Ljava/lang/Class;" } : Jvm.MethodName) ({ cls := "java/lang/Object", name := "getClass", desc := "()Ljava/lang/Class;" } : Jvm.MethodName)) ∈ lw_all := lw_g (lw_at lw_m5 182 rfl) rfl
theorem q2556 : (Jvm.Cond.castable "NetworkCenters$Points" "java/lang/Object") ∈ lw_tbl := lw_at lw_m11 52 rfl
theorem in_X7 : ∀ w ∈ wsX70, w ∈ lw_all := lw_in wsX70 [890, 892, 894, 896, 898] (by decide +kernel) (by decide +kernel)
/-! NetworkCenters$Rising -/
set_option maxRecDepth 100000
def RX8 : String := "NetworkCenters$Rising"
def TX8 : u_T := fun k => match k with
  | 0 => ("NetworkCenters$Rising", "weight", "I", true)
  | _ => ("NetworkCenters$Rising", "start", "I", true)
def tyX8 : Nat → FieldType := fun k => match k with
  | 0 => .int
  | _ => .int
abbrev wsX80 : List Cond := u_ws RX8 TX8 2
theorem nmX8 : ∀ a, a < 2 → ∀ b, b < 2 → a ≠ b → (TX8 a).2.1 ≠ (TX8 b).2.1 := by decide +kernel
theorem tyX8_ok : ∀ k, k < 2 → parseFieldDescriptor (TX8 k).2.2.1 = some (tyX8 k) := by decide +kernel
abbrev cX8_init : ByteArray := prog_15_method_1_code
def yX8_init : MethodName := ⟨RX8, "<init>", "(II)V"⟩
def dkwX8_init_0 : List UInt8 := [42, 183, 0, 1, 42, 27, 181, 0, 7, 42, 28, 181, 0, 13, 177]
abbrev dktX8_init_0 : List UInt8 := dkwX8_init_0 ++ []
theorem dksX8_init_0 : cX8_init.data.toList.drop 0 = dktX8_init_0 := by decide +kernel
theorem dX8_init_0 : decode cX8_init 0 = .ok (.aload_n 0, 1) := dk_42 (dk_at dksX8_init_0 0 rfl rfl)
theorem dX8_init_1 : decode cX8_init 1 = .ok (.invokespecial 1, 3) := dk_183 0 1 (dk_at dksX8_init_0 1 rfl rfl)
theorem dX8_init_4 : decode cX8_init 4 = .ok (.aload_n 0, 1) := dk_42 (dk_at dksX8_init_0 4 rfl rfl)
theorem dX8_init_5 : decode cX8_init 5 = .ok (.iload_n 1, 1) := dk_27 (dk_at dksX8_init_0 5 rfl rfl)
theorem dX8_init_6 : decode cX8_init 6 = .ok (.putfield 7, 3) := dk_181 0 7 (dk_at dksX8_init_0 6 rfl rfl)
theorem dX8_init_9 : decode cX8_init 9 = .ok (.aload_n 0, 1) := dk_42 (dk_at dksX8_init_0 9 rfl rfl)
theorem dX8_init_10 : decode cX8_init 10 = .ok (.iload_n 2, 1) := dk_28 (dk_at dksX8_init_0 10 rfl rfl)
theorem dX8_init_11 : decode cX8_init 11 = .ok (.putfield 13, 3) := dk_181 0 13 (dk_at dksX8_init_0 11 rfl rfl)
theorem dX8_init_14 : decode cX8_init 14 = .ok (.return_, 1) := dk_177 (dk_at dksX8_init_0 14 rfl rfl)
theorem q142 : (Jvm.Cond.initialized "NetworkCenters$Rising") ∈ lw_all := lw_g (lw_at lw_m1 38 rfl) rfl
theorem q908 : (Jvm.Cond.instantiable "NetworkCenters$Rising" (2 : Nat)) ∈ lw_all := lw_g (lw_at lw_m4 84 rfl) rfl
theorem q910 : (Jvm.Cond.instanceMethod ({ cls := "NetworkCenters$Rising", name := "<init>", desc := "(II)V" } : Jvm.MethodName)) ∈ lw_all := lw_g (lw_at lw_m4 86 rfl) rfl
theorem q911 : (Jvm.Cond.code ({ cls := "NetworkCenters$Rising", name := "<init>", desc := "(II)V" } : Jvm.MethodName) prog_15_method_1_code (3 : Nat) (Option.none : Option Jvm.ClassFile.FieldType)) ∈ lw_all := lw_g (lw_at lw_m4 87 rfl) rfl
theorem q912 : (Jvm.Cond.methodLink "NetworkCenters$Rising" (1 : Nat) ({ cls := "java/lang/Object", name := "<init>", desc := "()V" } : Jvm.MethodName)) ∈ lw_all := lw_g (lw_at lw_m4 88 rfl) rfl
theorem q913 : (Jvm.Cond.fieldLink "NetworkCenters$Rising" (7 : Nat) "NetworkCenters$Rising" "weight" "I") ∈ lw_all := lw_g (lw_at lw_m4 89 rfl) rfl
theorem q915 : (Jvm.Cond.fieldLink "NetworkCenters$Rising" (13 : Nat) "NetworkCenters$Rising" "start" "I") ∈ lw_all := lw_g (lw_at lw_m4 91 rfl) rfl
theorem q917 : (Jvm.Cond.laysFinal "NetworkCenters$Rising" "NetworkCenters$Rising" "weight" "I") ∈ lw_all := lw_g (lw_at lw_m4 93 rfl) rfl
theorem q918 : (Jvm.Cond.soleField "NetworkCenters$Rising" "weight") ∈ lw_all := lw_g (lw_at lw_m4 94 rfl) rfl
theorem q919 : (Jvm.Cond.laysFinal "NetworkCenters$Rising" "NetworkCenters$Rising" "start" "I") ∈ lw_all := lw_g (lw_at lw_m4 95 rfl) rfl
theorem q920 : (Jvm.Cond.soleField "NetworkCenters$Rising" "start") ∈ lw_all := lw_g (lw_at lw_m4 96 rfl) rfl
theorem q921 : (Jvm.Cond.superclass "NetworkCenters$Rising" "java/lang/Object") ∈ lw_all := lw_g (lw_at lw_m4 97 rfl) rfl
theorem q1248 : (Jvm.Cond.selects "NetworkCenters$Rising" ({ cls := "java/lang/Object", name := "getClass", desc := "()Ljava/lang/Class;" } : Jvm.MethodName) ({ cls := "java/lang/Object", name := "getClass", desc := "()Ljava/lang/Class;" } : Jvm.MethodName)) ∈ lw_all := lw_g (lw_at lw_m5 184 rfl) rfl
theorem q2557 : (Jvm.Cond.castable "NetworkCenters$Rising" "java/lang/Object") ∈ lw_tbl := lw_at lw_m11 53 rfl
theorem q2568 : (Jvm.Cond.castable "NetworkCenters$Rising" "NetworkCenters$Line") ∈ lw_tbl := lw_at lw_m11 64 rfl
theorem in_X8 : ∀ w ∈ wsX80, w ∈ lw_all := lw_in wsX80 [917, 919] (by decide +kernel) (by decide +kernel)
/-! NetworkCenters$Falling -/
set_option maxRecDepth 100000
def RX9 : String := "NetworkCenters$Falling"
def TX9 : u_T := fun k => match k with
  | 0 => ("NetworkCenters$Falling", "weight", "I", true)
  | _ => ("NetworkCenters$Falling", "end", "I", true)
def tyX9 : Nat → FieldType := fun k => match k with
  | 0 => .int
  | _ => .int
abbrev wsX90 : List Cond := u_ws RX9 TX9 2
theorem nmX9 : ∀ a, a < 2 → ∀ b, b < 2 → a ≠ b → (TX9 a).2.1 ≠ (TX9 b).2.1 := by decide +kernel
theorem tyX9_ok : ∀ k, k < 2 → parseFieldDescriptor (TX9 k).2.2.1 = some (tyX9 k) := by decide +kernel
abbrev cX9_init : ByteArray := prog_3_method_1_code
def yX9_init : MethodName := ⟨RX9, "<init>", "(II)V"⟩
def dkwX9_init_0 : List UInt8 := [42, 183, 0, 1, 42, 27, 181, 0, 7, 42, 28, 181, 0, 13, 177]
abbrev dktX9_init_0 : List UInt8 := dkwX9_init_0 ++ []
theorem dksX9_init_0 : cX9_init.data.toList.drop 0 = dktX9_init_0 := by decide +kernel
theorem dX9_init_0 : decode cX9_init 0 = .ok (.aload_n 0, 1) := dk_42 (dk_at dksX9_init_0 0 rfl rfl)
theorem dX9_init_1 : decode cX9_init 1 = .ok (.invokespecial 1, 3) := dk_183 0 1 (dk_at dksX9_init_0 1 rfl rfl)
theorem dX9_init_4 : decode cX9_init 4 = .ok (.aload_n 0, 1) := dk_42 (dk_at dksX9_init_0 4 rfl rfl)
theorem dX9_init_5 : decode cX9_init 5 = .ok (.iload_n 1, 1) := dk_27 (dk_at dksX9_init_0 5 rfl rfl)
theorem dX9_init_6 : decode cX9_init 6 = .ok (.putfield 7, 3) := dk_181 0 7 (dk_at dksX9_init_0 6 rfl rfl)
theorem dX9_init_9 : decode cX9_init 9 = .ok (.aload_n 0, 1) := dk_42 (dk_at dksX9_init_0 9 rfl rfl)
theorem dX9_init_10 : decode cX9_init 10 = .ok (.iload_n 2, 1) := dk_28 (dk_at dksX9_init_0 10 rfl rfl)
theorem dX9_init_11 : decode cX9_init 11 = .ok (.putfield 13, 3) := dk_181 0 13 (dk_at dksX9_init_0 11 rfl rfl)
theorem dX9_init_14 : decode cX9_init 14 = .ok (.return_, 1) := dk_177 (dk_at dksX9_init_0 14 rfl rfl)
theorem q143 : (Jvm.Cond.initialized "NetworkCenters$Falling") ∈ lw_all := lw_g (lw_at lw_m1 39 rfl) rfl
theorem q923 : (Jvm.Cond.instantiable "NetworkCenters$Falling" (2 : Nat)) ∈ lw_all := lw_g (lw_at lw_m4 99 rfl) rfl
theorem q925 : (Jvm.Cond.instanceMethod ({ cls := "NetworkCenters$Falling", name := "<init>", desc := "(II)V" } : Jvm.MethodName)) ∈ lw_all := lw_g (lw_at lw_m4 101 rfl) rfl
theorem q926 : (Jvm.Cond.code ({ cls := "NetworkCenters$Falling", name := "<init>", desc := "(II)V" } : Jvm.MethodName) prog_3_method_1_code (3 : Nat) (Option.none : Option Jvm.ClassFile.FieldType)) ∈ lw_all := lw_g (lw_at lw_m4 102 rfl) rfl
theorem q927 : (Jvm.Cond.methodLink "NetworkCenters$Falling" (1 : Nat) ({ cls := "java/lang/Object", name := "<init>", desc := "()V" } : Jvm.MethodName)) ∈ lw_all := lw_g (lw_at lw_m4 103 rfl) rfl
theorem q928 : (Jvm.Cond.fieldLink "NetworkCenters$Falling" (7 : Nat) "NetworkCenters$Falling" "weight" "I") ∈ lw_all := lw_g (lw_at lw_m4 104 rfl) rfl
theorem q930 : (Jvm.Cond.fieldLink "NetworkCenters$Falling" (13 : Nat) "NetworkCenters$Falling" "end" "I") ∈ lw_all := lw_g (lw_at lw_m4 106 rfl) rfl
theorem q932 : (Jvm.Cond.laysFinal "NetworkCenters$Falling" "NetworkCenters$Falling" "weight" "I") ∈ lw_all := lw_g (lw_at lw_m4 108 rfl) rfl
theorem q933 : (Jvm.Cond.soleField "NetworkCenters$Falling" "weight") ∈ lw_all := lw_g (lw_at lw_m4 109 rfl) rfl
theorem q934 : (Jvm.Cond.laysFinal "NetworkCenters$Falling" "NetworkCenters$Falling" "end" "I") ∈ lw_all := lw_g (lw_at lw_m4 110 rfl) rfl
theorem q935 : (Jvm.Cond.soleField "NetworkCenters$Falling" "end") ∈ lw_all := lw_g (lw_at lw_m4 111 rfl) rfl
theorem q936 : (Jvm.Cond.superclass "NetworkCenters$Falling" "java/lang/Object") ∈ lw_all := lw_g (lw_at lw_m4 112 rfl) rfl
theorem q1238 : (Jvm.Cond.selects "NetworkCenters$Falling" ({ cls := "java/lang/Object", name := "getClass", desc := "()Ljava/lang/Class;" } : Jvm.MethodName) ({ cls := "java/lang/Object", name := "getClass", desc := "()Ljava/lang/Class;" } : Jvm.MethodName)) ∈ lw_all := lw_g (lw_at lw_m5 174 rfl) rfl
theorem q2558 : (Jvm.Cond.castable "NetworkCenters$Falling" "java/lang/Object") ∈ lw_tbl := lw_at lw_m11 54 rfl
theorem q2569 : (Jvm.Cond.castable "NetworkCenters$Falling" "NetworkCenters$Line") ∈ lw_tbl := lw_at lw_m11 65 rfl
theorem in_X9 : ∀ w ∈ wsX90, w ∈ lw_all := lw_in wsX90 [932, 934] (by decide +kernel) (by decide +kernel)
/-! NetworkCenters$Reader -/
set_option maxRecDepth 100000
def RX10 : String := "NetworkCenters$Reader"
def TX10 : u_T := fun k => match k with
  | 0 => ("NetworkCenters$Reader", "from", "Ljava/lang/CharSequence;", true)
  | 1 => ("NetworkCenters$Reader", "numbers", "[I", true)
  | 2 => ("NetworkCenters$Reader", "kind", "LNetworkCenters$Kind;", false)
  | _ => ("NetworkCenters$Reader", "at", "I", false)
def tyX10 : Nat → FieldType := fun k => match k with
  | 0 => .object "java/lang/CharSequence"
  | 1 => .array .int
  | 2 => .object "NetworkCenters$Kind"
  | _ => .int
abbrev wsX100 : List Cond := u_ws RX10 TX10 4
theorem nmX10 : ∀ a, a < 4 → ∀ b, b < 4 → a ≠ b → (TX10 a).2.1 ≠ (TX10 b).2.1 := by decide +kernel
theorem tyX10_ok : ∀ k, k < 4 → parseFieldDescriptor (TX10 k).2.2.1 = some (tyX10 k) := by decide +kernel
abbrev cX10_init : ByteArray := prog_14_method_1_code
def yX10_init : MethodName := ⟨RX10, "<init>", "(Ljava/lang/CharSequence;)V"⟩
def dkwX10_init_0 : List UInt8 := [42, 183, 0, 3, 42, 6, 188, 10, 181, 0, 9, 42, 43, 181, 0, 15, 177]
abbrev dktX10_init_0 : List UInt8 := dkwX10_init_0 ++ []
theorem dksX10_init_0 : cX10_init.data.toList.drop 0 = dktX10_init_0 := by decide +kernel
theorem dX10_init_0 : decode cX10_init 0 = .ok (.aload_n 0, 1) := dk_42 (dk_at dksX10_init_0 0 rfl rfl)
theorem dX10_init_1 : decode cX10_init 1 = .ok (.invokespecial 3, 3) := dk_183 0 3 (dk_at dksX10_init_0 1 rfl rfl)
theorem dX10_init_4 : decode cX10_init 4 = .ok (.aload_n 0, 1) := dk_42 (dk_at dksX10_init_0 4 rfl rfl)
theorem dX10_init_5 : decode cX10_init 5 = .ok (.iconst 3, 1) := dk_6 (dk_at dksX10_init_0 5 rfl rfl)
theorem dX10_init_6 : decode cX10_init 6 = .ok (.newarray .int, 2) := dk_188_10 (dk_at dksX10_init_0 6 rfl rfl)
theorem dX10_init_8 : decode cX10_init 8 = .ok (.putfield 9, 3) := dk_181 0 9 (dk_at dksX10_init_0 8 rfl rfl)
theorem dX10_init_11 : decode cX10_init 11 = .ok (.aload_n 0, 1) := dk_42 (dk_at dksX10_init_0 11 rfl rfl)
theorem dX10_init_12 : decode cX10_init 12 = .ok (.aload_n 1, 1) := dk_43 (dk_at dksX10_init_0 12 rfl rfl)
theorem dX10_init_13 : decode cX10_init 13 = .ok (.putfield 15, 3) := dk_181 0 15 (dk_at dksX10_init_0 13 rfl rfl)
theorem dX10_init_16 : decode cX10_init 16 = .ok (.return_, 1) := dk_177 (dk_at dksX10_init_0 16 rfl rfl)
abbrev cX10_isAtEnd : ByteArray := prog_14_method_4_code
def yX10_isAtEnd : MethodName := ⟨RX10, "isAtEnd", "()Z"⟩
def dkwX10_isAtEnd_0 : List UInt8 := [42, 182, 0, 36, 16, 254, 160, 0, 7, 4, 167, 0, 4, 3, 172]
abbrev dktX10_isAtEnd_0 : List UInt8 := dkwX10_isAtEnd_0 ++ []
theorem dksX10_isAtEnd_0 : cX10_isAtEnd.data.toList.drop 0 = dktX10_isAtEnd_0 := by decide +kernel
theorem dX10_isAtEnd_0 : decode cX10_isAtEnd 0 = .ok (.aload_n 0, 1) := dk_42 (dk_at dksX10_isAtEnd_0 0 rfl rfl)
theorem dX10_isAtEnd_1 : decode cX10_isAtEnd 1 = .ok (.invokevirtual 36, 3) := dk_182 0 36 (dk_at dksX10_isAtEnd_0 1 rfl rfl)
theorem dX10_isAtEnd_4 : decode cX10_isAtEnd 4 = .ok (.bipush (-2), 2) := dk_16 254 (dk_at dksX10_isAtEnd_0 4 rfl rfl)
theorem dX10_isAtEnd_6 : decode cX10_isAtEnd 6 = .ok (.if_icmp .ne 7, 3) := dk_160 0 7 (dk_at dksX10_isAtEnd_0 6 rfl rfl)
theorem dX10_isAtEnd_9 : decode cX10_isAtEnd 9 = .ok (.iconst 1, 1) := dk_4 (dk_at dksX10_isAtEnd_0 9 rfl rfl)
theorem dX10_isAtEnd_10 : decode cX10_isAtEnd 10 = .ok (.goto 4, 3) := dk_167 0 4 (dk_at dksX10_isAtEnd_0 10 rfl rfl)
theorem dX10_isAtEnd_13 : decode cX10_isAtEnd 13 = .ok (.iconst 0, 1) := dk_3 (dk_at dksX10_isAtEnd_0 13 rfl rfl)
theorem dX10_isAtEnd_14 : decode cX10_isAtEnd 14 = .ok (.ireturn, 1) := dk_172 (dk_at dksX10_isAtEnd_0 14 rfl rfl)
abbrev cX10_token : ByteArray := prog_14_method_3_code
def yX10_token : MethodName := ⟨RX10, "token", "()I"⟩
def dkwX10_token_1 : List UInt8 := [182, 0, 33, 172]
abbrev dktX10_token_1 : List UInt8 := dkwX10_token_1 ++ []
def dkwX10_token_0 : List UInt8 := [42, 182, 0, 33, 16, 32, 160, 0, 16, 42, 89, 180, 0, 19, 4, 96, 181, 0, 19, 167, 255, 237, 42]
abbrev dktX10_token_0 : List UInt8 := dkwX10_token_0 ++ dktX10_token_1
theorem dksX10_token_0 : cX10_token.data.toList.drop 0 = dktX10_token_0 := by decide +kernel
theorem dksX10_token_1 : cX10_token.data.toList.drop 23 = dktX10_token_1 := dk_seg dksX10_token_0 23 rfl rfl
theorem dX10_token_0 : decode cX10_token 0 = .ok (.aload_n 0, 1) := dk_42 (dk_at dksX10_token_0 0 rfl rfl)
theorem dX10_token_1 : decode cX10_token 1 = .ok (.invokevirtual 33, 3) := dk_182 0 33 (dk_at dksX10_token_0 1 rfl rfl)
theorem dX10_token_4 : decode cX10_token 4 = .ok (.bipush 32, 2) := dk_16 32 (dk_at dksX10_token_0 4 rfl rfl)
theorem dX10_token_6 : decode cX10_token 6 = .ok (.if_icmp .ne 16, 3) := dk_160 0 16 (dk_at dksX10_token_0 6 rfl rfl)
theorem dX10_token_9 : decode cX10_token 9 = .ok (.aload_n 0, 1) := dk_42 (dk_at dksX10_token_0 9 rfl rfl)
theorem dX10_token_10 : decode cX10_token 10 = .ok (.dup, 1) := dk_89 (dk_at dksX10_token_0 10 rfl rfl)
theorem dX10_token_11 : decode cX10_token 11 = .ok (.getfield 19, 3) := dk_180 0 19 (dk_at dksX10_token_0 11 rfl rfl)
theorem dX10_token_14 : decode cX10_token 14 = .ok (.iconst 1, 1) := dk_4 (dk_at dksX10_token_0 14 rfl rfl)
theorem dX10_token_15 : decode cX10_token 15 = .ok (.iadd, 1) := dk_96 (dk_at dksX10_token_0 15 rfl rfl)
theorem dX10_token_16 : decode cX10_token 16 = .ok (.putfield 19, 3) := dk_181 0 19 (dk_at dksX10_token_0 16 rfl rfl)
theorem dX10_token_19 : decode cX10_token 19 = .ok (.goto (-19), 3) := dk_167 255 237 (dk_at dksX10_token_0 19 rfl rfl)
theorem dX10_token_22 : decode cX10_token 22 = .ok (.aload_n 0, 1) := dk_42 (dk_at dksX10_token_0 22 rfl rfl)
theorem dX10_token_23 : decode cX10_token 23 = .ok (.invokevirtual 33, 3) := dk_182 0 33 (dk_at dksX10_token_1 0 rfl rfl)
theorem dX10_token_26 : decode cX10_token 26 = .ok (.ireturn, 1) := dk_172 (dk_at dksX10_token_1 3 rfl rfl)
abbrev cX10_next : ByteArray := prog_14_method_2_code
def yX10_next : MethodName := ⟨RX10, "next", "()I"⟩
def dkwX10_next_1 : List UInt8 := [185, 0, 29, 2, 0, 167, 0, 5, 16, 254, 172]
abbrev dktX10_next_1 : List UInt8 := dkwX10_next_1 ++ []
def dkwX10_next_0 : List UInt8 := [42, 180, 0, 19, 42, 180, 0, 15, 185, 0, 23, 1, 0, 162, 0, 19, 42, 180, 0, 15, 42, 180, 0, 19]
abbrev dktX10_next_0 : List UInt8 := dkwX10_next_0 ++ dktX10_next_1
theorem dksX10_next_0 : cX10_next.data.toList.drop 0 = dktX10_next_0 := by decide +kernel
theorem dksX10_next_1 : cX10_next.data.toList.drop 24 = dktX10_next_1 := dk_seg dksX10_next_0 24 rfl rfl
theorem dX10_next_0 : decode cX10_next 0 = .ok (.aload_n 0, 1) := dk_42 (dk_at dksX10_next_0 0 rfl rfl)
theorem dX10_next_1 : decode cX10_next 1 = .ok (.getfield 19, 3) := dk_180 0 19 (dk_at dksX10_next_0 1 rfl rfl)
theorem dX10_next_4 : decode cX10_next 4 = .ok (.aload_n 0, 1) := dk_42 (dk_at dksX10_next_0 4 rfl rfl)
theorem dX10_next_5 : decode cX10_next 5 = .ok (.getfield 15, 3) := dk_180 0 15 (dk_at dksX10_next_0 5 rfl rfl)
theorem dX10_next_8 : decode cX10_next 8 = .ok (.invokeinterface 23 1, 5) := by decide +kernel
theorem dX10_next_13 : decode cX10_next 13 = .ok (.if_icmp .ge 19, 3) := dk_162 0 19 (dk_at dksX10_next_0 13 rfl rfl)
theorem dX10_next_16 : decode cX10_next 16 = .ok (.aload_n 0, 1) := dk_42 (dk_at dksX10_next_0 16 rfl rfl)
theorem dX10_next_17 : decode cX10_next 17 = .ok (.getfield 15, 3) := dk_180 0 15 (dk_at dksX10_next_0 17 rfl rfl)
theorem dX10_next_20 : decode cX10_next 20 = .ok (.aload_n 0, 1) := dk_42 (dk_at dksX10_next_0 20 rfl rfl)
theorem dX10_next_21 : decode cX10_next 21 = .ok (.getfield 19, 3) := dk_180 0 19 (dk_at dksX10_next_0 21 rfl rfl)
theorem dX10_next_24 : decode cX10_next 24 = .ok (.invokeinterface 29 2, 5) := by decide +kernel
theorem dX10_next_29 : decode cX10_next 29 = .ok (.goto 5, 3) := dk_167 0 5 (dk_at dksX10_next_1 5 rfl rfl)
theorem dX10_next_32 : decode cX10_next 32 = .ok (.bipush (-2), 2) := dk_16 254 (dk_at dksX10_next_1 8 rfl rfl)
theorem dX10_next_34 : decode cX10_next 34 = .ok (.ireturn, 1) := dk_172 (dk_at dksX10_next_1 10 rfl rfl)
abbrev cX10_command : ByteArray := prog_14_method_9_code
def yX10_command : MethodName := ⟨RX10, "command", "()V"⟩
def dkwX10_command_6 : List UInt8 := [42, 182, 0, 52, 79, 167, 0, 10, 42, 3, 16, 61, 182, 0, 68, 42, 16, 59, 182, 0, 55, 177]
abbrev dktX10_command_6 : List UInt8 := dkwX10_command_6 ++ []
def dkwX10_command_5 : List UInt8 := [27, 16, 120, 160, 0, 29, 42, 3, 16, 58, 182, 0, 68, 42, 16, 45, 182, 0, 55, 42, 180, 0, 9, 5]
abbrev dktX10_command_5 : List UInt8 := dkwX10_command_5 ++ dktX10_command_6
def dkwX10_command_4 : List UInt8 := [178, 0, 72, 167, 0, 18, 27, 16, 118, 160, 0, 9, 178, 0, 75, 167, 0, 6, 178, 0, 78, 181, 0, 65]
abbrev dktX10_command_4 : List UInt8 := dkwX10_command_4 ++ dktX10_command_5
def dkwX10_command_3 : List UInt8 := [167, 0, 4, 3, 182, 0, 44, 42, 89, 180, 0, 19, 4, 96, 181, 0, 19, 42, 27, 16, 119, 160, 0, 9]
abbrev dktX10_command_3 : List UInt8 := dkwX10_command_3 ++ dktX10_command_4
def dkwX10_command_2 : List UInt8 := [167, 0, 110, 42, 27, 16, 119, 159, 0, 15, 27, 16, 118, 159, 0, 9, 27, 16, 120, 160, 0, 7, 4]
abbrev dktX10_command_2 : List UInt8 := dkwX10_command_2 ++ dktX10_command_3
def dkwX10_command_1 : List UInt8 := [3, 16, 45, 182, 0, 68, 42, 16, 58, 182, 0, 55, 42, 180, 0, 9, 5, 42, 182, 0, 52, 79]
abbrev dktX10_command_1 : List UInt8 := dkwX10_command_1 ++ dktX10_command_2
def dkwX10_command_0 : List UInt8 := [42, 182, 0, 36, 60, 27, 16, 48, 16, 57, 184, 0, 48, 153, 0, 36, 42, 178, 0, 59, 181, 0, 65, 42]
abbrev dktX10_command_0 : List UInt8 := dkwX10_command_0 ++ dktX10_command_1
theorem dksX10_command_0 : cX10_command.data.toList.drop 0 = dktX10_command_0 := by decide +kernel
theorem dksX10_command_1 : cX10_command.data.toList.drop 24 = dktX10_command_1 := dk_seg dksX10_command_0 24 rfl rfl
theorem dksX10_command_2 : cX10_command.data.toList.drop 46 = dktX10_command_2 := dk_seg dksX10_command_1 22 rfl rfl
theorem dksX10_command_3 : cX10_command.data.toList.drop 69 = dktX10_command_3 := dk_seg dksX10_command_2 23 rfl rfl
theorem dksX10_command_4 : cX10_command.data.toList.drop 93 = dktX10_command_4 := dk_seg dksX10_command_3 24 rfl rfl
theorem dksX10_command_5 : cX10_command.data.toList.drop 117 = dktX10_command_5 := dk_seg dksX10_command_4 24 rfl rfl
theorem dksX10_command_6 : cX10_command.data.toList.drop 141 = dktX10_command_6 := dk_seg dksX10_command_5 24 rfl rfl
theorem dX10_command_0 : decode cX10_command 0 = .ok (.aload_n 0, 1) := dk_42 (dk_at dksX10_command_0 0 rfl rfl)
theorem dX10_command_1 : decode cX10_command 1 = .ok (.invokevirtual 36, 3) := dk_182 0 36 (dk_at dksX10_command_0 1 rfl rfl)
theorem dX10_command_4 : decode cX10_command 4 = .ok (.istore_n 1, 1) := dk_60 (dk_at dksX10_command_0 4 rfl rfl)
theorem dX10_command_5 : decode cX10_command 5 = .ok (.iload_n 1, 1) := dk_27 (dk_at dksX10_command_0 5 rfl rfl)
theorem dX10_command_6 : decode cX10_command 6 = .ok (.bipush 48, 2) := dk_16 48 (dk_at dksX10_command_0 6 rfl rfl)
theorem dX10_command_8 : decode cX10_command 8 = .ok (.bipush 57, 2) := dk_16 57 (dk_at dksX10_command_0 8 rfl rfl)
theorem dX10_command_10 : decode cX10_command 10 = .ok (.invokestatic 48, 3) := dk_184 0 48 (dk_at dksX10_command_0 10 rfl rfl)
theorem dX10_command_13 : decode cX10_command 13 = .ok (.ifCond .eq 36, 3) := dk_153 0 36 (dk_at dksX10_command_0 13 rfl rfl)
theorem dX10_command_16 : decode cX10_command 16 = .ok (.aload_n 0, 1) := dk_42 (dk_at dksX10_command_0 16 rfl rfl)
theorem dX10_command_17 : decode cX10_command 17 = .ok (.getstatic 59, 3) := dk_178 0 59 (dk_at dksX10_command_0 17 rfl rfl)
theorem dX10_command_20 : decode cX10_command 20 = .ok (.putfield 65, 3) := dk_181 0 65 (dk_at dksX10_command_0 20 rfl rfl)
theorem dX10_command_23 : decode cX10_command 23 = .ok (.aload_n 0, 1) := dk_42 (dk_at dksX10_command_0 23 rfl rfl)
theorem dX10_command_24 : decode cX10_command 24 = .ok (.iconst 0, 1) := dk_3 (dk_at dksX10_command_1 0 rfl rfl)
theorem dX10_command_25 : decode cX10_command 25 = .ok (.bipush 45, 2) := dk_16 45 (dk_at dksX10_command_1 1 rfl rfl)
theorem dX10_command_27 : decode cX10_command 27 = .ok (.invokevirtual 68, 3) := dk_182 0 68 (dk_at dksX10_command_1 3 rfl rfl)
theorem dX10_command_30 : decode cX10_command 30 = .ok (.aload_n 0, 1) := dk_42 (dk_at dksX10_command_1 6 rfl rfl)
theorem dX10_command_31 : decode cX10_command 31 = .ok (.bipush 58, 2) := dk_16 58 (dk_at dksX10_command_1 7 rfl rfl)
theorem dX10_command_33 : decode cX10_command 33 = .ok (.invokevirtual 55, 3) := dk_182 0 55 (dk_at dksX10_command_1 9 rfl rfl)
theorem dX10_command_36 : decode cX10_command 36 = .ok (.aload_n 0, 1) := dk_42 (dk_at dksX10_command_1 12 rfl rfl)
theorem dX10_command_37 : decode cX10_command 37 = .ok (.getfield 9, 3) := dk_180 0 9 (dk_at dksX10_command_1 13 rfl rfl)
theorem dX10_command_40 : decode cX10_command 40 = .ok (.iconst 2, 1) := dk_5 (dk_at dksX10_command_1 16 rfl rfl)
theorem dX10_command_41 : decode cX10_command 41 = .ok (.aload_n 0, 1) := dk_42 (dk_at dksX10_command_1 17 rfl rfl)
theorem dX10_command_42 : decode cX10_command 42 = .ok (.invokevirtual 52, 3) := dk_182 0 52 (dk_at dksX10_command_1 18 rfl rfl)
theorem dX10_command_45 : decode cX10_command 45 = .ok (.iastore, 1) := dk_79 (dk_at dksX10_command_1 21 rfl rfl)
theorem dX10_command_46 : decode cX10_command 46 = .ok (.goto 110, 3) := dk_167 0 110 (dk_at dksX10_command_2 0 rfl rfl)
theorem dX10_command_49 : decode cX10_command 49 = .ok (.aload_n 0, 1) := dk_42 (dk_at dksX10_command_2 3 rfl rfl)
theorem dX10_command_50 : decode cX10_command 50 = .ok (.iload_n 1, 1) := dk_27 (dk_at dksX10_command_2 4 rfl rfl)
theorem dX10_command_51 : decode cX10_command 51 = .ok (.bipush 119, 2) := dk_16 119 (dk_at dksX10_command_2 5 rfl rfl)
theorem dX10_command_53 : decode cX10_command 53 = .ok (.if_icmp .eq 15, 3) := dk_159 0 15 (dk_at dksX10_command_2 7 rfl rfl)
theorem dX10_command_56 : decode cX10_command 56 = .ok (.iload_n 1, 1) := dk_27 (dk_at dksX10_command_2 10 rfl rfl)
theorem dX10_command_57 : decode cX10_command 57 = .ok (.bipush 118, 2) := dk_16 118 (dk_at dksX10_command_2 11 rfl rfl)
theorem dX10_command_59 : decode cX10_command 59 = .ok (.if_icmp .eq 9, 3) := dk_159 0 9 (dk_at dksX10_command_2 13 rfl rfl)
theorem dX10_command_62 : decode cX10_command 62 = .ok (.iload_n 1, 1) := dk_27 (dk_at dksX10_command_2 16 rfl rfl)
theorem dX10_command_63 : decode cX10_command 63 = .ok (.bipush 120, 2) := dk_16 120 (dk_at dksX10_command_2 17 rfl rfl)
theorem dX10_command_65 : decode cX10_command 65 = .ok (.if_icmp .ne 7, 3) := dk_160 0 7 (dk_at dksX10_command_2 19 rfl rfl)
theorem dX10_command_68 : decode cX10_command 68 = .ok (.iconst 1, 1) := dk_4 (dk_at dksX10_command_2 22 rfl rfl)
theorem dX10_command_69 : decode cX10_command 69 = .ok (.goto 4, 3) := dk_167 0 4 (dk_at dksX10_command_3 0 rfl rfl)
theorem dX10_command_72 : decode cX10_command 72 = .ok (.iconst 0, 1) := dk_3 (dk_at dksX10_command_3 3 rfl rfl)
theorem dX10_command_73 : decode cX10_command 73 = .ok (.invokevirtual 44, 3) := dk_182 0 44 (dk_at dksX10_command_3 4 rfl rfl)
theorem dX10_command_76 : decode cX10_command 76 = .ok (.aload_n 0, 1) := dk_42 (dk_at dksX10_command_3 7 rfl rfl)
theorem dX10_command_77 : decode cX10_command 77 = .ok (.dup, 1) := dk_89 (dk_at dksX10_command_3 8 rfl rfl)
theorem dX10_command_78 : decode cX10_command 78 = .ok (.getfield 19, 3) := dk_180 0 19 (dk_at dksX10_command_3 9 rfl rfl)
theorem dX10_command_81 : decode cX10_command 81 = .ok (.iconst 1, 1) := dk_4 (dk_at dksX10_command_3 12 rfl rfl)
theorem dX10_command_82 : decode cX10_command 82 = .ok (.iadd, 1) := dk_96 (dk_at dksX10_command_3 13 rfl rfl)
theorem dX10_command_83 : decode cX10_command 83 = .ok (.putfield 19, 3) := dk_181 0 19 (dk_at dksX10_command_3 14 rfl rfl)
theorem dX10_command_86 : decode cX10_command 86 = .ok (.aload_n 0, 1) := dk_42 (dk_at dksX10_command_3 17 rfl rfl)
theorem dX10_command_87 : decode cX10_command 87 = .ok (.iload_n 1, 1) := dk_27 (dk_at dksX10_command_3 18 rfl rfl)
theorem dX10_command_88 : decode cX10_command 88 = .ok (.bipush 119, 2) := dk_16 119 (dk_at dksX10_command_3 19 rfl rfl)
theorem dX10_command_90 : decode cX10_command 90 = .ok (.if_icmp .ne 9, 3) := dk_160 0 9 (dk_at dksX10_command_3 21 rfl rfl)
theorem dX10_command_93 : decode cX10_command 93 = .ok (.getstatic 72, 3) := dk_178 0 72 (dk_at dksX10_command_4 0 rfl rfl)
theorem dX10_command_96 : decode cX10_command 96 = .ok (.goto 18, 3) := dk_167 0 18 (dk_at dksX10_command_4 3 rfl rfl)
theorem dX10_command_99 : decode cX10_command 99 = .ok (.iload_n 1, 1) := dk_27 (dk_at dksX10_command_4 6 rfl rfl)
theorem dX10_command_100 : decode cX10_command 100 = .ok (.bipush 118, 2) := dk_16 118 (dk_at dksX10_command_4 7 rfl rfl)
theorem dX10_command_102 : decode cX10_command 102 = .ok (.if_icmp .ne 9, 3) := dk_160 0 9 (dk_at dksX10_command_4 9 rfl rfl)
theorem dX10_command_105 : decode cX10_command 105 = .ok (.getstatic 75, 3) := dk_178 0 75 (dk_at dksX10_command_4 12 rfl rfl)
theorem dX10_command_108 : decode cX10_command 108 = .ok (.goto 6, 3) := dk_167 0 6 (dk_at dksX10_command_4 15 rfl rfl)
theorem dX10_command_111 : decode cX10_command 111 = .ok (.getstatic 78, 3) := dk_178 0 78 (dk_at dksX10_command_4 18 rfl rfl)
theorem dX10_command_114 : decode cX10_command 114 = .ok (.putfield 65, 3) := dk_181 0 65 (dk_at dksX10_command_4 21 rfl rfl)
theorem dX10_command_117 : decode cX10_command 117 = .ok (.iload_n 1, 1) := dk_27 (dk_at dksX10_command_5 0 rfl rfl)
theorem dX10_command_118 : decode cX10_command 118 = .ok (.bipush 120, 2) := dk_16 120 (dk_at dksX10_command_5 1 rfl rfl)
theorem dX10_command_120 : decode cX10_command 120 = .ok (.if_icmp .ne 29, 3) := dk_160 0 29 (dk_at dksX10_command_5 3 rfl rfl)
theorem dX10_command_123 : decode cX10_command 123 = .ok (.aload_n 0, 1) := dk_42 (dk_at dksX10_command_5 6 rfl rfl)
theorem dX10_command_124 : decode cX10_command 124 = .ok (.iconst 0, 1) := dk_3 (dk_at dksX10_command_5 7 rfl rfl)
theorem dX10_command_125 : decode cX10_command 125 = .ok (.bipush 58, 2) := dk_16 58 (dk_at dksX10_command_5 8 rfl rfl)
theorem dX10_command_127 : decode cX10_command 127 = .ok (.invokevirtual 68, 3) := dk_182 0 68 (dk_at dksX10_command_5 10 rfl rfl)
theorem dX10_command_130 : decode cX10_command 130 = .ok (.aload_n 0, 1) := dk_42 (dk_at dksX10_command_5 13 rfl rfl)
theorem dX10_command_131 : decode cX10_command 131 = .ok (.bipush 45, 2) := dk_16 45 (dk_at dksX10_command_5 14 rfl rfl)
theorem dX10_command_133 : decode cX10_command 133 = .ok (.invokevirtual 55, 3) := dk_182 0 55 (dk_at dksX10_command_5 16 rfl rfl)
theorem dX10_command_136 : decode cX10_command 136 = .ok (.aload_n 0, 1) := dk_42 (dk_at dksX10_command_5 19 rfl rfl)
theorem dX10_command_137 : decode cX10_command 137 = .ok (.getfield 9, 3) := dk_180 0 9 (dk_at dksX10_command_5 20 rfl rfl)
theorem dX10_command_140 : decode cX10_command 140 = .ok (.iconst 2, 1) := dk_5 (dk_at dksX10_command_5 23 rfl rfl)
theorem dX10_command_141 : decode cX10_command 141 = .ok (.aload_n 0, 1) := dk_42 (dk_at dksX10_command_6 0 rfl rfl)
theorem dX10_command_142 : decode cX10_command 142 = .ok (.invokevirtual 52, 3) := dk_182 0 52 (dk_at dksX10_command_6 1 rfl rfl)
theorem dX10_command_145 : decode cX10_command 145 = .ok (.iastore, 1) := dk_79 (dk_at dksX10_command_6 4 rfl rfl)
theorem dX10_command_146 : decode cX10_command 146 = .ok (.goto 10, 3) := dk_167 0 10 (dk_at dksX10_command_6 5 rfl rfl)
theorem dX10_command_149 : decode cX10_command 149 = .ok (.aload_n 0, 1) := dk_42 (dk_at dksX10_command_6 8 rfl rfl)
theorem dX10_command_150 : decode cX10_command 150 = .ok (.iconst 0, 1) := dk_3 (dk_at dksX10_command_6 9 rfl rfl)
theorem dX10_command_151 : decode cX10_command 151 = .ok (.bipush 61, 2) := dk_16 61 (dk_at dksX10_command_6 10 rfl rfl)
theorem dX10_command_153 : decode cX10_command 153 = .ok (.invokevirtual 68, 3) := dk_182 0 68 (dk_at dksX10_command_6 12 rfl rfl)
theorem dX10_command_156 : decode cX10_command 156 = .ok (.aload_n 0, 1) := dk_42 (dk_at dksX10_command_6 15 rfl rfl)
theorem dX10_command_157 : decode cX10_command 157 = .ok (.bipush 59, 2) := dk_16 59 (dk_at dksX10_command_6 16 rfl rfl)
theorem dX10_command_159 : decode cX10_command 159 = .ok (.invokevirtual 55, 3) := dk_182 0 55 (dk_at dksX10_command_6 18 rfl rfl)
theorem dX10_command_162 : decode cX10_command 162 = .ok (.return_, 1) := dk_177 (dk_at dksX10_command_6 21 rfl rfl)
abbrev cX10_two : ByteArray := prog_14_method_8_code
def yX10_two : MethodName := ⟨RX10, "two", "(IC)V"⟩
def dkwX10_two_1 : List UInt8 := [182, 0, 52, 79, 177]
abbrev dktX10_two_1 : List UInt8 := dkwX10_two_1 ++ []
def dkwX10_two_0 : List UInt8 := [42, 180, 0, 9, 27, 42, 182, 0, 52, 79, 42, 28, 182, 0, 55, 42, 180, 0, 9, 27, 4, 96, 42]
abbrev dktX10_two_0 : List UInt8 := dkwX10_two_0 ++ dktX10_two_1
theorem dksX10_two_0 : cX10_two.data.toList.drop 0 = dktX10_two_0 := by decide +kernel
theorem dksX10_two_1 : cX10_two.data.toList.drop 23 = dktX10_two_1 := dk_seg dksX10_two_0 23 rfl rfl
theorem dX10_two_0 : decode cX10_two 0 = .ok (.aload_n 0, 1) := dk_42 (dk_at dksX10_two_0 0 rfl rfl)
theorem dX10_two_1 : decode cX10_two 1 = .ok (.getfield 9, 3) := dk_180 0 9 (dk_at dksX10_two_0 1 rfl rfl)
theorem dX10_two_4 : decode cX10_two 4 = .ok (.iload_n 1, 1) := dk_27 (dk_at dksX10_two_0 4 rfl rfl)
theorem dX10_two_5 : decode cX10_two 5 = .ok (.aload_n 0, 1) := dk_42 (dk_at dksX10_two_0 5 rfl rfl)
theorem dX10_two_6 : decode cX10_two 6 = .ok (.invokevirtual 52, 3) := dk_182 0 52 (dk_at dksX10_two_0 6 rfl rfl)
theorem dX10_two_9 : decode cX10_two 9 = .ok (.iastore, 1) := dk_79 (dk_at dksX10_two_0 9 rfl rfl)
theorem dX10_two_10 : decode cX10_two 10 = .ok (.aload_n 0, 1) := dk_42 (dk_at dksX10_two_0 10 rfl rfl)
theorem dX10_two_11 : decode cX10_two 11 = .ok (.iload_n 2, 1) := dk_28 (dk_at dksX10_two_0 11 rfl rfl)
theorem dX10_two_12 : decode cX10_two 12 = .ok (.invokevirtual 55, 3) := dk_182 0 55 (dk_at dksX10_two_0 12 rfl rfl)
theorem dX10_two_15 : decode cX10_two 15 = .ok (.aload_n 0, 1) := dk_42 (dk_at dksX10_two_0 15 rfl rfl)
theorem dX10_two_16 : decode cX10_two 16 = .ok (.getfield 9, 3) := dk_180 0 9 (dk_at dksX10_two_0 16 rfl rfl)
theorem dX10_two_19 : decode cX10_two 19 = .ok (.iload_n 1, 1) := dk_27 (dk_at dksX10_two_0 19 rfl rfl)
theorem dX10_two_20 : decode cX10_two 20 = .ok (.iconst 1, 1) := dk_4 (dk_at dksX10_two_0 20 rfl rfl)
theorem dX10_two_21 : decode cX10_two 21 = .ok (.iadd, 1) := dk_96 (dk_at dksX10_two_0 21 rfl rfl)
theorem dX10_two_22 : decode cX10_two 22 = .ok (.aload_n 0, 1) := dk_42 (dk_at dksX10_two_0 22 rfl rfl)
theorem dX10_two_23 : decode cX10_two 23 = .ok (.invokevirtual 52, 3) := dk_182 0 52 (dk_at dksX10_two_1 0 rfl rfl)
theorem dX10_two_26 : decode cX10_two 26 = .ok (.iastore, 1) := dk_79 (dk_at dksX10_two_1 3 rfl rfl)
theorem dX10_two_27 : decode cX10_two 27 = .ok (.return_, 1) := dk_177 (dk_at dksX10_two_1 4 rfl rfl)
abbrev cX10_number : ByteArray := prog_14_method_7_code
def yX10_number : MethodName := ⟨RX10, "number", "()I"⟩
def dkwX10_number_3 : List UInt8 := [42, 182, 0, 33, 16, 48, 16, 57, 184, 0, 48, 154, 0, 7, 4, 167, 0, 4, 3, 182, 0, 44, 27, 172]
abbrev dktX10_number_3 : List UInt8 := dkwX10_number_3 ++ []
def dkwX10_number_2 : List UInt8 := [16, 10, 27, 104, 42, 182, 0, 33, 96, 16, 48, 100, 60, 42, 89, 180, 0, 19, 4, 96, 181, 0, 19, 42]
abbrev dktX10_number_2 : List UInt8 := dkwX10_number_2 ++ dktX10_number_3
def dkwX10_number_1 : List UInt8 := [89, 180, 0, 19, 4, 96, 181, 0, 19, 42, 182, 0, 33, 16, 48, 16, 57, 184, 0, 48, 153, 0, 26]
abbrev dktX10_number_1 : List UInt8 := dkwX10_number_1 ++ dktX10_number_2
def dkwX10_number_0 : List UInt8 := [42, 42, 182, 0, 36, 16, 48, 16, 57, 184, 0, 48, 182, 0, 44, 42, 182, 0, 33, 16, 48, 100, 60, 42]
abbrev dktX10_number_0 : List UInt8 := dkwX10_number_0 ++ dktX10_number_1
theorem dksX10_number_0 : cX10_number.data.toList.drop 0 = dktX10_number_0 := by decide +kernel
theorem dksX10_number_1 : cX10_number.data.toList.drop 24 = dktX10_number_1 := dk_seg dksX10_number_0 24 rfl rfl
theorem dksX10_number_2 : cX10_number.data.toList.drop 47 = dktX10_number_2 := dk_seg dksX10_number_1 23 rfl rfl
theorem dksX10_number_3 : cX10_number.data.toList.drop 71 = dktX10_number_3 := dk_seg dksX10_number_2 24 rfl rfl
theorem dX10_number_0 : decode cX10_number 0 = .ok (.aload_n 0, 1) := dk_42 (dk_at dksX10_number_0 0 rfl rfl)
theorem dX10_number_1 : decode cX10_number 1 = .ok (.aload_n 0, 1) := dk_42 (dk_at dksX10_number_0 1 rfl rfl)
theorem dX10_number_2 : decode cX10_number 2 = .ok (.invokevirtual 36, 3) := dk_182 0 36 (dk_at dksX10_number_0 2 rfl rfl)
theorem dX10_number_5 : decode cX10_number 5 = .ok (.bipush 48, 2) := dk_16 48 (dk_at dksX10_number_0 5 rfl rfl)
theorem dX10_number_7 : decode cX10_number 7 = .ok (.bipush 57, 2) := dk_16 57 (dk_at dksX10_number_0 7 rfl rfl)
theorem dX10_number_9 : decode cX10_number 9 = .ok (.invokestatic 48, 3) := dk_184 0 48 (dk_at dksX10_number_0 9 rfl rfl)
theorem dX10_number_12 : decode cX10_number 12 = .ok (.invokevirtual 44, 3) := dk_182 0 44 (dk_at dksX10_number_0 12 rfl rfl)
theorem dX10_number_15 : decode cX10_number 15 = .ok (.aload_n 0, 1) := dk_42 (dk_at dksX10_number_0 15 rfl rfl)
theorem dX10_number_16 : decode cX10_number 16 = .ok (.invokevirtual 33, 3) := dk_182 0 33 (dk_at dksX10_number_0 16 rfl rfl)
theorem dX10_number_19 : decode cX10_number 19 = .ok (.bipush 48, 2) := dk_16 48 (dk_at dksX10_number_0 19 rfl rfl)
theorem dX10_number_21 : decode cX10_number 21 = .ok (.isub, 1) := dk_100 (dk_at dksX10_number_0 21 rfl rfl)
theorem dX10_number_22 : decode cX10_number 22 = .ok (.istore_n 1, 1) := dk_60 (dk_at dksX10_number_0 22 rfl rfl)
theorem dX10_number_23 : decode cX10_number 23 = .ok (.aload_n 0, 1) := dk_42 (dk_at dksX10_number_0 23 rfl rfl)
theorem dX10_number_24 : decode cX10_number 24 = .ok (.dup, 1) := dk_89 (dk_at dksX10_number_1 0 rfl rfl)
theorem dX10_number_25 : decode cX10_number 25 = .ok (.getfield 19, 3) := dk_180 0 19 (dk_at dksX10_number_1 1 rfl rfl)
theorem dX10_number_28 : decode cX10_number 28 = .ok (.iconst 1, 1) := dk_4 (dk_at dksX10_number_1 4 rfl rfl)
theorem dX10_number_29 : decode cX10_number 29 = .ok (.iadd, 1) := dk_96 (dk_at dksX10_number_1 5 rfl rfl)
theorem dX10_number_30 : decode cX10_number 30 = .ok (.putfield 19, 3) := dk_181 0 19 (dk_at dksX10_number_1 6 rfl rfl)
theorem dX10_number_33 : decode cX10_number 33 = .ok (.aload_n 0, 1) := dk_42 (dk_at dksX10_number_1 9 rfl rfl)
theorem dX10_number_34 : decode cX10_number 34 = .ok (.invokevirtual 33, 3) := dk_182 0 33 (dk_at dksX10_number_1 10 rfl rfl)
theorem dX10_number_37 : decode cX10_number 37 = .ok (.bipush 48, 2) := dk_16 48 (dk_at dksX10_number_1 13 rfl rfl)
theorem dX10_number_39 : decode cX10_number 39 = .ok (.bipush 57, 2) := dk_16 57 (dk_at dksX10_number_1 15 rfl rfl)
theorem dX10_number_41 : decode cX10_number 41 = .ok (.invokestatic 48, 3) := dk_184 0 48 (dk_at dksX10_number_1 17 rfl rfl)
theorem dX10_number_44 : decode cX10_number 44 = .ok (.ifCond .eq 26, 3) := dk_153 0 26 (dk_at dksX10_number_1 20 rfl rfl)
theorem dX10_number_47 : decode cX10_number 47 = .ok (.bipush 10, 2) := dk_16 10 (dk_at dksX10_number_2 0 rfl rfl)
theorem dX10_number_49 : decode cX10_number 49 = .ok (.iload_n 1, 1) := dk_27 (dk_at dksX10_number_2 2 rfl rfl)
theorem dX10_number_50 : decode cX10_number 50 = .ok (.imul, 1) := dk_104 (dk_at dksX10_number_2 3 rfl rfl)
theorem dX10_number_51 : decode cX10_number 51 = .ok (.aload_n 0, 1) := dk_42 (dk_at dksX10_number_2 4 rfl rfl)
theorem dX10_number_52 : decode cX10_number 52 = .ok (.invokevirtual 33, 3) := dk_182 0 33 (dk_at dksX10_number_2 5 rfl rfl)
theorem dX10_number_55 : decode cX10_number 55 = .ok (.iadd, 1) := dk_96 (dk_at dksX10_number_2 8 rfl rfl)
theorem dX10_number_56 : decode cX10_number 56 = .ok (.bipush 48, 2) := dk_16 48 (dk_at dksX10_number_2 9 rfl rfl)
theorem dX10_number_58 : decode cX10_number 58 = .ok (.isub, 1) := dk_100 (dk_at dksX10_number_2 11 rfl rfl)
theorem dX10_number_59 : decode cX10_number 59 = .ok (.istore_n 1, 1) := dk_60 (dk_at dksX10_number_2 12 rfl rfl)
theorem dX10_number_60 : decode cX10_number 60 = .ok (.aload_n 0, 1) := dk_42 (dk_at dksX10_number_2 13 rfl rfl)
theorem dX10_number_61 : decode cX10_number 61 = .ok (.dup, 1) := dk_89 (dk_at dksX10_number_2 14 rfl rfl)
theorem dX10_number_62 : decode cX10_number 62 = .ok (.getfield 19, 3) := dk_180 0 19 (dk_at dksX10_number_2 15 rfl rfl)
theorem dX10_number_65 : decode cX10_number 65 = .ok (.iconst 1, 1) := dk_4 (dk_at dksX10_number_2 18 rfl rfl)
theorem dX10_number_66 : decode cX10_number 66 = .ok (.iadd, 1) := dk_96 (dk_at dksX10_number_2 19 rfl rfl)
theorem dX10_number_67 : decode cX10_number 67 = .ok (.putfield 19, 3) := dk_181 0 19 (dk_at dksX10_number_2 20 rfl rfl)
theorem dX10_number_70 : decode cX10_number 70 = .ok (.aload_n 0, 1) := dk_42 (dk_at dksX10_number_2 23 rfl rfl)
theorem dX10_number_71 : decode cX10_number 71 = .ok (.aload_n 0, 1) := dk_42 (dk_at dksX10_number_3 0 rfl rfl)
theorem dX10_number_72 : decode cX10_number 72 = .ok (.invokevirtual 33, 3) := dk_182 0 33 (dk_at dksX10_number_3 1 rfl rfl)
theorem dX10_number_75 : decode cX10_number 75 = .ok (.bipush 48, 2) := dk_16 48 (dk_at dksX10_number_3 4 rfl rfl)
theorem dX10_number_77 : decode cX10_number 77 = .ok (.bipush 57, 2) := dk_16 57 (dk_at dksX10_number_3 6 rfl rfl)
theorem dX10_number_79 : decode cX10_number 79 = .ok (.invokestatic 48, 3) := dk_184 0 48 (dk_at dksX10_number_3 8 rfl rfl)
theorem dX10_number_82 : decode cX10_number 82 = .ok (.ifCond .ne 7, 3) := dk_154 0 7 (dk_at dksX10_number_3 11 rfl rfl)
theorem dX10_number_85 : decode cX10_number 85 = .ok (.iconst 1, 1) := dk_4 (dk_at dksX10_number_3 14 rfl rfl)
theorem dX10_number_86 : decode cX10_number 86 = .ok (.goto 4, 3) := dk_167 0 4 (dk_at dksX10_number_3 15 rfl rfl)
theorem dX10_number_89 : decode cX10_number 89 = .ok (.iconst 0, 1) := dk_3 (dk_at dksX10_number_3 18 rfl rfl)
theorem dX10_number_90 : decode cX10_number 90 = .ok (.invokevirtual 44, 3) := dk_182 0 44 (dk_at dksX10_number_3 19 rfl rfl)
theorem dX10_number_93 : decode cX10_number 93 = .ok (.iload_n 1, 1) := dk_27 (dk_at dksX10_number_3 22 rfl rfl)
theorem dX10_number_94 : decode cX10_number 94 = .ok (.ireturn, 1) := dk_172 (dk_at dksX10_number_3 23 rfl rfl)
abbrev cX10_require : ByteArray := prog_14_method_5_code
def yX10_require : MethodName := ⟨RX10, "require", "(Z)V"⟩
def dkwX10_require_0 : List UInt8 := [27, 154, 0, 15, 187, 0, 39, 89, 42, 180, 0, 19, 183, 0, 41, 191, 177]
abbrev dktX10_require_0 : List UInt8 := dkwX10_require_0 ++ []
theorem dksX10_require_0 : cX10_require.data.toList.drop 0 = dktX10_require_0 := by decide +kernel
theorem dX10_require_0 : decode cX10_require 0 = .ok (.iload_n 1, 1) := dk_27 (dk_at dksX10_require_0 0 rfl rfl)
theorem dX10_require_1 : decode cX10_require 1 = .ok (.ifCond .ne 15, 3) := dk_154 0 15 (dk_at dksX10_require_0 1 rfl rfl)
theorem dX10_require_4 : decode cX10_require 4 = .ok (.new 39, 3) := dk_187 0 39 (dk_at dksX10_require_0 4 rfl rfl)
theorem dX10_require_7 : decode cX10_require 7 = .ok (.dup, 1) := dk_89 (dk_at dksX10_require_0 7 rfl rfl)
theorem dX10_require_8 : decode cX10_require 8 = .ok (.aload_n 0, 1) := dk_42 (dk_at dksX10_require_0 8 rfl rfl)
theorem dX10_require_9 : decode cX10_require 9 = .ok (.getfield 19, 3) := dk_180 0 19 (dk_at dksX10_require_0 9 rfl rfl)
theorem dX10_require_12 : decode cX10_require 12 = .ok (.invokespecial 41, 3) := dk_183 0 41 (dk_at dksX10_require_0 12 rfl rfl)
theorem dX10_require_15 : decode cX10_require 15 = .ok (.athrow, 1) := dk_191 (dk_at dksX10_require_0 15 rfl rfl)
theorem dX10_require_16 : decode cX10_require 16 = .ok (.return_, 1) := dk_177 (dk_at dksX10_require_0 16 rfl rfl)
abbrev cX10_expect : ByteArray := prog_14_method_6_code
def yX10_expect : MethodName := ⟨RX10, "expect", "(C)V"⟩
def dkwX10_expect_1 : List UInt8 := [181, 0, 19, 177]
abbrev dktX10_expect_1 : List UInt8 := dkwX10_expect_1 ++ []
def dkwX10_expect_0 : List UInt8 := [42, 42, 182, 0, 36, 27, 160, 0, 7, 4, 167, 0, 4, 3, 182, 0, 44, 42, 89, 180, 0, 19, 4, 96]
abbrev dktX10_expect_0 : List UInt8 := dkwX10_expect_0 ++ dktX10_expect_1
theorem dksX10_expect_0 : cX10_expect.data.toList.drop 0 = dktX10_expect_0 := by decide +kernel
theorem dksX10_expect_1 : cX10_expect.data.toList.drop 24 = dktX10_expect_1 := dk_seg dksX10_expect_0 24 rfl rfl
theorem dX10_expect_0 : decode cX10_expect 0 = .ok (.aload_n 0, 1) := dk_42 (dk_at dksX10_expect_0 0 rfl rfl)
theorem dX10_expect_1 : decode cX10_expect 1 = .ok (.aload_n 0, 1) := dk_42 (dk_at dksX10_expect_0 1 rfl rfl)
theorem dX10_expect_2 : decode cX10_expect 2 = .ok (.invokevirtual 36, 3) := dk_182 0 36 (dk_at dksX10_expect_0 2 rfl rfl)
theorem dX10_expect_5 : decode cX10_expect 5 = .ok (.iload_n 1, 1) := dk_27 (dk_at dksX10_expect_0 5 rfl rfl)
theorem dX10_expect_6 : decode cX10_expect 6 = .ok (.if_icmp .ne 7, 3) := dk_160 0 7 (dk_at dksX10_expect_0 6 rfl rfl)
theorem dX10_expect_9 : decode cX10_expect 9 = .ok (.iconst 1, 1) := dk_4 (dk_at dksX10_expect_0 9 rfl rfl)
theorem dX10_expect_10 : decode cX10_expect 10 = .ok (.goto 4, 3) := dk_167 0 4 (dk_at dksX10_expect_0 10 rfl rfl)
theorem dX10_expect_13 : decode cX10_expect 13 = .ok (.iconst 0, 1) := dk_3 (dk_at dksX10_expect_0 13 rfl rfl)
theorem dX10_expect_14 : decode cX10_expect 14 = .ok (.invokevirtual 44, 3) := dk_182 0 44 (dk_at dksX10_expect_0 14 rfl rfl)
theorem dX10_expect_17 : decode cX10_expect 17 = .ok (.aload_n 0, 1) := dk_42 (dk_at dksX10_expect_0 17 rfl rfl)
theorem dX10_expect_18 : decode cX10_expect 18 = .ok (.dup, 1) := dk_89 (dk_at dksX10_expect_0 18 rfl rfl)
theorem dX10_expect_19 : decode cX10_expect 19 = .ok (.getfield 19, 3) := dk_180 0 19 (dk_at dksX10_expect_0 19 rfl rfl)
theorem dX10_expect_22 : decode cX10_expect 22 = .ok (.iconst 1, 1) := dk_4 (dk_at dksX10_expect_0 22 rfl rfl)
theorem dX10_expect_23 : decode cX10_expect 23 = .ok (.iadd, 1) := dk_96 (dk_at dksX10_expect_0 23 rfl rfl)
theorem dX10_expect_24 : decode cX10_expect 24 = .ok (.putfield 19, 3) := dk_181 0 19 (dk_at dksX10_expect_1 0 rfl rfl)
theorem dX10_expect_27 : decode cX10_expect 27 = .ok (.return_, 1) := dk_177 (dk_at dksX10_expect_1 3 rfl rfl)
theorem q147 : (Jvm.Cond.initialized "NetworkCenters$Reader") ∈ lw_all := lw_g (lw_at lw_m1 43 rfl) rfl
theorem q668 : (Jvm.Cond.instantiable "NetworkCenters$Reader" (4 : Nat)) ∈ lw_all := lw_g (lw_at lw_m3 84 rfl) rfl
theorem q670 : (Jvm.Cond.instanceMethod ({ cls := "NetworkCenters$Reader", name := "<init>", desc := "(Ljava/lang/CharSequence;)V" } : Jvm.MethodName)) ∈ lw_all := lw_g (lw_at lw_m3 86 rfl) rfl
theorem q671 : (Jvm.Cond.code ({ cls := "NetworkCenters$Reader", name := "<init>", desc := "(Ljava/lang/CharSequence;)V" } : Jvm.MethodName) prog_14_method_1_code (2 : Nat) (Option.none : Option Jvm.ClassFile.FieldType)) ∈ lw_all := lw_g (lw_at lw_m3 87 rfl) rfl
theorem q672 : (Jvm.Cond.methodLink "NetworkCenters$Reader" (3 : Nat) ({ cls := "java/lang/Object", name := "<init>", desc := "()V" } : Jvm.MethodName)) ∈ lw_all := lw_g (lw_at lw_m3 88 rfl) rfl
theorem q673 : (Jvm.Cond.fieldLink "NetworkCenters$Reader" (15 : Nat) "NetworkCenters$Reader" "from" "Ljava/lang/CharSequence;") ∈ lw_all := lw_g (lw_at lw_m3 89 rfl) rfl
theorem q674 : (Jvm.Cond.fieldLink "NetworkCenters$Reader" (9 : Nat) "NetworkCenters$Reader" "numbers" "[I") ∈ lw_all := lw_g (lw_at lw_m3 90 rfl) rfl
theorem q676 : (Jvm.Cond.fieldLink "NetworkCenters$Reader" (65 : Nat) "NetworkCenters$Reader" "kind" "LNetworkCenters$Kind;") ∈ lw_all := lw_g (lw_at lw_m3 92 rfl) rfl
theorem q678 : (Jvm.Cond.fieldLink "NetworkCenters$Reader" (19 : Nat) "NetworkCenters$Reader" "at" "I") ∈ lw_all := lw_g (lw_at lw_m3 94 rfl) rfl
theorem q679 : (Jvm.Cond.laysFinal "NetworkCenters$Reader" "NetworkCenters$Reader" "from" "Ljava/lang/CharSequence;") ∈ lw_all := lw_g (lw_at lw_m3 95 rfl) rfl
theorem q680 : (Jvm.Cond.soleField "NetworkCenters$Reader" "from") ∈ lw_all := lw_g (lw_at lw_m3 96 rfl) rfl
theorem q681 : (Jvm.Cond.laysFinal "NetworkCenters$Reader" "NetworkCenters$Reader" "numbers" "[I") ∈ lw_all := lw_g (lw_at lw_m3 97 rfl) rfl
theorem q682 : (Jvm.Cond.soleField "NetworkCenters$Reader" "numbers") ∈ lw_all := lw_g (lw_at lw_m3 98 rfl) rfl
theorem q683 : (Jvm.Cond.lays "NetworkCenters$Reader" "NetworkCenters$Reader" "kind" "LNetworkCenters$Kind;") ∈ lw_all := lw_g (lw_at lw_m3 99 rfl) rfl
theorem q684 : (Jvm.Cond.soleField "NetworkCenters$Reader" "kind") ∈ lw_all := lw_g (lw_at lw_m3 100 rfl) rfl
theorem q685 : (Jvm.Cond.lays "NetworkCenters$Reader" "NetworkCenters$Reader" "at" "I") ∈ lw_all := lw_g (lw_at lw_m3 101 rfl) rfl
theorem q686 : (Jvm.Cond.soleField "NetworkCenters$Reader" "at") ∈ lw_all := lw_g (lw_at lw_m3 102 rfl) rfl
theorem q687 : (Jvm.Cond.superclass "NetworkCenters$Reader" "java/lang/Object") ∈ lw_all := lw_g (lw_at lw_m3 103 rfl) rfl
theorem q689 : (Jvm.Cond.instanceMethod ({ cls := "NetworkCenters$Reader", name := "isAtEnd", desc := "()Z" } : Jvm.MethodName)) ∈ lw_all := lw_g (lw_at lw_m3 105 rfl) rfl
theorem q690 : (Jvm.Cond.selects "NetworkCenters$Reader" ({ cls := "NetworkCenters$Reader", name := "isAtEnd", desc := "()Z" } : Jvm.MethodName) ({ cls := "NetworkCenters$Reader", name := "isAtEnd", desc := "()Z" } : Jvm.MethodName)) ∈ lw_all := lw_g (lw_at lw_m3 106 rfl) rfl
theorem q691 : (Jvm.Cond.code ({ cls := "NetworkCenters$Reader", name := "isAtEnd", desc := "()Z" } : Jvm.MethodName) prog_14_method_4_code (1 : Nat) (Option.some Jvm.ClassFile.FieldType.boolean)) ∈ lw_all := lw_g (lw_at lw_m3 107 rfl) rfl
theorem q692 : (Jvm.Cond.methodLink "NetworkCenters$Reader" (36 : Nat) ({ cls := "NetworkCenters$Reader", name := "token", desc := "()I" } : Jvm.MethodName)) ∈ lw_all := lw_g (lw_at lw_m3 108 rfl) rfl
theorem q693 : (Jvm.Cond.privateMethod ({ cls := "NetworkCenters$Reader", name := "token", desc := "()I" } : Jvm.MethodName)) ∈ lw_tbl := lw_at lw_m3 109 rfl
theorem q694 : (Jvm.Cond.instanceMethod ({ cls := "NetworkCenters$Reader", name := "token", desc := "()I" } : Jvm.MethodName)) ∈ lw_all := lw_g (lw_at lw_m3 110 rfl) rfl
theorem q695 : (Jvm.Cond.code ({ cls := "NetworkCenters$Reader", name := "token", desc := "()I" } : Jvm.MethodName) prog_14_method_3_code (1 : Nat) (Option.some Jvm.ClassFile.FieldType.int)) ∈ lw_all := lw_g (lw_at lw_m3 111 rfl) rfl
theorem q696 : (Jvm.Cond.methodLink "NetworkCenters$Reader" (33 : Nat) ({ cls := "NetworkCenters$Reader", name := "next", desc := "()I" } : Jvm.MethodName)) ∈ lw_all := lw_g (lw_at lw_m3 112 rfl) rfl
theorem q697 : (Jvm.Cond.privateMethod ({ cls := "NetworkCenters$Reader", name := "next", desc := "()I" } : Jvm.MethodName)) ∈ lw_tbl := lw_at lw_m3 113 rfl
theorem q698 : (Jvm.Cond.instanceMethod ({ cls := "NetworkCenters$Reader", name := "next", desc := "()I" } : Jvm.MethodName)) ∈ lw_all := lw_g (lw_at lw_m3 114 rfl) rfl
theorem q699 : (Jvm.Cond.code ({ cls := "NetworkCenters$Reader", name := "next", desc := "()I" } : Jvm.MethodName) prog_14_method_2_code (1 : Nat) (Option.some Jvm.ClassFile.FieldType.int)) ∈ lw_all := lw_g (lw_at lw_m3 115 rfl) rfl
theorem q700 : (Jvm.Cond.interfaceEntry "NetworkCenters$Reader" (23 : Nat)) ∈ lw_tbl := lw_at lw_m3 116 rfl
theorem q701 : (Jvm.Cond.methodLink "NetworkCenters$Reader" (23 : Nat) ({ cls := "java/lang/CharSequence", name := "length", desc := "()I" } : Jvm.MethodName)) ∈ lw_all := lw_g (lw_at lw_m3 117 rfl) rfl
theorem q712 : (Jvm.Cond.interfaceEntry "NetworkCenters$Reader" (29 : Nat)) ∈ lw_tbl := lw_at lw_m3 128 rfl
theorem q713 : (Jvm.Cond.methodLink "NetworkCenters$Reader" (29 : Nat) ({ cls := "java/lang/CharSequence", name := "charAt", desc := "(I)C" } : Jvm.MethodName)) ∈ lw_all := lw_g (lw_at lw_m3 129 rfl) rfl
theorem q753 : (Jvm.Cond.instanceMethod ({ cls := "NetworkCenters$Reader", name := "command", desc := "()V" } : Jvm.MethodName)) ∈ lw_all := lw_g (lw_at lw_m3 169 rfl) rfl
theorem q754 : (Jvm.Cond.selects "NetworkCenters$Reader" ({ cls := "NetworkCenters$Reader", name := "command", desc := "()V" } : Jvm.MethodName) ({ cls := "NetworkCenters$Reader", name := "command", desc := "()V" } : Jvm.MethodName)) ∈ lw_all := lw_g (lw_at lw_m3 170 rfl) rfl
theorem q755 : (Jvm.Cond.code ({ cls := "NetworkCenters$Reader", name := "command", desc := "()V" } : Jvm.MethodName) prog_14_method_9_code (2 : Nat) (Option.none : Option Jvm.ClassFile.FieldType)) ∈ lw_all := lw_g (lw_at lw_m3 171 rfl) rfl
theorem q756 : (Jvm.Cond.methodLinkNest "NetworkCenters$Reader" (48 : Nat) ({ cls := "NetworkCenters", name := "isIn", desc := "(III)Z" } : Jvm.MethodName) "NetworkCenters") ∈ lw_tbl := lw_at lw_m3 172 rfl
theorem q759 : (Jvm.Cond.fieldLink "NetworkCenters$Reader" (59 : Nat) "NetworkCenters$Kind" "EDGE" "LNetworkCenters$Kind;") ∈ lw_all := lw_g (lw_at lw_m3 175 rfl) rfl
theorem q761 : (Jvm.Cond.methodLink "NetworkCenters$Reader" (68 : Nat) ({ cls := "NetworkCenters$Reader", name := "two", desc := "(IC)V" } : Jvm.MethodName)) ∈ lw_all := lw_g (lw_at lw_m3 177 rfl) rfl
theorem q762 : (Jvm.Cond.privateMethod ({ cls := "NetworkCenters$Reader", name := "two", desc := "(IC)V" } : Jvm.MethodName)) ∈ lw_tbl := lw_at lw_m3 178 rfl
theorem q763 : (Jvm.Cond.instanceMethod ({ cls := "NetworkCenters$Reader", name := "two", desc := "(IC)V" } : Jvm.MethodName)) ∈ lw_all := lw_g (lw_at lw_m3 179 rfl) rfl
theorem q764 : (Jvm.Cond.code ({ cls := "NetworkCenters$Reader", name := "two", desc := "(IC)V" } : Jvm.MethodName) prog_14_method_8_code (3 : Nat) (Option.none : Option Jvm.ClassFile.FieldType)) ∈ lw_all := lw_g (lw_at lw_m3 180 rfl) rfl
theorem q765 : (Jvm.Cond.methodLink "NetworkCenters$Reader" (52 : Nat) ({ cls := "NetworkCenters$Reader", name := "number", desc := "()I" } : Jvm.MethodName)) ∈ lw_all := lw_g (lw_at lw_m3 181 rfl) rfl
theorem q766 : (Jvm.Cond.privateMethod ({ cls := "NetworkCenters$Reader", name := "number", desc := "()I" } : Jvm.MethodName)) ∈ lw_tbl := lw_at lw_m3 182 rfl
theorem q767 : (Jvm.Cond.instanceMethod ({ cls := "NetworkCenters$Reader", name := "number", desc := "()I" } : Jvm.MethodName)) ∈ lw_all := lw_g (lw_at lw_m3 183 rfl) rfl
theorem q768 : (Jvm.Cond.code ({ cls := "NetworkCenters$Reader", name := "number", desc := "()I" } : Jvm.MethodName) prog_14_method_7_code (2 : Nat) (Option.some Jvm.ClassFile.FieldType.int)) ∈ lw_all := lw_g (lw_at lw_m3 184 rfl) rfl
theorem q769 : (Jvm.Cond.methodLink "NetworkCenters$Reader" (44 : Nat) ({ cls := "NetworkCenters$Reader", name := "require", desc := "(Z)V" } : Jvm.MethodName)) ∈ lw_all := lw_g (lw_at lw_m3 185 rfl) rfl
theorem q770 : (Jvm.Cond.privateMethod ({ cls := "NetworkCenters$Reader", name := "require", desc := "(Z)V" } : Jvm.MethodName)) ∈ lw_tbl := lw_at lw_m3 186 rfl
theorem q771 : (Jvm.Cond.instanceMethod ({ cls := "NetworkCenters$Reader", name := "require", desc := "(Z)V" } : Jvm.MethodName)) ∈ lw_all := lw_g (lw_at lw_m3 187 rfl) rfl
theorem q772 : (Jvm.Cond.code ({ cls := "NetworkCenters$Reader", name := "require", desc := "(Z)V" } : Jvm.MethodName) prog_14_method_5_code (2 : Nat) (Option.none : Option Jvm.ClassFile.FieldType)) ∈ lw_all := lw_g (lw_at lw_m3 188 rfl) rfl
theorem q773 : (Jvm.Cond.classLink "NetworkCenters$Reader" (39 : Nat) "NetworkCenters$Fault") ∈ lw_all := lw_g (lw_at lw_m3 189 rfl) rfl
theorem q782 : (Jvm.Cond.methodLink "NetworkCenters$Reader" (41 : Nat) ({ cls := "NetworkCenters$Fault", name := "<init>", desc := "(I)V" } : Jvm.MethodName)) ∈ lw_all := lw_g (lw_at lw_m3 198 rfl) rfl
theorem q798 : (Jvm.Cond.methodLink "NetworkCenters$Reader" (55 : Nat) ({ cls := "NetworkCenters$Reader", name := "expect", desc := "(C)V" } : Jvm.MethodName)) ∈ lw_all := lw_g (lw_at lw_m3 214 rfl) rfl
theorem q799 : (Jvm.Cond.privateMethod ({ cls := "NetworkCenters$Reader", name := "expect", desc := "(C)V" } : Jvm.MethodName)) ∈ lw_tbl := lw_at lw_m3 215 rfl
theorem q800 : (Jvm.Cond.instanceMethod ({ cls := "NetworkCenters$Reader", name := "expect", desc := "(C)V" } : Jvm.MethodName)) ∈ lw_all := lw_g (lw_at lw_m3 216 rfl) rfl
theorem q801 : (Jvm.Cond.code ({ cls := "NetworkCenters$Reader", name := "expect", desc := "(C)V" } : Jvm.MethodName) prog_14_method_6_code (2 : Nat) (Option.none : Option Jvm.ClassFile.FieldType)) ∈ lw_all := lw_g (lw_at lw_m3 217 rfl) rfl
theorem q802 : (Jvm.Cond.fieldLink "NetworkCenters$Reader" (72 : Nat) "NetworkCenters$Kind" "WEIGHTED" "LNetworkCenters$Kind;") ∈ lw_all := lw_g (lw_at lw_m3 218 rfl) rfl
theorem q804 : (Jvm.Cond.fieldLink "NetworkCenters$Reader" (75 : Nat) "NetworkCenters$Kind" "CHANGING" "LNetworkCenters$Kind;") ∈ lw_all := lw_g (lw_at lw_m3 220 rfl) rfl
theorem q806 : (Jvm.Cond.fieldLink "NetworkCenters$Reader" (78 : Nat) "NetworkCenters$Kind" "FORBIDDEN" "LNetworkCenters$Kind;") ∈ lw_all := lw_g (lw_at lw_m3 222 rfl) rfl
theorem q1247 : (Jvm.Cond.selects "NetworkCenters$Reader" ({ cls := "java/lang/Object", name := "getClass", desc := "()Ljava/lang/Class;" } : Jvm.MethodName) ({ cls := "java/lang/Object", name := "getClass", desc := "()Ljava/lang/Class;" } : Jvm.MethodName)) ∈ lw_all := lw_g (lw_at lw_m5 183 rfl) rfl
theorem q2561 : (Jvm.Cond.castable "NetworkCenters$Reader" "java/lang/Object") ∈ lw_tbl := lw_at lw_m11 57 rfl
theorem in_X10 : ∀ w ∈ wsX100, w ∈ lw_all := lw_in wsX100 [679, 681, 683, 685] (by decide +kernel) (by decide +kernel)
/-! NetworkCenters$Fault -/
set_option maxRecDepth 100000
def RX11 : String := "NetworkCenters$Fault"
def TX11 : u_T := fun k => match k with
  | 0 => ("java/lang/Throwable", "cause", "Ljava/lang/Throwable;", false)
  | 1 => ("java/lang/Throwable", "stackTrace", "[Ljava/lang/StackTraceElement;", false)
  | 2 => ("java/lang/Throwable", "suppressedExceptions", "Ljava/util/List;", false)
  | 3 => ("java/lang/Throwable", "detailMessage", "Ljava/lang/String;", false)
  | 4 => ("java/lang/Throwable", "backtrace", "Ljava/lang/Object;", false)
  | 5 => ("java/lang/Throwable", "depth", "I", false)
  | _ => ("NetworkCenters$Fault", "place", "I", true)
def tyX11 : Nat → FieldType := fun k => match k with
  | 0 => .object "java/lang/Throwable"
  | 1 => .array (.object "java/lang/StackTraceElement")
  | 2 => .object "java/util/List"
  | 3 => .object "java/lang/String"
  | 4 => .object "java/lang/Object"
  | 5 => .int
  | _ => .int
abbrev wsX110 : List Cond := u_ws RX11 TX11 7
theorem nmX11 : ∀ a, a < 7 → ∀ b, b < 7 → a ≠ b → (TX11 a).2.1 ≠ (TX11 b).2.1 := by decide +kernel
theorem tyX11_ok : ∀ k, k < 7 → parseFieldDescriptor (TX11 k).2.2.1 = some (tyX11 k) := by decide +kernel
abbrev cX11_init : ByteArray := prog_4_method_1_code
def yX11_init : MethodName := ⟨RX11, "<init>", "(I)V"⟩
def dkwX11_init_0 : List UInt8 := [42, 18, 1, 1, 3, 3, 183, 0, 3, 42, 27, 181, 0, 9, 177]
abbrev dktX11_init_0 : List UInt8 := dkwX11_init_0 ++ []
theorem dksX11_init_0 : cX11_init.data.toList.drop 0 = dktX11_init_0 := by decide +kernel
theorem dX11_init_0 : decode cX11_init 0 = .ok (.aload_n 0, 1) := dk_42 (dk_at dksX11_init_0 0 rfl rfl)
theorem dX11_init_1 : decode cX11_init 1 = .ok (.ldc 1, 2) := dk_18 1 (dk_at dksX11_init_0 1 rfl rfl)
theorem dX11_init_3 : decode cX11_init 3 = .ok (.aconst_null, 1) := dk_1 (dk_at dksX11_init_0 3 rfl rfl)
theorem dX11_init_4 : decode cX11_init 4 = .ok (.iconst 0, 1) := dk_3 (dk_at dksX11_init_0 4 rfl rfl)
theorem dX11_init_5 : decode cX11_init 5 = .ok (.iconst 0, 1) := dk_3 (dk_at dksX11_init_0 5 rfl rfl)
theorem dX11_init_6 : decode cX11_init 6 = .ok (.invokespecial 3, 3) := dk_183 0 3 (dk_at dksX11_init_0 6 rfl rfl)
theorem dX11_init_9 : decode cX11_init 9 = .ok (.aload_n 0, 1) := dk_42 (dk_at dksX11_init_0 9 rfl rfl)
theorem dX11_init_10 : decode cX11_init 10 = .ok (.iload_n 1, 1) := dk_27 (dk_at dksX11_init_0 10 rfl rfl)
theorem dX11_init_11 : decode cX11_init 11 = .ok (.putfield 9, 3) := dk_181 0 9 (dk_at dksX11_init_0 11 rfl rfl)
theorem dX11_init_14 : decode cX11_init 14 = .ok (.return_, 1) := dk_177 (dk_at dksX11_init_0 14 rfl rfl)
theorem q150 : (Jvm.Cond.initialized "NetworkCenters$Fault") ∈ lw_all := lw_g (lw_at lw_m1 46 rfl) rfl
theorem q544 : (Jvm.Cond.selects "NetworkCenters$Fault" ({ cls := "java/lang/Throwable", name := "fillInStackTrace", desc := "()Ljava/lang/Throwable;" } : Jvm.MethodName) ({ cls := "java/lang/Throwable", name := "fillInStackTrace", desc := "()Ljava/lang/Throwable;" } : Jvm.MethodName)) ∈ lw_all := lw_g (lw_at lw_m2 200 rfl) rfl
theorem q774 : (Jvm.Cond.instantiable "NetworkCenters$Fault" (7 : Nat)) ∈ lw_all := lw_g (lw_at lw_m3 190 rfl) rfl
theorem q775 : (Jvm.Cond.castable "NetworkCenters$Fault" "NetworkCenters$Fault") ∈ lw_tbl := lw_at lw_m3 191 rfl
theorem q776 : (Jvm.Cond.selects "NetworkCenters$Fault" ({ cls := "java/lang/Throwable", name := "fillInStackTrace", desc := "(I)Ljava/lang/Throwable;" } : Jvm.MethodName) ({ cls := "java/lang/Throwable", name := "fillInStackTrace", desc := "(I)Ljava/lang/Throwable;" } : Jvm.MethodName)) ∈ lw_all := lw_g (lw_at lw_m3 192 rfl) rfl
theorem q777 : (Jvm.Cond.lays "NetworkCenters$Fault" "java/lang/Throwable" "cause" "Ljava/lang/Throwable;") ∈ lw_all := lw_g (lw_at lw_m3 193 rfl) rfl
theorem q778 : (Jvm.Cond.lays "NetworkCenters$Fault" "java/lang/Throwable" "stackTrace" "[Ljava/lang/StackTraceElement;") ∈ lw_all := lw_g (lw_at lw_m3 194 rfl) rfl
theorem q779 : (Jvm.Cond.lays "NetworkCenters$Fault" "java/lang/Throwable" "suppressedExceptions" "Ljava/util/List;") ∈ lw_all := lw_g (lw_at lw_m3 195 rfl) rfl
theorem q780 : (Jvm.Cond.lays "NetworkCenters$Fault" "java/lang/Throwable" "detailMessage" "Ljava/lang/String;") ∈ lw_all := lw_g (lw_at lw_m3 196 rfl) rfl
theorem q781 : (Jvm.Cond.lays "NetworkCenters$Fault" "java/lang/Throwable" "backtrace" "Ljava/lang/Object;") ∈ lw_all := lw_g (lw_at lw_m3 197 rfl) rfl
theorem q783 : (Jvm.Cond.instanceMethod ({ cls := "NetworkCenters$Fault", name := "<init>", desc := "(I)V" } : Jvm.MethodName)) ∈ lw_all := lw_g (lw_at lw_m3 199 rfl) rfl
theorem q784 : (Jvm.Cond.code ({ cls := "NetworkCenters$Fault", name := "<init>", desc := "(I)V" } : Jvm.MethodName) prog_4_method_1_code (2 : Nat) (Option.none : Option Jvm.ClassFile.FieldType)) ∈ lw_all := lw_g (lw_at lw_m3 200 rfl) rfl
theorem q785 : (Jvm.Cond.stringRef "NetworkCenters$Fault" (1 : Nat) "fault") ∈ lw_tbl := lw_at lw_m3 201 rfl
theorem q786 : (Jvm.Cond.methodLink "NetworkCenters$Fault" (3 : Nat) ({ cls := "java/lang/Exception", name := "<init>", desc := "(Ljava/lang/String;Ljava/lang/Throwable;ZZ)V" } : Jvm.MethodName)) ∈ lw_all := lw_g (lw_at lw_m3 202 rfl) rfl
theorem q792 : (Jvm.Cond.fieldLink "NetworkCenters$Fault" (9 : Nat) "NetworkCenters$Fault" "place" "I") ∈ lw_all := lw_g (lw_at lw_m3 208 rfl) rfl
theorem q794 : (Jvm.Cond.laysFinal "NetworkCenters$Fault" "NetworkCenters$Fault" "place" "I") ∈ lw_all := lw_g (lw_at lw_m3 210 rfl) rfl
theorem q795 : (Jvm.Cond.soleField "NetworkCenters$Fault" "place") ∈ lw_all := lw_g (lw_at lw_m3 211 rfl) rfl
theorem q796 : (Jvm.Cond.lays "NetworkCenters$Fault" "java/lang/Throwable" "depth" "I") ∈ lw_all := lw_g (lw_at lw_m3 212 rfl) rfl
theorem q797 : (Jvm.Cond.superclass "NetworkCenters$Fault" "java/lang/Exception") ∈ lw_all := lw_g (lw_at lw_m3 213 rfl) rfl
theorem q1239 : (Jvm.Cond.selects "NetworkCenters$Fault" ({ cls := "java/lang/Object", name := "getClass", desc := "()Ljava/lang/Class;" } : Jvm.MethodName) ({ cls := "java/lang/Object", name := "getClass", desc := "()Ljava/lang/Class;" } : Jvm.MethodName)) ∈ lw_all := lw_g (lw_at lw_m5 175 rfl) rfl
theorem q1576 : (Jvm.Cond.selects "NetworkCenters$Fault" ({ cls := "java/lang/Throwable", name := "toString", desc := "()Ljava/lang/String;" } : Jvm.MethodName) ({ cls := "java/lang/Throwable", name := "toString", desc := "()Ljava/lang/String;" } : Jvm.MethodName)) ∈ lw_all := lw_g (lw_at lw_m7 32 rfl) rfl
theorem q1589 : (Jvm.Cond.selects "NetworkCenters$Fault" ({ cls := "java/lang/Throwable", name := "getLocalizedMessage", desc := "()Ljava/lang/String;" } : Jvm.MethodName) ({ cls := "java/lang/Throwable", name := "getLocalizedMessage", desc := "()Ljava/lang/String;" } : Jvm.MethodName)) ∈ lw_all := lw_g (lw_at lw_m7 45 rfl) rfl
theorem q1601 : (Jvm.Cond.selects "NetworkCenters$Fault" ({ cls := "java/lang/Throwable", name := "getMessage", desc := "()Ljava/lang/String;" } : Jvm.MethodName) ({ cls := "java/lang/Throwable", name := "getMessage", desc := "()Ljava/lang/String;" } : Jvm.MethodName)) ∈ lw_all := lw_g (lw_at lw_m7 57 rfl) rfl
theorem q2563 : (Jvm.Cond.castable "NetworkCenters$Fault" "java/lang/Object") ∈ lw_tbl := lw_at lw_m11 59 rfl
theorem in_X11 : ∀ w ∈ wsX110, w ∈ lw_all := lw_in wsX110 [777, 778, 779, 780, 781, 796, 794] (by decide +kernel) (by decide +kernel)
/-! NetworkCenters$Kind$4 -/
set_option maxRecDepth 100000
def RX12 : String := "NetworkCenters$Kind$4"
abbrev cX12_done : ByteArray := prog_9_method_2_code
def yX12_done : MethodName := ⟨RX12, "done", "(LNetworkCenters$Network;[I)LNetworkCenters$Network;"⟩
def dkwX12_done_2 : List UInt8 := [187, 0, 23, 89, 44, 3, 46, 44, 4, 46, 44, 5, 46, 183, 0, 25, 182, 0, 28, 167, 0, 4, 1, 176]
abbrev dktX12_done_2 : List UInt8 := dkwX12_done_2 ++ []
def dkwX12_done_1 : List UInt8 := [153, 0, 17, 43, 180, 0, 19, 190, 16, 6, 162, 0, 7, 4, 167, 0, 4, 3, 62, 29, 153, 0, 26, 43]
abbrev dktX12_done_1 : List UInt8 := dkwX12_done_1 ++ dktX12_done_2
def dkwX12_done_0 : List UInt8 := [44, 3, 46, 43, 180, 0, 9, 190, 162, 0, 33, 43, 44, 3, 46, 44, 4, 46, 44, 5, 46, 182, 0, 15]
abbrev dktX12_done_0 : List UInt8 := dkwX12_done_0 ++ dktX12_done_1
theorem dksX12_done_0 : cX12_done.data.toList.drop 0 = dktX12_done_0 := by decide +kernel
theorem dksX12_done_1 : cX12_done.data.toList.drop 24 = dktX12_done_1 := dk_seg dksX12_done_0 24 rfl rfl
theorem dksX12_done_2 : cX12_done.data.toList.drop 48 = dktX12_done_2 := dk_seg dksX12_done_1 24 rfl rfl
theorem dX12_done_0 : decode cX12_done 0 = .ok (.aload_n 2, 1) := dk_44 (dk_at dksX12_done_0 0 rfl rfl)
theorem dX12_done_1 : decode cX12_done 1 = .ok (.iconst 0, 1) := dk_3 (dk_at dksX12_done_0 1 rfl rfl)
theorem dX12_done_2 : decode cX12_done 2 = .ok (.iaload, 1) := dk_46 (dk_at dksX12_done_0 2 rfl rfl)
theorem dX12_done_3 : decode cX12_done 3 = .ok (.aload_n 1, 1) := dk_43 (dk_at dksX12_done_0 3 rfl rfl)
theorem dX12_done_4 : decode cX12_done 4 = .ok (.getfield 9, 3) := dk_180 0 9 (dk_at dksX12_done_0 4 rfl rfl)
theorem dX12_done_7 : decode cX12_done 7 = .ok (.arraylength, 1) := dk_190 (dk_at dksX12_done_0 7 rfl rfl)
theorem dX12_done_8 : decode cX12_done 8 = .ok (.if_icmp .ge 33, 3) := dk_162 0 33 (dk_at dksX12_done_0 8 rfl rfl)
theorem dX12_done_11 : decode cX12_done 11 = .ok (.aload_n 1, 1) := dk_43 (dk_at dksX12_done_0 11 rfl rfl)
theorem dX12_done_12 : decode cX12_done 12 = .ok (.aload_n 2, 1) := dk_44 (dk_at dksX12_done_0 12 rfl rfl)
theorem dX12_done_13 : decode cX12_done 13 = .ok (.iconst 0, 1) := dk_3 (dk_at dksX12_done_0 13 rfl rfl)
theorem dX12_done_14 : decode cX12_done 14 = .ok (.iaload, 1) := dk_46 (dk_at dksX12_done_0 14 rfl rfl)
theorem dX12_done_15 : decode cX12_done 15 = .ok (.aload_n 2, 1) := dk_44 (dk_at dksX12_done_0 15 rfl rfl)
theorem dX12_done_16 : decode cX12_done 16 = .ok (.iconst 1, 1) := dk_4 (dk_at dksX12_done_0 16 rfl rfl)
theorem dX12_done_17 : decode cX12_done 17 = .ok (.iaload, 1) := dk_46 (dk_at dksX12_done_0 17 rfl rfl)
theorem dX12_done_18 : decode cX12_done 18 = .ok (.aload_n 2, 1) := dk_44 (dk_at dksX12_done_0 18 rfl rfl)
theorem dX12_done_19 : decode cX12_done 19 = .ok (.iconst 2, 1) := dk_5 (dk_at dksX12_done_0 19 rfl rfl)
theorem dX12_done_20 : decode cX12_done 20 = .ok (.iaload, 1) := dk_46 (dk_at dksX12_done_0 20 rfl rfl)
theorem dX12_done_21 : decode cX12_done 21 = .ok (.invokevirtual 15, 3) := dk_182 0 15 (dk_at dksX12_done_0 21 rfl rfl)
theorem dX12_done_24 : decode cX12_done 24 = .ok (.ifCond .eq 17, 3) := dk_153 0 17 (dk_at dksX12_done_1 0 rfl rfl)
theorem dX12_done_27 : decode cX12_done 27 = .ok (.aload_n 1, 1) := dk_43 (dk_at dksX12_done_1 3 rfl rfl)
theorem dX12_done_28 : decode cX12_done 28 = .ok (.getfield 19, 3) := dk_180 0 19 (dk_at dksX12_done_1 4 rfl rfl)
theorem dX12_done_31 : decode cX12_done 31 = .ok (.arraylength, 1) := dk_190 (dk_at dksX12_done_1 7 rfl rfl)
theorem dX12_done_32 : decode cX12_done 32 = .ok (.bipush 6, 2) := dk_16 6 (dk_at dksX12_done_1 8 rfl rfl)
theorem dX12_done_34 : decode cX12_done 34 = .ok (.if_icmp .ge 7, 3) := dk_162 0 7 (dk_at dksX12_done_1 10 rfl rfl)
theorem dX12_done_37 : decode cX12_done 37 = .ok (.iconst 1, 1) := dk_4 (dk_at dksX12_done_1 13 rfl rfl)
theorem dX12_done_38 : decode cX12_done 38 = .ok (.goto 4, 3) := dk_167 0 4 (dk_at dksX12_done_1 14 rfl rfl)
theorem dX12_done_41 : decode cX12_done 41 = .ok (.iconst 0, 1) := dk_3 (dk_at dksX12_done_1 17 rfl rfl)
theorem dX12_done_42 : decode cX12_done 42 = .ok (.istore_n 3, 1) := dk_62 (dk_at dksX12_done_1 18 rfl rfl)
theorem dX12_done_43 : decode cX12_done 43 = .ok (.iload_n 3, 1) := dk_29 (dk_at dksX12_done_1 19 rfl rfl)
theorem dX12_done_44 : decode cX12_done 44 = .ok (.ifCond .eq 26, 3) := dk_153 0 26 (dk_at dksX12_done_1 20 rfl rfl)
theorem dX12_done_47 : decode cX12_done 47 = .ok (.aload_n 1, 1) := dk_43 (dk_at dksX12_done_1 23 rfl rfl)
theorem dX12_done_48 : decode cX12_done 48 = .ok (.new 23, 3) := dk_187 0 23 (dk_at dksX12_done_2 0 rfl rfl)
theorem dX12_done_51 : decode cX12_done 51 = .ok (.dup, 1) := dk_89 (dk_at dksX12_done_2 3 rfl rfl)
theorem dX12_done_52 : decode cX12_done 52 = .ok (.aload_n 2, 1) := dk_44 (dk_at dksX12_done_2 4 rfl rfl)
theorem dX12_done_53 : decode cX12_done 53 = .ok (.iconst 0, 1) := dk_3 (dk_at dksX12_done_2 5 rfl rfl)
theorem dX12_done_54 : decode cX12_done 54 = .ok (.iaload, 1) := dk_46 (dk_at dksX12_done_2 6 rfl rfl)
theorem dX12_done_55 : decode cX12_done 55 = .ok (.aload_n 2, 1) := dk_44 (dk_at dksX12_done_2 7 rfl rfl)
theorem dX12_done_56 : decode cX12_done 56 = .ok (.iconst 1, 1) := dk_4 (dk_at dksX12_done_2 8 rfl rfl)
theorem dX12_done_57 : decode cX12_done 57 = .ok (.iaload, 1) := dk_46 (dk_at dksX12_done_2 9 rfl rfl)
theorem dX12_done_58 : decode cX12_done 58 = .ok (.aload_n 2, 1) := dk_44 (dk_at dksX12_done_2 10 rfl rfl)
theorem dX12_done_59 : decode cX12_done 59 = .ok (.iconst 2, 1) := dk_5 (dk_at dksX12_done_2 11 rfl rfl)
theorem dX12_done_60 : decode cX12_done 60 = .ok (.iaload, 1) := dk_46 (dk_at dksX12_done_2 12 rfl rfl)
theorem dX12_done_61 : decode cX12_done 61 = .ok (.invokespecial 25, 3) := dk_183 0 25 (dk_at dksX12_done_2 13 rfl rfl)
theorem dX12_done_64 : decode cX12_done 64 = .ok (.invokevirtual 28, 3) := dk_182 0 28 (dk_at dksX12_done_2 16 rfl rfl)
theorem dX12_done_67 : decode cX12_done 67 = .ok (.goto 4, 3) := dk_167 0 4 (dk_at dksX12_done_2 19 rfl rfl)
theorem dX12_done_70 : decode cX12_done 70 = .ok (.aconst_null, 1) := dk_1 (dk_at dksX12_done_2 22 rfl rfl)
theorem dX12_done_71 : decode cX12_done 71 = .ok (.areturn, 1) := dk_176 (dk_at dksX12_done_2 23 rfl rfl)
theorem q178 : (Jvm.Cond.fieldLinkNest "NetworkCenters$Kind$4" (9 : Nat) "NetworkCenters$Network" "edges" "[LNetworkCenters$Edge;" "NetworkCenters") ∈ lw_tbl := lw_at lw_m1 74 rfl
theorem q182 : (Jvm.Cond.fieldLinkNest "NetworkCenters$Kind$4" (19 : Nat) "NetworkCenters$Network" "stretches" "[LNetworkCenters$Stretch;" "NetworkCenters") ∈ lw_tbl := lw_at lw_m1 78 rfl
theorem q1243 : (Jvm.Cond.selects "NetworkCenters$Kind$4" ({ cls := "java/lang/Object", name := "getClass", desc := "()Ljava/lang/Class;" } : Jvm.MethodName) ({ cls := "java/lang/Object", name := "getClass", desc := "()Ljava/lang/Class;" } : Jvm.MethodName)) ∈ lw_all := lw_g (lw_at lw_m5 179 rfl) rfl
theorem q1992 : (Jvm.Cond.selects "NetworkCenters$Kind$4" ({ cls := "NetworkCenters$Kind", name := "done", desc := "(LNetworkCenters$Network;[I)LNetworkCenters$Network;" } : Jvm.MethodName) ({ cls := "NetworkCenters$Kind$4", name := "done", desc := "(LNetworkCenters$Network;[I)LNetworkCenters$Network;" } : Jvm.MethodName)) ∈ lw_all := lw_g (lw_at lw_m8 208 rfl) rfl
theorem q1993 : (Jvm.Cond.instanceMethod ({ cls := "NetworkCenters$Kind$4", name := "done", desc := "(LNetworkCenters$Network;[I)LNetworkCenters$Network;" } : Jvm.MethodName)) ∈ lw_all := lw_g (lw_at lw_m8 209 rfl) rfl
theorem q1994 : (Jvm.Cond.code ({ cls := "NetworkCenters$Kind$4", name := "done", desc := "(LNetworkCenters$Network;[I)LNetworkCenters$Network;" } : Jvm.MethodName) prog_9_method_2_code (4 : Nat) (Option.some (Jvm.ClassFile.FieldType.object "NetworkCenters$Network"))) ∈ lw_all := lw_g (lw_at lw_m8 210 rfl) rfl
theorem q1995 : (Jvm.Cond.methodLink "NetworkCenters$Kind$4" (15 : Nat) ({ cls := "NetworkCenters$Network", name := "mayForbid", desc := "(III)Z" } : Jvm.MethodName)) ∈ lw_all := lw_g (lw_at lw_m8 211 rfl) rfl
theorem q1996 : (Jvm.Cond.classLink "NetworkCenters$Kind$4" (23 : Nat) "NetworkCenters$Stretch") ∈ lw_all := lw_g (lw_at lw_m8 212 rfl) rfl
theorem q1997 : (Jvm.Cond.methodLink "NetworkCenters$Kind$4" (25 : Nat) ({ cls := "NetworkCenters$Stretch", name := "<init>", desc := "(III)V" } : Jvm.MethodName)) ∈ lw_all := lw_g (lw_at lw_m8 213 rfl) rfl
theorem q1998 : (Jvm.Cond.methodLink "NetworkCenters$Kind$4" (28 : Nat) ({ cls := "NetworkCenters$Network", name := "withStretch", desc := "(LNetworkCenters$Stretch;)LNetworkCenters$Network;" } : Jvm.MethodName)) ∈ lw_all := lw_g (lw_at lw_m8 214 rfl) rfl
theorem q2566 : (Jvm.Cond.castable "NetworkCenters$Kind$4" "java/lang/Object") ∈ lw_tbl := lw_at lw_m11 62 rfl
/-! NetworkCenters$Kind$1 -/
set_option maxRecDepth 100000
def RX13 : String := "NetworkCenters$Kind$1"
abbrev cX13_done : ByteArray := prog_6_method_2_code
def yX13_done : MethodName := ⟨RX13, "done", "(LNetworkCenters$Network;[I)LNetworkCenters$Network;"⟩
def dkwX13_done_3 : List UInt8 := [44, 5, 46, 183, 0, 23, 182, 0, 26, 167, 0, 4, 1, 176]
abbrev dktX13_done_3 : List UInt8 := dkwX13_done_3 ++ []
def dkwX13_done_2 : List UInt8 := [153, 0, 7, 4, 167, 0, 4, 3, 62, 29, 153, 0, 26, 43, 187, 0, 21, 89, 44, 3, 46, 44, 4, 46]
abbrev dktX13_done_2 : List UInt8 := dkwX13_done_2 ++ dktX13_done_3
def dkwX13_done_1 : List UInt8 := [44, 4, 46, 44, 5, 46, 182, 0, 13, 153, 0, 20, 43, 44, 3, 46, 44, 4, 46, 182, 0, 17]
abbrev dktX13_done_1 : List UInt8 := dkwX13_done_1 ++ dktX13_done_2
def dkwX13_done_0 : List UInt8 := [43, 44, 3, 46, 182, 0, 7, 153, 0, 46, 43, 44, 4, 46, 182, 0, 7, 153, 0, 36, 43, 44, 3, 46]
abbrev dktX13_done_0 : List UInt8 := dkwX13_done_0 ++ dktX13_done_1
theorem dksX13_done_0 : cX13_done.data.toList.drop 0 = dktX13_done_0 := by decide +kernel
theorem dksX13_done_1 : cX13_done.data.toList.drop 24 = dktX13_done_1 := dk_seg dksX13_done_0 24 rfl rfl
theorem dksX13_done_2 : cX13_done.data.toList.drop 46 = dktX13_done_2 := dk_seg dksX13_done_1 22 rfl rfl
theorem dksX13_done_3 : cX13_done.data.toList.drop 70 = dktX13_done_3 := dk_seg dksX13_done_2 24 rfl rfl
theorem dX13_done_0 : decode cX13_done 0 = .ok (.aload_n 1, 1) := dk_43 (dk_at dksX13_done_0 0 rfl rfl)
theorem dX13_done_1 : decode cX13_done 1 = .ok (.aload_n 2, 1) := dk_44 (dk_at dksX13_done_0 1 rfl rfl)
theorem dX13_done_2 : decode cX13_done 2 = .ok (.iconst 0, 1) := dk_3 (dk_at dksX13_done_0 2 rfl rfl)
theorem dX13_done_3 : decode cX13_done 3 = .ok (.iaload, 1) := dk_46 (dk_at dksX13_done_0 3 rfl rfl)
theorem dX13_done_4 : decode cX13_done 4 = .ok (.invokevirtual 7, 3) := dk_182 0 7 (dk_at dksX13_done_0 4 rfl rfl)
theorem dX13_done_7 : decode cX13_done 7 = .ok (.ifCond .eq 46, 3) := dk_153 0 46 (dk_at dksX13_done_0 7 rfl rfl)
theorem dX13_done_10 : decode cX13_done 10 = .ok (.aload_n 1, 1) := dk_43 (dk_at dksX13_done_0 10 rfl rfl)
theorem dX13_done_11 : decode cX13_done 11 = .ok (.aload_n 2, 1) := dk_44 (dk_at dksX13_done_0 11 rfl rfl)
theorem dX13_done_12 : decode cX13_done 12 = .ok (.iconst 1, 1) := dk_4 (dk_at dksX13_done_0 12 rfl rfl)
theorem dX13_done_13 : decode cX13_done 13 = .ok (.iaload, 1) := dk_46 (dk_at dksX13_done_0 13 rfl rfl)
theorem dX13_done_14 : decode cX13_done 14 = .ok (.invokevirtual 7, 3) := dk_182 0 7 (dk_at dksX13_done_0 14 rfl rfl)
theorem dX13_done_17 : decode cX13_done 17 = .ok (.ifCond .eq 36, 3) := dk_153 0 36 (dk_at dksX13_done_0 17 rfl rfl)
theorem dX13_done_20 : decode cX13_done 20 = .ok (.aload_n 1, 1) := dk_43 (dk_at dksX13_done_0 20 rfl rfl)
theorem dX13_done_21 : decode cX13_done 21 = .ok (.aload_n 2, 1) := dk_44 (dk_at dksX13_done_0 21 rfl rfl)
theorem dX13_done_22 : decode cX13_done 22 = .ok (.iconst 0, 1) := dk_3 (dk_at dksX13_done_0 22 rfl rfl)
theorem dX13_done_23 : decode cX13_done 23 = .ok (.iaload, 1) := dk_46 (dk_at dksX13_done_0 23 rfl rfl)
theorem dX13_done_24 : decode cX13_done 24 = .ok (.aload_n 2, 1) := dk_44 (dk_at dksX13_done_1 0 rfl rfl)
theorem dX13_done_25 : decode cX13_done 25 = .ok (.iconst 1, 1) := dk_4 (dk_at dksX13_done_1 1 rfl rfl)
theorem dX13_done_26 : decode cX13_done 26 = .ok (.iaload, 1) := dk_46 (dk_at dksX13_done_1 2 rfl rfl)
theorem dX13_done_27 : decode cX13_done 27 = .ok (.aload_n 2, 1) := dk_44 (dk_at dksX13_done_1 3 rfl rfl)
theorem dX13_done_28 : decode cX13_done 28 = .ok (.iconst 2, 1) := dk_5 (dk_at dksX13_done_1 4 rfl rfl)
theorem dX13_done_29 : decode cX13_done 29 = .ok (.iaload, 1) := dk_46 (dk_at dksX13_done_1 5 rfl rfl)
theorem dX13_done_30 : decode cX13_done 30 = .ok (.invokevirtual 13, 3) := dk_182 0 13 (dk_at dksX13_done_1 6 rfl rfl)
theorem dX13_done_33 : decode cX13_done 33 = .ok (.ifCond .eq 20, 3) := dk_153 0 20 (dk_at dksX13_done_1 9 rfl rfl)
theorem dX13_done_36 : decode cX13_done 36 = .ok (.aload_n 1, 1) := dk_43 (dk_at dksX13_done_1 12 rfl rfl)
theorem dX13_done_37 : decode cX13_done 37 = .ok (.aload_n 2, 1) := dk_44 (dk_at dksX13_done_1 13 rfl rfl)
theorem dX13_done_38 : decode cX13_done 38 = .ok (.iconst 0, 1) := dk_3 (dk_at dksX13_done_1 14 rfl rfl)
theorem dX13_done_39 : decode cX13_done 39 = .ok (.iaload, 1) := dk_46 (dk_at dksX13_done_1 15 rfl rfl)
theorem dX13_done_40 : decode cX13_done 40 = .ok (.aload_n 2, 1) := dk_44 (dk_at dksX13_done_1 16 rfl rfl)
theorem dX13_done_41 : decode cX13_done 41 = .ok (.iconst 1, 1) := dk_4 (dk_at dksX13_done_1 17 rfl rfl)
theorem dX13_done_42 : decode cX13_done 42 = .ok (.iaload, 1) := dk_46 (dk_at dksX13_done_1 18 rfl rfl)
theorem dX13_done_43 : decode cX13_done 43 = .ok (.invokevirtual 17, 3) := dk_182 0 17 (dk_at dksX13_done_1 19 rfl rfl)
theorem dX13_done_46 : decode cX13_done 46 = .ok (.ifCond .eq 7, 3) := dk_153 0 7 (dk_at dksX13_done_2 0 rfl rfl)
theorem dX13_done_49 : decode cX13_done 49 = .ok (.iconst 1, 1) := dk_4 (dk_at dksX13_done_2 3 rfl rfl)
theorem dX13_done_50 : decode cX13_done 50 = .ok (.goto 4, 3) := dk_167 0 4 (dk_at dksX13_done_2 4 rfl rfl)
theorem dX13_done_53 : decode cX13_done 53 = .ok (.iconst 0, 1) := dk_3 (dk_at dksX13_done_2 7 rfl rfl)
theorem dX13_done_54 : decode cX13_done 54 = .ok (.istore_n 3, 1) := dk_62 (dk_at dksX13_done_2 8 rfl rfl)
theorem dX13_done_55 : decode cX13_done 55 = .ok (.iload_n 3, 1) := dk_29 (dk_at dksX13_done_2 9 rfl rfl)
theorem dX13_done_56 : decode cX13_done 56 = .ok (.ifCond .eq 26, 3) := dk_153 0 26 (dk_at dksX13_done_2 10 rfl rfl)
theorem dX13_done_59 : decode cX13_done 59 = .ok (.aload_n 1, 1) := dk_43 (dk_at dksX13_done_2 13 rfl rfl)
theorem dX13_done_60 : decode cX13_done 60 = .ok (.new 21, 3) := dk_187 0 21 (dk_at dksX13_done_2 14 rfl rfl)
theorem dX13_done_63 : decode cX13_done 63 = .ok (.dup, 1) := dk_89 (dk_at dksX13_done_2 17 rfl rfl)
theorem dX13_done_64 : decode cX13_done 64 = .ok (.aload_n 2, 1) := dk_44 (dk_at dksX13_done_2 18 rfl rfl)
theorem dX13_done_65 : decode cX13_done 65 = .ok (.iconst 0, 1) := dk_3 (dk_at dksX13_done_2 19 rfl rfl)
theorem dX13_done_66 : decode cX13_done 66 = .ok (.iaload, 1) := dk_46 (dk_at dksX13_done_2 20 rfl rfl)
theorem dX13_done_67 : decode cX13_done 67 = .ok (.aload_n 2, 1) := dk_44 (dk_at dksX13_done_2 21 rfl rfl)
theorem dX13_done_68 : decode cX13_done 68 = .ok (.iconst 1, 1) := dk_4 (dk_at dksX13_done_2 22 rfl rfl)
theorem dX13_done_69 : decode cX13_done 69 = .ok (.iaload, 1) := dk_46 (dk_at dksX13_done_2 23 rfl rfl)
theorem dX13_done_70 : decode cX13_done 70 = .ok (.aload_n 2, 1) := dk_44 (dk_at dksX13_done_3 0 rfl rfl)
theorem dX13_done_71 : decode cX13_done 71 = .ok (.iconst 2, 1) := dk_5 (dk_at dksX13_done_3 1 rfl rfl)
theorem dX13_done_72 : decode cX13_done 72 = .ok (.iaload, 1) := dk_46 (dk_at dksX13_done_3 2 rfl rfl)
theorem dX13_done_73 : decode cX13_done 73 = .ok (.invokespecial 23, 3) := dk_183 0 23 (dk_at dksX13_done_3 3 rfl rfl)
theorem dX13_done_76 : decode cX13_done 76 = .ok (.invokevirtual 26, 3) := dk_182 0 26 (dk_at dksX13_done_3 6 rfl rfl)
theorem dX13_done_79 : decode cX13_done 79 = .ok (.goto 4, 3) := dk_167 0 4 (dk_at dksX13_done_3 9 rfl rfl)
theorem dX13_done_82 : decode cX13_done 82 = .ok (.aconst_null, 1) := dk_1 (dk_at dksX13_done_3 12 rfl rfl)
theorem dX13_done_83 : decode cX13_done 83 = .ok (.areturn, 1) := dk_176 (dk_at dksX13_done_3 13 rfl rfl)
theorem q1240 : (Jvm.Cond.selects "NetworkCenters$Kind$1" ({ cls := "java/lang/Object", name := "getClass", desc := "()Ljava/lang/Class;" } : Jvm.MethodName) ({ cls := "java/lang/Object", name := "getClass", desc := "()Ljava/lang/Class;" } : Jvm.MethodName)) ∈ lw_all := lw_g (lw_at lw_m5 176 rfl) rfl
theorem q1973 : (Jvm.Cond.selects "NetworkCenters$Kind$1" ({ cls := "NetworkCenters$Kind", name := "done", desc := "(LNetworkCenters$Network;[I)LNetworkCenters$Network;" } : Jvm.MethodName) ({ cls := "NetworkCenters$Kind$1", name := "done", desc := "(LNetworkCenters$Network;[I)LNetworkCenters$Network;" } : Jvm.MethodName)) ∈ lw_all := lw_g (lw_at lw_m8 189 rfl) rfl
theorem q1974 : (Jvm.Cond.instanceMethod ({ cls := "NetworkCenters$Kind$1", name := "done", desc := "(LNetworkCenters$Network;[I)LNetworkCenters$Network;" } : Jvm.MethodName)) ∈ lw_all := lw_g (lw_at lw_m8 190 rfl) rfl
theorem q1975 : (Jvm.Cond.code ({ cls := "NetworkCenters$Kind$1", name := "done", desc := "(LNetworkCenters$Network;[I)LNetworkCenters$Network;" } : Jvm.MethodName) prog_6_method_2_code (4 : Nat) (Option.some (Jvm.ClassFile.FieldType.object "NetworkCenters$Network"))) ∈ lw_all := lw_g (lw_at lw_m8 191 rfl) rfl
theorem q1976 : (Jvm.Cond.methodLink "NetworkCenters$Kind$1" (7 : Nat) ({ cls := "NetworkCenters$Network", name := "isNode", desc := "(I)Z" } : Jvm.MethodName)) ∈ lw_all := lw_g (lw_at lw_m8 192 rfl) rfl
theorem q1977 : (Jvm.Cond.methodLink "NetworkCenters$Kind$1" (13 : Nat) ({ cls := "NetworkCenters$Network", name := "mayConnect", desc := "(III)Z" } : Jvm.MethodName)) ∈ lw_all := lw_g (lw_at lw_m8 193 rfl) rfl
theorem q1978 : (Jvm.Cond.methodLink "NetworkCenters$Kind$1" (17 : Nat) ({ cls := "NetworkCenters$Network", name := "hasRoomFor", desc := "(II)Z" } : Jvm.MethodName)) ∈ lw_all := lw_g (lw_at lw_m8 194 rfl) rfl
theorem q1979 : (Jvm.Cond.classLink "NetworkCenters$Kind$1" (21 : Nat) "NetworkCenters$Edge") ∈ lw_all := lw_g (lw_at lw_m8 195 rfl) rfl
theorem q1980 : (Jvm.Cond.methodLink "NetworkCenters$Kind$1" (23 : Nat) ({ cls := "NetworkCenters$Edge", name := "<init>", desc := "(III)V" } : Jvm.MethodName)) ∈ lw_all := lw_g (lw_at lw_m8 196 rfl) rfl
theorem q1981 : (Jvm.Cond.methodLink "NetworkCenters$Kind$1" (26 : Nat) ({ cls := "NetworkCenters$Network", name := "withEdge", desc := "(LNetworkCenters$Edge;)LNetworkCenters$Network;" } : Jvm.MethodName)) ∈ lw_all := lw_g (lw_at lw_m8 197 rfl) rfl
theorem q2562 : (Jvm.Cond.castable "NetworkCenters$Kind$1" "java/lang/Object") ∈ lw_tbl := lw_at lw_m11 58 rfl
/-! NetworkCenters$Kind$2 -/
set_option maxRecDepth 100000
def RX14 : String := "NetworkCenters$Kind$2"
abbrev cX14_done : ByteArray := prog_7_method_2_code
def yX14_done : MethodName := ⟨RX14, "done", "(LNetworkCenters$Network;[I)LNetworkCenters$Network;"⟩
def dkwX14_done_1 : List UInt8 := [46, 182, 0, 15, 167, 0, 4, 1, 176]
abbrev dktX14_done_1 : List UInt8 := dkwX14_done_1 ++ []
def dkwX14_done_0 : List UInt8 := [43, 44, 3, 46, 182, 0, 9, 153, 0, 24, 44, 4, 46, 16, 9, 163, 0, 16, 43, 44, 3, 46, 44, 4]
abbrev dktX14_done_0 : List UInt8 := dkwX14_done_0 ++ dktX14_done_1
theorem dksX14_done_0 : cX14_done.data.toList.drop 0 = dktX14_done_0 := by decide +kernel
theorem dksX14_done_1 : cX14_done.data.toList.drop 24 = dktX14_done_1 := dk_seg dksX14_done_0 24 rfl rfl
theorem dX14_done_0 : decode cX14_done 0 = .ok (.aload_n 1, 1) := dk_43 (dk_at dksX14_done_0 0 rfl rfl)
theorem dX14_done_1 : decode cX14_done 1 = .ok (.aload_n 2, 1) := dk_44 (dk_at dksX14_done_0 1 rfl rfl)
theorem dX14_done_2 : decode cX14_done 2 = .ok (.iconst 0, 1) := dk_3 (dk_at dksX14_done_0 2 rfl rfl)
theorem dX14_done_3 : decode cX14_done 3 = .ok (.iaload, 1) := dk_46 (dk_at dksX14_done_0 3 rfl rfl)
theorem dX14_done_4 : decode cX14_done 4 = .ok (.invokevirtual 9, 3) := dk_182 0 9 (dk_at dksX14_done_0 4 rfl rfl)
theorem dX14_done_7 : decode cX14_done 7 = .ok (.ifCond .eq 24, 3) := dk_153 0 24 (dk_at dksX14_done_0 7 rfl rfl)
theorem dX14_done_10 : decode cX14_done 10 = .ok (.aload_n 2, 1) := dk_44 (dk_at dksX14_done_0 10 rfl rfl)
theorem dX14_done_11 : decode cX14_done 11 = .ok (.iconst 1, 1) := dk_4 (dk_at dksX14_done_0 11 rfl rfl)
theorem dX14_done_12 : decode cX14_done 12 = .ok (.iaload, 1) := dk_46 (dk_at dksX14_done_0 12 rfl rfl)
theorem dX14_done_13 : decode cX14_done 13 = .ok (.bipush 9, 2) := dk_16 9 (dk_at dksX14_done_0 13 rfl rfl)
theorem dX14_done_15 : decode cX14_done 15 = .ok (.if_icmp .gt 16, 3) := dk_163 0 16 (dk_at dksX14_done_0 15 rfl rfl)
theorem dX14_done_18 : decode cX14_done 18 = .ok (.aload_n 1, 1) := dk_43 (dk_at dksX14_done_0 18 rfl rfl)
theorem dX14_done_19 : decode cX14_done 19 = .ok (.aload_n 2, 1) := dk_44 (dk_at dksX14_done_0 19 rfl rfl)
theorem dX14_done_20 : decode cX14_done 20 = .ok (.iconst 0, 1) := dk_3 (dk_at dksX14_done_0 20 rfl rfl)
theorem dX14_done_21 : decode cX14_done 21 = .ok (.iaload, 1) := dk_46 (dk_at dksX14_done_0 21 rfl rfl)
theorem dX14_done_22 : decode cX14_done 22 = .ok (.aload_n 2, 1) := dk_44 (dk_at dksX14_done_0 22 rfl rfl)
theorem dX14_done_23 : decode cX14_done 23 = .ok (.iconst 1, 1) := dk_4 (dk_at dksX14_done_0 23 rfl rfl)
theorem dX14_done_24 : decode cX14_done 24 = .ok (.iaload, 1) := dk_46 (dk_at dksX14_done_1 0 rfl rfl)
theorem dX14_done_25 : decode cX14_done 25 = .ok (.invokevirtual 15, 3) := dk_182 0 15 (dk_at dksX14_done_1 1 rfl rfl)
theorem dX14_done_28 : decode cX14_done 28 = .ok (.goto 4, 3) := dk_167 0 4 (dk_at dksX14_done_1 4 rfl rfl)
theorem dX14_done_31 : decode cX14_done 31 = .ok (.aconst_null, 1) := dk_1 (dk_at dksX14_done_1 7 rfl rfl)
theorem dX14_done_32 : decode cX14_done 32 = .ok (.areturn, 1) := dk_176 (dk_at dksX14_done_1 8 rfl rfl)
theorem q1241 : (Jvm.Cond.selects "NetworkCenters$Kind$2" ({ cls := "java/lang/Object", name := "getClass", desc := "()Ljava/lang/Class;" } : Jvm.MethodName) ({ cls := "java/lang/Object", name := "getClass", desc := "()Ljava/lang/Class;" } : Jvm.MethodName)) ∈ lw_all := lw_g (lw_at lw_m5 177 rfl) rfl
theorem q1982 : (Jvm.Cond.selects "NetworkCenters$Kind$2" ({ cls := "NetworkCenters$Kind", name := "done", desc := "(LNetworkCenters$Network;[I)LNetworkCenters$Network;" } : Jvm.MethodName) ({ cls := "NetworkCenters$Kind$2", name := "done", desc := "(LNetworkCenters$Network;[I)LNetworkCenters$Network;" } : Jvm.MethodName)) ∈ lw_all := lw_g (lw_at lw_m8 198 rfl) rfl
theorem q1983 : (Jvm.Cond.instanceMethod ({ cls := "NetworkCenters$Kind$2", name := "done", desc := "(LNetworkCenters$Network;[I)LNetworkCenters$Network;" } : Jvm.MethodName)) ∈ lw_all := lw_g (lw_at lw_m8 199 rfl) rfl
theorem q1984 : (Jvm.Cond.code ({ cls := "NetworkCenters$Kind$2", name := "done", desc := "(LNetworkCenters$Network;[I)LNetworkCenters$Network;" } : Jvm.MethodName) prog_7_method_2_code (3 : Nat) (Option.some (Jvm.ClassFile.FieldType.object "NetworkCenters$Network"))) ∈ lw_all := lw_g (lw_at lw_m8 200 rfl) rfl
theorem q1985 : (Jvm.Cond.methodLink "NetworkCenters$Kind$2" (9 : Nat) ({ cls := "NetworkCenters$Network", name := "isNode", desc := "(I)Z" } : Jvm.MethodName)) ∈ lw_all := lw_g (lw_at lw_m8 201 rfl) rfl
theorem q1986 : (Jvm.Cond.methodLink "NetworkCenters$Kind$2" (15 : Nat) ({ cls := "NetworkCenters$Network", name := "withWeight", desc := "(II)LNetworkCenters$Network;" } : Jvm.MethodName)) ∈ lw_all := lw_g (lw_at lw_m8 202 rfl) rfl
theorem q2564 : (Jvm.Cond.castable "NetworkCenters$Kind$2" "java/lang/Object") ∈ lw_tbl := lw_at lw_m11 60 rfl
/-! NetworkCenters$Kind$3 -/
set_option maxRecDepth 100000
def RX15 : String := "NetworkCenters$Kind$3"
abbrev cX15_done : ByteArray := prog_8_method_2_code
def yX15_done : MethodName := ⟨RX15, "done", "(LNetworkCenters$Network;[I)LNetworkCenters$Network;"⟩
def dkwX15_done_1 : List UInt8 := [46, 182, 0, 15, 167, 0, 4, 1, 176]
abbrev dktX15_done_1 : List UInt8 := dkwX15_done_1 ++ []
def dkwX15_done_0 : List UInt8 := [43, 44, 3, 46, 182, 0, 9, 153, 0, 24, 44, 4, 46, 16, 9, 163, 0, 16, 43, 44, 3, 46, 44, 4]
abbrev dktX15_done_0 : List UInt8 := dkwX15_done_0 ++ dktX15_done_1
theorem dksX15_done_0 : cX15_done.data.toList.drop 0 = dktX15_done_0 := by decide +kernel
theorem dksX15_done_1 : cX15_done.data.toList.drop 24 = dktX15_done_1 := dk_seg dksX15_done_0 24 rfl rfl
theorem dX15_done_0 : decode cX15_done 0 = .ok (.aload_n 1, 1) := dk_43 (dk_at dksX15_done_0 0 rfl rfl)
theorem dX15_done_1 : decode cX15_done 1 = .ok (.aload_n 2, 1) := dk_44 (dk_at dksX15_done_0 1 rfl rfl)
theorem dX15_done_2 : decode cX15_done 2 = .ok (.iconst 0, 1) := dk_3 (dk_at dksX15_done_0 2 rfl rfl)
theorem dX15_done_3 : decode cX15_done 3 = .ok (.iaload, 1) := dk_46 (dk_at dksX15_done_0 3 rfl rfl)
theorem dX15_done_4 : decode cX15_done 4 = .ok (.invokevirtual 9, 3) := dk_182 0 9 (dk_at dksX15_done_0 4 rfl rfl)
theorem dX15_done_7 : decode cX15_done 7 = .ok (.ifCond .eq 24, 3) := dk_153 0 24 (dk_at dksX15_done_0 7 rfl rfl)
theorem dX15_done_10 : decode cX15_done 10 = .ok (.aload_n 2, 1) := dk_44 (dk_at dksX15_done_0 10 rfl rfl)
theorem dX15_done_11 : decode cX15_done 11 = .ok (.iconst 1, 1) := dk_4 (dk_at dksX15_done_0 11 rfl rfl)
theorem dX15_done_12 : decode cX15_done 12 = .ok (.iaload, 1) := dk_46 (dk_at dksX15_done_0 12 rfl rfl)
theorem dX15_done_13 : decode cX15_done 13 = .ok (.bipush 9, 2) := dk_16 9 (dk_at dksX15_done_0 13 rfl rfl)
theorem dX15_done_15 : decode cX15_done 15 = .ok (.if_icmp .gt 16, 3) := dk_163 0 16 (dk_at dksX15_done_0 15 rfl rfl)
theorem dX15_done_18 : decode cX15_done 18 = .ok (.aload_n 1, 1) := dk_43 (dk_at dksX15_done_0 18 rfl rfl)
theorem dX15_done_19 : decode cX15_done 19 = .ok (.aload_n 2, 1) := dk_44 (dk_at dksX15_done_0 19 rfl rfl)
theorem dX15_done_20 : decode cX15_done 20 = .ok (.iconst 0, 1) := dk_3 (dk_at dksX15_done_0 20 rfl rfl)
theorem dX15_done_21 : decode cX15_done 21 = .ok (.iaload, 1) := dk_46 (dk_at dksX15_done_0 21 rfl rfl)
theorem dX15_done_22 : decode cX15_done 22 = .ok (.aload_n 2, 1) := dk_44 (dk_at dksX15_done_0 22 rfl rfl)
theorem dX15_done_23 : decode cX15_done 23 = .ok (.iconst 1, 1) := dk_4 (dk_at dksX15_done_0 23 rfl rfl)
theorem dX15_done_24 : decode cX15_done 24 = .ok (.iaload, 1) := dk_46 (dk_at dksX15_done_1 0 rfl rfl)
theorem dX15_done_25 : decode cX15_done 25 = .ok (.invokevirtual 15, 3) := dk_182 0 15 (dk_at dksX15_done_1 1 rfl rfl)
theorem dX15_done_28 : decode cX15_done 28 = .ok (.goto 4, 3) := dk_167 0 4 (dk_at dksX15_done_1 4 rfl rfl)
theorem dX15_done_31 : decode cX15_done 31 = .ok (.aconst_null, 1) := dk_1 (dk_at dksX15_done_1 7 rfl rfl)
theorem dX15_done_32 : decode cX15_done 32 = .ok (.areturn, 1) := dk_176 (dk_at dksX15_done_1 8 rfl rfl)
theorem q1242 : (Jvm.Cond.selects "NetworkCenters$Kind$3" ({ cls := "java/lang/Object", name := "getClass", desc := "()Ljava/lang/Class;" } : Jvm.MethodName) ({ cls := "java/lang/Object", name := "getClass", desc := "()Ljava/lang/Class;" } : Jvm.MethodName)) ∈ lw_all := lw_g (lw_at lw_m5 178 rfl) rfl
theorem q1987 : (Jvm.Cond.selects "NetworkCenters$Kind$3" ({ cls := "NetworkCenters$Kind", name := "done", desc := "(LNetworkCenters$Network;[I)LNetworkCenters$Network;" } : Jvm.MethodName) ({ cls := "NetworkCenters$Kind$3", name := "done", desc := "(LNetworkCenters$Network;[I)LNetworkCenters$Network;" } : Jvm.MethodName)) ∈ lw_all := lw_g (lw_at lw_m8 203 rfl) rfl
theorem q1988 : (Jvm.Cond.instanceMethod ({ cls := "NetworkCenters$Kind$3", name := "done", desc := "(LNetworkCenters$Network;[I)LNetworkCenters$Network;" } : Jvm.MethodName)) ∈ lw_all := lw_g (lw_at lw_m8 204 rfl) rfl
theorem q1989 : (Jvm.Cond.code ({ cls := "NetworkCenters$Kind$3", name := "done", desc := "(LNetworkCenters$Network;[I)LNetworkCenters$Network;" } : Jvm.MethodName) prog_8_method_2_code (3 : Nat) (Option.some (Jvm.ClassFile.FieldType.object "NetworkCenters$Network"))) ∈ lw_all := lw_g (lw_at lw_m8 205 rfl) rfl
theorem q1990 : (Jvm.Cond.methodLink "NetworkCenters$Kind$3" (9 : Nat) ({ cls := "NetworkCenters$Network", name := "isNode", desc := "(I)Z" } : Jvm.MethodName)) ∈ lw_all := lw_g (lw_at lw_m8 206 rfl) rfl
theorem q1991 : (Jvm.Cond.methodLink "NetworkCenters$Kind$3" (15 : Nat) ({ cls := "NetworkCenters$Network", name := "withTrend", desc := "(II)LNetworkCenters$Network;" } : Jvm.MethodName)) ∈ lw_all := lw_g (lw_at lw_m8 207 rfl) rfl
theorem q2565 : (Jvm.Cond.castable "NetworkCenters$Kind$3" "java/lang/Object") ∈ lw_tbl := lw_at lw_m11 61 rfl
/-! NetworkCentersLaw -/
set_option maxRecDepth 100000
def RX0 : String := "NetworkCentersLaw"
abbrev cX0_reset : ByteArray := method_3_code
def yX0_reset : MethodName := ⟨RX0, "reset", "(LNetworkCenters;I[J)I"⟩
def dkwX0_reset_0 : List UInt8 := [44, 3, 42, 27, 182, 0, 7, 133, 80, 167, 0, 6, 78, 4, 172, 3, 172]
abbrev dktX0_reset_0 : List UInt8 := dkwX0_reset_0 ++ []
theorem dksX0_reset_0 : cX0_reset.data.toList.drop 0 = dktX0_reset_0 := by decide +kernel
theorem dX0_reset_0 : decode cX0_reset 0 = .ok (.aload_n 2, 1) := dk_44 (dk_at dksX0_reset_0 0 rfl rfl)
theorem dX0_reset_1 : decode cX0_reset 1 = .ok (.iconst 0, 1) := dk_3 (dk_at dksX0_reset_0 1 rfl rfl)
theorem dX0_reset_2 : decode cX0_reset 2 = .ok (.aload_n 0, 1) := dk_42 (dk_at dksX0_reset_0 2 rfl rfl)
theorem dX0_reset_3 : decode cX0_reset 3 = .ok (.iload_n 1, 1) := dk_27 (dk_at dksX0_reset_0 3 rfl rfl)
theorem dX0_reset_4 : decode cX0_reset 4 = .ok (.invokevirtual 7, 3) := dk_182 0 7 (dk_at dksX0_reset_0 4 rfl rfl)
theorem dX0_reset_7 : decode cX0_reset 7 = .ok (.i2l, 1) := dk_133 (dk_at dksX0_reset_0 7 rfl rfl)
theorem dX0_reset_8 : decode cX0_reset 8 = .ok (.lastore, 1) := dk_80 (dk_at dksX0_reset_0 8 rfl rfl)
theorem dX0_reset_9 : decode cX0_reset 9 = .ok (.goto 6, 3) := dk_167 0 6 (dk_at dksX0_reset_0 9 rfl rfl)
theorem dX0_reset_12 : decode cX0_reset 12 = .ok (.astore_n 3, 1) := dk_78 (dk_at dksX0_reset_0 12 rfl rfl)
theorem dX0_reset_13 : decode cX0_reset 13 = .ok (.iconst 1, 1) := dk_4 (dk_at dksX0_reset_0 13 rfl rfl)
theorem dX0_reset_14 : decode cX0_reset 14 = .ok (.ireturn, 1) := dk_172 (dk_at dksX0_reset_0 14 rfl rfl)
theorem dX0_reset_15 : decode cX0_reset 15 = .ok (.iconst 0, 1) := dk_3 (dk_at dksX0_reset_0 15 rfl rfl)
theorem dX0_reset_16 : decode cX0_reset 16 = .ok (.ireturn, 1) := dk_172 (dk_at dksX0_reset_0 16 rfl rfl)
abbrev cX0_connect : ByteArray := method_4_code
def yX0_connect : MethodName := ⟨RX0, "connect", "(LNetworkCenters;III[J)I"⟩
def dkwX0_connect_1 : List UInt8 := [58, 5, 6, 172, 3, 172]
abbrev dktX0_connect_1 : List UInt8 := dkwX0_connect_1 ++ []
def dkwX0_connect_0 : List UInt8 := [25, 4, 3, 42, 27, 28, 29, 182, 0, 15, 133, 80, 167, 0, 15, 58, 5, 4, 172, 58, 5, 5, 172]
abbrev dktX0_connect_0 : List UInt8 := dkwX0_connect_0 ++ dktX0_connect_1
theorem dksX0_connect_0 : cX0_connect.data.toList.drop 0 = dktX0_connect_0 := by decide +kernel
theorem dksX0_connect_1 : cX0_connect.data.toList.drop 23 = dktX0_connect_1 := dk_seg dksX0_connect_0 23 rfl rfl
theorem dX0_connect_0 : decode cX0_connect 0 = .ok (.aload 4, 2) := dk_25 4 (dk_at dksX0_connect_0 0 rfl rfl)
theorem dX0_connect_2 : decode cX0_connect 2 = .ok (.iconst 0, 1) := dk_3 (dk_at dksX0_connect_0 2 rfl rfl)
theorem dX0_connect_3 : decode cX0_connect 3 = .ok (.aload_n 0, 1) := dk_42 (dk_at dksX0_connect_0 3 rfl rfl)
theorem dX0_connect_4 : decode cX0_connect 4 = .ok (.iload_n 1, 1) := dk_27 (dk_at dksX0_connect_0 4 rfl rfl)
theorem dX0_connect_5 : decode cX0_connect 5 = .ok (.iload_n 2, 1) := dk_28 (dk_at dksX0_connect_0 5 rfl rfl)
theorem dX0_connect_6 : decode cX0_connect 6 = .ok (.iload_n 3, 1) := dk_29 (dk_at dksX0_connect_0 6 rfl rfl)
theorem dX0_connect_7 : decode cX0_connect 7 = .ok (.invokevirtual 15, 3) := dk_182 0 15 (dk_at dksX0_connect_0 7 rfl rfl)
theorem dX0_connect_10 : decode cX0_connect 10 = .ok (.i2l, 1) := dk_133 (dk_at dksX0_connect_0 10 rfl rfl)
theorem dX0_connect_11 : decode cX0_connect 11 = .ok (.lastore, 1) := dk_80 (dk_at dksX0_connect_0 11 rfl rfl)
theorem dX0_connect_12 : decode cX0_connect 12 = .ok (.goto 15, 3) := dk_167 0 15 (dk_at dksX0_connect_0 12 rfl rfl)
theorem dX0_connect_15 : decode cX0_connect 15 = .ok (.astore 5, 2) := dk_58 5 (dk_at dksX0_connect_0 15 rfl rfl)
theorem dX0_connect_17 : decode cX0_connect 17 = .ok (.iconst 1, 1) := dk_4 (dk_at dksX0_connect_0 17 rfl rfl)
theorem dX0_connect_18 : decode cX0_connect 18 = .ok (.ireturn, 1) := dk_172 (dk_at dksX0_connect_0 18 rfl rfl)
theorem dX0_connect_19 : decode cX0_connect 19 = .ok (.astore 5, 2) := dk_58 5 (dk_at dksX0_connect_0 19 rfl rfl)
theorem dX0_connect_21 : decode cX0_connect 21 = .ok (.iconst 2, 1) := dk_5 (dk_at dksX0_connect_0 21 rfl rfl)
theorem dX0_connect_22 : decode cX0_connect 22 = .ok (.ireturn, 1) := dk_172 (dk_at dksX0_connect_0 22 rfl rfl)
theorem dX0_connect_23 : decode cX0_connect 23 = .ok (.astore 5, 2) := dk_58 5 (dk_at dksX0_connect_1 0 rfl rfl)
theorem dX0_connect_25 : decode cX0_connect 25 = .ok (.iconst 3, 1) := dk_6 (dk_at dksX0_connect_1 2 rfl rfl)
theorem dX0_connect_26 : decode cX0_connect 26 = .ok (.ireturn, 1) := dk_172 (dk_at dksX0_connect_1 3 rfl rfl)
theorem dX0_connect_27 : decode cX0_connect 27 = .ok (.iconst 0, 1) := dk_3 (dk_at dksX0_connect_1 4 rfl rfl)
theorem dX0_connect_28 : decode cX0_connect 28 = .ok (.ireturn, 1) := dk_172 (dk_at dksX0_connect_1 5 rfl rfl)
abbrev cX0_disconnect : ByteArray := method_5_code
def yX0_disconnect : MethodName := ⟨RX0, "disconnect", "(LNetworkCenters;I[J)I"⟩
def dkwX0_disconnect_0 : List UInt8 := [44, 3, 42, 27, 182, 0, 23, 133, 80, 167, 0, 6, 78, 4, 172, 3, 172]
abbrev dktX0_disconnect_0 : List UInt8 := dkwX0_disconnect_0 ++ []
theorem dksX0_disconnect_0 : cX0_disconnect.data.toList.drop 0 = dktX0_disconnect_0 := by decide +kernel
theorem dX0_disconnect_0 : decode cX0_disconnect 0 = .ok (.aload_n 2, 1) := dk_44 (dk_at dksX0_disconnect_0 0 rfl rfl)
theorem dX0_disconnect_1 : decode cX0_disconnect 1 = .ok (.iconst 0, 1) := dk_3 (dk_at dksX0_disconnect_0 1 rfl rfl)
theorem dX0_disconnect_2 : decode cX0_disconnect 2 = .ok (.aload_n 0, 1) := dk_42 (dk_at dksX0_disconnect_0 2 rfl rfl)
theorem dX0_disconnect_3 : decode cX0_disconnect 3 = .ok (.iload_n 1, 1) := dk_27 (dk_at dksX0_disconnect_0 3 rfl rfl)
theorem dX0_disconnect_4 : decode cX0_disconnect 4 = .ok (.invokevirtual 23, 3) := dk_182 0 23 (dk_at dksX0_disconnect_0 4 rfl rfl)
theorem dX0_disconnect_7 : decode cX0_disconnect 7 = .ok (.i2l, 1) := dk_133 (dk_at dksX0_disconnect_0 7 rfl rfl)
theorem dX0_disconnect_8 : decode cX0_disconnect 8 = .ok (.lastore, 1) := dk_80 (dk_at dksX0_disconnect_0 8 rfl rfl)
theorem dX0_disconnect_9 : decode cX0_disconnect 9 = .ok (.goto 6, 3) := dk_167 0 6 (dk_at dksX0_disconnect_0 9 rfl rfl)
theorem dX0_disconnect_12 : decode cX0_disconnect 12 = .ok (.astore_n 3, 1) := dk_78 (dk_at dksX0_disconnect_0 12 rfl rfl)
theorem dX0_disconnect_13 : decode cX0_disconnect 13 = .ok (.iconst 1, 1) := dk_4 (dk_at dksX0_disconnect_0 13 rfl rfl)
theorem dX0_disconnect_14 : decode cX0_disconnect 14 = .ok (.ireturn, 1) := dk_172 (dk_at dksX0_disconnect_0 14 rfl rfl)
theorem dX0_disconnect_15 : decode cX0_disconnect 15 = .ok (.iconst 0, 1) := dk_3 (dk_at dksX0_disconnect_0 15 rfl rfl)
theorem dX0_disconnect_16 : decode cX0_disconnect 16 = .ok (.ireturn, 1) := dk_172 (dk_at dksX0_disconnect_0 16 rfl rfl)
abbrev cX0_setWeight : ByteArray := method_6_code
def yX0_setWeight : MethodName := ⟨RX0, "setWeight", "(LNetworkCenters;II[J)I"⟩
def dkwX0_setWeight_0 : List UInt8 := [45, 3, 42, 27, 28, 182, 0, 26, 133, 80, 167, 0, 11, 58, 4, 4, 172, 58, 4, 5, 172, 3, 172]
abbrev dktX0_setWeight_0 : List UInt8 := dkwX0_setWeight_0 ++ []
theorem dksX0_setWeight_0 : cX0_setWeight.data.toList.drop 0 = dktX0_setWeight_0 := by decide +kernel
theorem dX0_setWeight_0 : decode cX0_setWeight 0 = .ok (.aload_n 3, 1) := dk_45 (dk_at dksX0_setWeight_0 0 rfl rfl)
theorem dX0_setWeight_1 : decode cX0_setWeight 1 = .ok (.iconst 0, 1) := dk_3 (dk_at dksX0_setWeight_0 1 rfl rfl)
theorem dX0_setWeight_2 : decode cX0_setWeight 2 = .ok (.aload_n 0, 1) := dk_42 (dk_at dksX0_setWeight_0 2 rfl rfl)
theorem dX0_setWeight_3 : decode cX0_setWeight 3 = .ok (.iload_n 1, 1) := dk_27 (dk_at dksX0_setWeight_0 3 rfl rfl)
theorem dX0_setWeight_4 : decode cX0_setWeight 4 = .ok (.iload_n 2, 1) := dk_28 (dk_at dksX0_setWeight_0 4 rfl rfl)
theorem dX0_setWeight_5 : decode cX0_setWeight 5 = .ok (.invokevirtual 26, 3) := dk_182 0 26 (dk_at dksX0_setWeight_0 5 rfl rfl)
theorem dX0_setWeight_8 : decode cX0_setWeight 8 = .ok (.i2l, 1) := dk_133 (dk_at dksX0_setWeight_0 8 rfl rfl)
theorem dX0_setWeight_9 : decode cX0_setWeight 9 = .ok (.lastore, 1) := dk_80 (dk_at dksX0_setWeight_0 9 rfl rfl)
theorem dX0_setWeight_10 : decode cX0_setWeight 10 = .ok (.goto 11, 3) := dk_167 0 11 (dk_at dksX0_setWeight_0 10 rfl rfl)
theorem dX0_setWeight_13 : decode cX0_setWeight 13 = .ok (.astore 4, 2) := dk_58 4 (dk_at dksX0_setWeight_0 13 rfl rfl)
theorem dX0_setWeight_15 : decode cX0_setWeight 15 = .ok (.iconst 1, 1) := dk_4 (dk_at dksX0_setWeight_0 15 rfl rfl)
theorem dX0_setWeight_16 : decode cX0_setWeight 16 = .ok (.ireturn, 1) := dk_172 (dk_at dksX0_setWeight_0 16 rfl rfl)
theorem dX0_setWeight_17 : decode cX0_setWeight 17 = .ok (.astore 4, 2) := dk_58 4 (dk_at dksX0_setWeight_0 17 rfl rfl)
theorem dX0_setWeight_19 : decode cX0_setWeight 19 = .ok (.iconst 2, 1) := dk_5 (dk_at dksX0_setWeight_0 19 rfl rfl)
theorem dX0_setWeight_20 : decode cX0_setWeight 20 = .ok (.ireturn, 1) := dk_172 (dk_at dksX0_setWeight_0 20 rfl rfl)
theorem dX0_setWeight_21 : decode cX0_setWeight 21 = .ok (.iconst 0, 1) := dk_3 (dk_at dksX0_setWeight_0 21 rfl rfl)
theorem dX0_setWeight_22 : decode cX0_setWeight 22 = .ok (.ireturn, 1) := dk_172 (dk_at dksX0_setWeight_0 22 rfl rfl)
abbrev cX0_setTrend : ByteArray := method_7_code
def yX0_setTrend : MethodName := ⟨RX0, "setTrend", "(LNetworkCenters;II[J)I"⟩
def dkwX0_setTrend_0 : List UInt8 := [45, 3, 42, 27, 28, 182, 0, 30, 133, 80, 167, 0, 11, 58, 4, 4, 172, 58, 4, 5, 172, 3, 172]
abbrev dktX0_setTrend_0 : List UInt8 := dkwX0_setTrend_0 ++ []
theorem dksX0_setTrend_0 : cX0_setTrend.data.toList.drop 0 = dktX0_setTrend_0 := by decide +kernel
theorem dX0_setTrend_0 : decode cX0_setTrend 0 = .ok (.aload_n 3, 1) := dk_45 (dk_at dksX0_setTrend_0 0 rfl rfl)
theorem dX0_setTrend_1 : decode cX0_setTrend 1 = .ok (.iconst 0, 1) := dk_3 (dk_at dksX0_setTrend_0 1 rfl rfl)
theorem dX0_setTrend_2 : decode cX0_setTrend 2 = .ok (.aload_n 0, 1) := dk_42 (dk_at dksX0_setTrend_0 2 rfl rfl)
theorem dX0_setTrend_3 : decode cX0_setTrend 3 = .ok (.iload_n 1, 1) := dk_27 (dk_at dksX0_setTrend_0 3 rfl rfl)
theorem dX0_setTrend_4 : decode cX0_setTrend 4 = .ok (.iload_n 2, 1) := dk_28 (dk_at dksX0_setTrend_0 4 rfl rfl)
theorem dX0_setTrend_5 : decode cX0_setTrend 5 = .ok (.invokevirtual 30, 3) := dk_182 0 30 (dk_at dksX0_setTrend_0 5 rfl rfl)
theorem dX0_setTrend_8 : decode cX0_setTrend 8 = .ok (.i2l, 1) := dk_133 (dk_at dksX0_setTrend_0 8 rfl rfl)
theorem dX0_setTrend_9 : decode cX0_setTrend 9 = .ok (.lastore, 1) := dk_80 (dk_at dksX0_setTrend_0 9 rfl rfl)
theorem dX0_setTrend_10 : decode cX0_setTrend 10 = .ok (.goto 11, 3) := dk_167 0 11 (dk_at dksX0_setTrend_0 10 rfl rfl)
theorem dX0_setTrend_13 : decode cX0_setTrend 13 = .ok (.astore 4, 2) := dk_58 4 (dk_at dksX0_setTrend_0 13 rfl rfl)
theorem dX0_setTrend_15 : decode cX0_setTrend 15 = .ok (.iconst 1, 1) := dk_4 (dk_at dksX0_setTrend_0 15 rfl rfl)
theorem dX0_setTrend_16 : decode cX0_setTrend 16 = .ok (.ireturn, 1) := dk_172 (dk_at dksX0_setTrend_0 16 rfl rfl)
theorem dX0_setTrend_17 : decode cX0_setTrend 17 = .ok (.astore 4, 2) := dk_58 4 (dk_at dksX0_setTrend_0 17 rfl rfl)
theorem dX0_setTrend_19 : decode cX0_setTrend 19 = .ok (.iconst 2, 1) := dk_5 (dk_at dksX0_setTrend_0 19 rfl rfl)
theorem dX0_setTrend_20 : decode cX0_setTrend 20 = .ok (.ireturn, 1) := dk_172 (dk_at dksX0_setTrend_0 20 rfl rfl)
theorem dX0_setTrend_21 : decode cX0_setTrend 21 = .ok (.iconst 0, 1) := dk_3 (dk_at dksX0_setTrend_0 21 rfl rfl)
theorem dX0_setTrend_22 : decode cX0_setTrend 22 = .ok (.ireturn, 1) := dk_172 (dk_at dksX0_setTrend_0 22 rfl rfl)
abbrev cX0_forbid : ByteArray := method_8_code
def yX0_forbid : MethodName := ⟨RX0, "forbid", "(LNetworkCenters;III[J)I"⟩
def dkwX0_forbid_1 : List UInt8 := [58, 5, 6, 172, 3, 172]
abbrev dktX0_forbid_1 : List UInt8 := dkwX0_forbid_1 ++ []
def dkwX0_forbid_0 : List UInt8 := [25, 4, 3, 42, 27, 28, 29, 182, 0, 33, 133, 80, 167, 0, 15, 58, 5, 4, 172, 58, 5, 5, 172]
abbrev dktX0_forbid_0 : List UInt8 := dkwX0_forbid_0 ++ dktX0_forbid_1
theorem dksX0_forbid_0 : cX0_forbid.data.toList.drop 0 = dktX0_forbid_0 := by decide +kernel
theorem dksX0_forbid_1 : cX0_forbid.data.toList.drop 23 = dktX0_forbid_1 := dk_seg dksX0_forbid_0 23 rfl rfl
theorem dX0_forbid_0 : decode cX0_forbid 0 = .ok (.aload 4, 2) := dk_25 4 (dk_at dksX0_forbid_0 0 rfl rfl)
theorem dX0_forbid_2 : decode cX0_forbid 2 = .ok (.iconst 0, 1) := dk_3 (dk_at dksX0_forbid_0 2 rfl rfl)
theorem dX0_forbid_3 : decode cX0_forbid 3 = .ok (.aload_n 0, 1) := dk_42 (dk_at dksX0_forbid_0 3 rfl rfl)
theorem dX0_forbid_4 : decode cX0_forbid 4 = .ok (.iload_n 1, 1) := dk_27 (dk_at dksX0_forbid_0 4 rfl rfl)
theorem dX0_forbid_5 : decode cX0_forbid 5 = .ok (.iload_n 2, 1) := dk_28 (dk_at dksX0_forbid_0 5 rfl rfl)
theorem dX0_forbid_6 : decode cX0_forbid 6 = .ok (.iload_n 3, 1) := dk_29 (dk_at dksX0_forbid_0 6 rfl rfl)
theorem dX0_forbid_7 : decode cX0_forbid 7 = .ok (.invokevirtual 33, 3) := dk_182 0 33 (dk_at dksX0_forbid_0 7 rfl rfl)
theorem dX0_forbid_10 : decode cX0_forbid 10 = .ok (.i2l, 1) := dk_133 (dk_at dksX0_forbid_0 10 rfl rfl)
theorem dX0_forbid_11 : decode cX0_forbid 11 = .ok (.lastore, 1) := dk_80 (dk_at dksX0_forbid_0 11 rfl rfl)
theorem dX0_forbid_12 : decode cX0_forbid 12 = .ok (.goto 15, 3) := dk_167 0 15 (dk_at dksX0_forbid_0 12 rfl rfl)
theorem dX0_forbid_15 : decode cX0_forbid 15 = .ok (.astore 5, 2) := dk_58 5 (dk_at dksX0_forbid_0 15 rfl rfl)
theorem dX0_forbid_17 : decode cX0_forbid 17 = .ok (.iconst 1, 1) := dk_4 (dk_at dksX0_forbid_0 17 rfl rfl)
theorem dX0_forbid_18 : decode cX0_forbid 18 = .ok (.ireturn, 1) := dk_172 (dk_at dksX0_forbid_0 18 rfl rfl)
theorem dX0_forbid_19 : decode cX0_forbid 19 = .ok (.astore 5, 2) := dk_58 5 (dk_at dksX0_forbid_0 19 rfl rfl)
theorem dX0_forbid_21 : decode cX0_forbid 21 = .ok (.iconst 2, 1) := dk_5 (dk_at dksX0_forbid_0 21 rfl rfl)
theorem dX0_forbid_22 : decode cX0_forbid 22 = .ok (.ireturn, 1) := dk_172 (dk_at dksX0_forbid_0 22 rfl rfl)
theorem dX0_forbid_23 : decode cX0_forbid 23 = .ok (.astore 5, 2) := dk_58 5 (dk_at dksX0_forbid_1 0 rfl rfl)
theorem dX0_forbid_25 : decode cX0_forbid 25 = .ok (.iconst 3, 1) := dk_6 (dk_at dksX0_forbid_1 2 rfl rfl)
theorem dX0_forbid_26 : decode cX0_forbid 26 = .ok (.ireturn, 1) := dk_172 (dk_at dksX0_forbid_1 3 rfl rfl)
theorem dX0_forbid_27 : decode cX0_forbid 27 = .ok (.iconst 0, 1) := dk_3 (dk_at dksX0_forbid_1 4 rfl rfl)
theorem dX0_forbid_28 : decode cX0_forbid 28 = .ok (.ireturn, 1) := dk_172 (dk_at dksX0_forbid_1 5 rfl rfl)
abbrev cX0_allow : ByteArray := method_9_code
def yX0_allow : MethodName := ⟨RX0, "allow", "(LNetworkCenters;I[J)I"⟩
def dkwX0_allow_0 : List UInt8 := [44, 3, 42, 27, 182, 0, 36, 133, 80, 167, 0, 6, 78, 4, 172, 3, 172]
abbrev dktX0_allow_0 : List UInt8 := dkwX0_allow_0 ++ []
theorem dksX0_allow_0 : cX0_allow.data.toList.drop 0 = dktX0_allow_0 := by decide +kernel
theorem dX0_allow_0 : decode cX0_allow 0 = .ok (.aload_n 2, 1) := dk_44 (dk_at dksX0_allow_0 0 rfl rfl)
theorem dX0_allow_1 : decode cX0_allow 1 = .ok (.iconst 0, 1) := dk_3 (dk_at dksX0_allow_0 1 rfl rfl)
theorem dX0_allow_2 : decode cX0_allow 2 = .ok (.aload_n 0, 1) := dk_42 (dk_at dksX0_allow_0 2 rfl rfl)
theorem dX0_allow_3 : decode cX0_allow 3 = .ok (.iload_n 1, 1) := dk_27 (dk_at dksX0_allow_0 3 rfl rfl)
theorem dX0_allow_4 : decode cX0_allow 4 = .ok (.invokevirtual 36, 3) := dk_182 0 36 (dk_at dksX0_allow_0 4 rfl rfl)
theorem dX0_allow_7 : decode cX0_allow 7 = .ok (.i2l, 1) := dk_133 (dk_at dksX0_allow_0 7 rfl rfl)
theorem dX0_allow_8 : decode cX0_allow 8 = .ok (.lastore, 1) := dk_80 (dk_at dksX0_allow_0 8 rfl rfl)
theorem dX0_allow_9 : decode cX0_allow 9 = .ok (.goto 6, 3) := dk_167 0 6 (dk_at dksX0_allow_0 9 rfl rfl)
theorem dX0_allow_12 : decode cX0_allow 12 = .ok (.astore_n 3, 1) := dk_78 (dk_at dksX0_allow_0 12 rfl rfl)
theorem dX0_allow_13 : decode cX0_allow 13 = .ok (.iconst 1, 1) := dk_4 (dk_at dksX0_allow_0 13 rfl rfl)
theorem dX0_allow_14 : decode cX0_allow 14 = .ok (.ireturn, 1) := dk_172 (dk_at dksX0_allow_0 14 rfl rfl)
theorem dX0_allow_15 : decode cX0_allow 15 = .ok (.iconst 0, 1) := dk_3 (dk_at dksX0_allow_0 15 rfl rfl)
theorem dX0_allow_16 : decode cX0_allow 16 = .ok (.ireturn, 1) := dk_172 (dk_at dksX0_allow_0 16 rfl rfl)
abbrev cX0_count : ByteArray := method_10_code
def yX0_count : MethodName := ⟨RX0, "count", "(LNetworkCenters;I[J)I"⟩
def dkwX0_count_0 : List UInt8 := [44, 3, 42, 27, 182, 0, 39, 133, 80, 167, 0, 6, 78, 4, 172, 3, 172]
abbrev dktX0_count_0 : List UInt8 := dkwX0_count_0 ++ []
theorem dksX0_count_0 : cX0_count.data.toList.drop 0 = dktX0_count_0 := by decide +kernel
theorem dX0_count_0 : decode cX0_count 0 = .ok (.aload_n 2, 1) := dk_44 (dk_at dksX0_count_0 0 rfl rfl)
theorem dX0_count_1 : decode cX0_count 1 = .ok (.iconst 0, 1) := dk_3 (dk_at dksX0_count_0 1 rfl rfl)
theorem dX0_count_2 : decode cX0_count 2 = .ok (.aload_n 0, 1) := dk_42 (dk_at dksX0_count_0 2 rfl rfl)
theorem dX0_count_3 : decode cX0_count 3 = .ok (.iload_n 1, 1) := dk_27 (dk_at dksX0_count_0 3 rfl rfl)
theorem dX0_count_4 : decode cX0_count 4 = .ok (.invokevirtual 39, 3) := dk_182 0 39 (dk_at dksX0_count_0 4 rfl rfl)
theorem dX0_count_7 : decode cX0_count 7 = .ok (.i2l, 1) := dk_133 (dk_at dksX0_count_0 7 rfl rfl)
theorem dX0_count_8 : decode cX0_count 8 = .ok (.lastore, 1) := dk_80 (dk_at dksX0_count_0 8 rfl rfl)
theorem dX0_count_9 : decode cX0_count 9 = .ok (.goto 6, 3) := dk_167 0 6 (dk_at dksX0_count_0 9 rfl rfl)
theorem dX0_count_12 : decode cX0_count 12 = .ok (.astore_n 3, 1) := dk_78 (dk_at dksX0_count_0 12 rfl rfl)
theorem dX0_count_13 : decode cX0_count 13 = .ok (.iconst 1, 1) := dk_4 (dk_at dksX0_count_0 13 rfl rfl)
theorem dX0_count_14 : decode cX0_count 14 = .ok (.ireturn, 1) := dk_172 (dk_at dksX0_count_0 14 rfl rfl)
theorem dX0_count_15 : decode cX0_count 15 = .ok (.iconst 0, 1) := dk_3 (dk_at dksX0_count_0 15 rfl rfl)
theorem dX0_count_16 : decode cX0_count 16 = .ok (.ireturn, 1) := dk_172 (dk_at dksX0_count_0 16 rfl rfl)
abbrev cX0_edge : ByteArray := method_11_code
def yX0_edge : MethodName := ⟨RX0, "edge", "(LNetworkCenters;II[J)I"⟩
def dkwX0_edge_0 : List UInt8 := [45, 3, 42, 27, 28, 182, 0, 42, 133, 80, 167, 0, 11, 58, 4, 4, 172, 58, 4, 5, 172, 3, 172]
abbrev dktX0_edge_0 : List UInt8 := dkwX0_edge_0 ++ []
theorem dksX0_edge_0 : cX0_edge.data.toList.drop 0 = dktX0_edge_0 := by decide +kernel
theorem dX0_edge_0 : decode cX0_edge 0 = .ok (.aload_n 3, 1) := dk_45 (dk_at dksX0_edge_0 0 rfl rfl)
theorem dX0_edge_1 : decode cX0_edge 1 = .ok (.iconst 0, 1) := dk_3 (dk_at dksX0_edge_0 1 rfl rfl)
theorem dX0_edge_2 : decode cX0_edge 2 = .ok (.aload_n 0, 1) := dk_42 (dk_at dksX0_edge_0 2 rfl rfl)
theorem dX0_edge_3 : decode cX0_edge 3 = .ok (.iload_n 1, 1) := dk_27 (dk_at dksX0_edge_0 3 rfl rfl)
theorem dX0_edge_4 : decode cX0_edge 4 = .ok (.iload_n 2, 1) := dk_28 (dk_at dksX0_edge_0 4 rfl rfl)
theorem dX0_edge_5 : decode cX0_edge 5 = .ok (.invokevirtual 42, 3) := dk_182 0 42 (dk_at dksX0_edge_0 5 rfl rfl)
theorem dX0_edge_8 : decode cX0_edge 8 = .ok (.i2l, 1) := dk_133 (dk_at dksX0_edge_0 8 rfl rfl)
theorem dX0_edge_9 : decode cX0_edge 9 = .ok (.lastore, 1) := dk_80 (dk_at dksX0_edge_0 9 rfl rfl)
theorem dX0_edge_10 : decode cX0_edge 10 = .ok (.goto 11, 3) := dk_167 0 11 (dk_at dksX0_edge_0 10 rfl rfl)
theorem dX0_edge_13 : decode cX0_edge 13 = .ok (.astore 4, 2) := dk_58 4 (dk_at dksX0_edge_0 13 rfl rfl)
theorem dX0_edge_15 : decode cX0_edge 15 = .ok (.iconst 1, 1) := dk_4 (dk_at dksX0_edge_0 15 rfl rfl)
theorem dX0_edge_16 : decode cX0_edge 16 = .ok (.ireturn, 1) := dk_172 (dk_at dksX0_edge_0 16 rfl rfl)
theorem dX0_edge_17 : decode cX0_edge 17 = .ok (.astore 4, 2) := dk_58 4 (dk_at dksX0_edge_0 17 rfl rfl)
theorem dX0_edge_19 : decode cX0_edge 19 = .ok (.iconst 2, 1) := dk_5 (dk_at dksX0_edge_0 19 rfl rfl)
theorem dX0_edge_20 : decode cX0_edge 20 = .ok (.ireturn, 1) := dk_172 (dk_at dksX0_edge_0 20 rfl rfl)
theorem dX0_edge_21 : decode cX0_edge 21 = .ok (.iconst 0, 1) := dk_3 (dk_at dksX0_edge_0 21 rfl rfl)
theorem dX0_edge_22 : decode cX0_edge 22 = .ok (.ireturn, 1) := dk_172 (dk_at dksX0_edge_0 22 rfl rfl)
abbrev cX0_node : ByteArray := method_12_code
def yX0_node : MethodName := ⟨RX0, "node", "(LNetworkCenters;II[J)I"⟩
def dkwX0_node_0 : List UInt8 := [45, 3, 42, 27, 28, 182, 0, 45, 133, 80, 167, 0, 11, 58, 4, 4, 172, 58, 4, 5, 172, 3, 172]
abbrev dktX0_node_0 : List UInt8 := dkwX0_node_0 ++ []
theorem dksX0_node_0 : cX0_node.data.toList.drop 0 = dktX0_node_0 := by decide +kernel
theorem dX0_node_0 : decode cX0_node 0 = .ok (.aload_n 3, 1) := dk_45 (dk_at dksX0_node_0 0 rfl rfl)
theorem dX0_node_1 : decode cX0_node 1 = .ok (.iconst 0, 1) := dk_3 (dk_at dksX0_node_0 1 rfl rfl)
theorem dX0_node_2 : decode cX0_node 2 = .ok (.aload_n 0, 1) := dk_42 (dk_at dksX0_node_0 2 rfl rfl)
theorem dX0_node_3 : decode cX0_node 3 = .ok (.iload_n 1, 1) := dk_27 (dk_at dksX0_node_0 3 rfl rfl)
theorem dX0_node_4 : decode cX0_node 4 = .ok (.iload_n 2, 1) := dk_28 (dk_at dksX0_node_0 4 rfl rfl)
theorem dX0_node_5 : decode cX0_node 5 = .ok (.invokevirtual 45, 3) := dk_182 0 45 (dk_at dksX0_node_0 5 rfl rfl)
theorem dX0_node_8 : decode cX0_node 8 = .ok (.i2l, 1) := dk_133 (dk_at dksX0_node_0 8 rfl rfl)
theorem dX0_node_9 : decode cX0_node 9 = .ok (.lastore, 1) := dk_80 (dk_at dksX0_node_0 9 rfl rfl)
theorem dX0_node_10 : decode cX0_node 10 = .ok (.goto 11, 3) := dk_167 0 11 (dk_at dksX0_node_0 10 rfl rfl)
theorem dX0_node_13 : decode cX0_node 13 = .ok (.astore 4, 2) := dk_58 4 (dk_at dksX0_node_0 13 rfl rfl)
theorem dX0_node_15 : decode cX0_node 15 = .ok (.iconst 1, 1) := dk_4 (dk_at dksX0_node_0 15 rfl rfl)
theorem dX0_node_16 : decode cX0_node 16 = .ok (.ireturn, 1) := dk_172 (dk_at dksX0_node_0 16 rfl rfl)
theorem dX0_node_17 : decode cX0_node 17 = .ok (.astore 4, 2) := dk_58 4 (dk_at dksX0_node_0 17 rfl rfl)
theorem dX0_node_19 : decode cX0_node 19 = .ok (.iconst 2, 1) := dk_5 (dk_at dksX0_node_0 19 rfl rfl)
theorem dX0_node_20 : decode cX0_node 20 = .ok (.ireturn, 1) := dk_172 (dk_at dksX0_node_0 20 rfl rfl)
theorem dX0_node_21 : decode cX0_node 21 = .ok (.iconst 0, 1) := dk_3 (dk_at dksX0_node_0 21 rfl rfl)
theorem dX0_node_22 : decode cX0_node 22 = .ok (.ireturn, 1) := dk_172 (dk_at dksX0_node_0 22 rfl rfl)
abbrev cX0_stretch : ByteArray := method_13_code
def yX0_stretch : MethodName := ⟨RX0, "stretch", "(LNetworkCenters;II[J)I"⟩
def dkwX0_stretch_0 : List UInt8 := [45, 3, 42, 27, 28, 182, 0, 48, 133, 80, 167, 0, 11, 58, 4, 4, 172, 58, 4, 5, 172, 3, 172]
abbrev dktX0_stretch_0 : List UInt8 := dkwX0_stretch_0 ++ []
theorem dksX0_stretch_0 : cX0_stretch.data.toList.drop 0 = dktX0_stretch_0 := by decide +kernel
theorem dX0_stretch_0 : decode cX0_stretch 0 = .ok (.aload_n 3, 1) := dk_45 (dk_at dksX0_stretch_0 0 rfl rfl)
theorem dX0_stretch_1 : decode cX0_stretch 1 = .ok (.iconst 0, 1) := dk_3 (dk_at dksX0_stretch_0 1 rfl rfl)
theorem dX0_stretch_2 : decode cX0_stretch 2 = .ok (.aload_n 0, 1) := dk_42 (dk_at dksX0_stretch_0 2 rfl rfl)
theorem dX0_stretch_3 : decode cX0_stretch 3 = .ok (.iload_n 1, 1) := dk_27 (dk_at dksX0_stretch_0 3 rfl rfl)
theorem dX0_stretch_4 : decode cX0_stretch 4 = .ok (.iload_n 2, 1) := dk_28 (dk_at dksX0_stretch_0 4 rfl rfl)
theorem dX0_stretch_5 : decode cX0_stretch 5 = .ok (.invokevirtual 48, 3) := dk_182 0 48 (dk_at dksX0_stretch_0 5 rfl rfl)
theorem dX0_stretch_8 : decode cX0_stretch 8 = .ok (.i2l, 1) := dk_133 (dk_at dksX0_stretch_0 8 rfl rfl)
theorem dX0_stretch_9 : decode cX0_stretch 9 = .ok (.lastore, 1) := dk_80 (dk_at dksX0_stretch_0 9 rfl rfl)
theorem dX0_stretch_10 : decode cX0_stretch 10 = .ok (.goto 11, 3) := dk_167 0 11 (dk_at dksX0_stretch_0 10 rfl rfl)
theorem dX0_stretch_13 : decode cX0_stretch 13 = .ok (.astore 4, 2) := dk_58 4 (dk_at dksX0_stretch_0 13 rfl rfl)
theorem dX0_stretch_15 : decode cX0_stretch 15 = .ok (.iconst 1, 1) := dk_4 (dk_at dksX0_stretch_0 15 rfl rfl)
theorem dX0_stretch_16 : decode cX0_stretch 16 = .ok (.ireturn, 1) := dk_172 (dk_at dksX0_stretch_0 16 rfl rfl)
theorem dX0_stretch_17 : decode cX0_stretch 17 = .ok (.astore 4, 2) := dk_58 4 (dk_at dksX0_stretch_0 17 rfl rfl)
theorem dX0_stretch_19 : decode cX0_stretch 19 = .ok (.iconst 2, 1) := dk_5 (dk_at dksX0_stretch_0 19 rfl rfl)
theorem dX0_stretch_20 : decode cX0_stretch 20 = .ok (.ireturn, 1) := dk_172 (dk_at dksX0_stretch_0 20 rfl rfl)
theorem dX0_stretch_21 : decode cX0_stretch 21 = .ok (.iconst 0, 1) := dk_3 (dk_at dksX0_stretch_0 21 rfl rfl)
theorem dX0_stretch_22 : decode cX0_stretch 22 = .ok (.ireturn, 1) := dk_172 (dk_at dksX0_stretch_0 22 rfl rfl)
abbrev cX0_distance : ByteArray := method_14_code
def yX0_distance : MethodName := ⟨RX0, "distance", "(LNetworkCenters;II[J)I"⟩
def dkwX0_distance_0 : List UInt8 := [45, 3, 42, 27, 28, 182, 0, 51, 133, 80, 167, 0, 7, 58, 4, 4, 172, 3, 172]
abbrev dktX0_distance_0 : List UInt8 := dkwX0_distance_0 ++ []
theorem dksX0_distance_0 : cX0_distance.data.toList.drop 0 = dktX0_distance_0 := by decide +kernel
theorem dX0_distance_0 : decode cX0_distance 0 = .ok (.aload_n 3, 1) := dk_45 (dk_at dksX0_distance_0 0 rfl rfl)
theorem dX0_distance_1 : decode cX0_distance 1 = .ok (.iconst 0, 1) := dk_3 (dk_at dksX0_distance_0 1 rfl rfl)
theorem dX0_distance_2 : decode cX0_distance 2 = .ok (.aload_n 0, 1) := dk_42 (dk_at dksX0_distance_0 2 rfl rfl)
theorem dX0_distance_3 : decode cX0_distance 3 = .ok (.iload_n 1, 1) := dk_27 (dk_at dksX0_distance_0 3 rfl rfl)
theorem dX0_distance_4 : decode cX0_distance 4 = .ok (.iload_n 2, 1) := dk_28 (dk_at dksX0_distance_0 4 rfl rfl)
theorem dX0_distance_5 : decode cX0_distance 5 = .ok (.invokevirtual 51, 3) := dk_182 0 51 (dk_at dksX0_distance_0 5 rfl rfl)
theorem dX0_distance_8 : decode cX0_distance 8 = .ok (.i2l, 1) := dk_133 (dk_at dksX0_distance_0 8 rfl rfl)
theorem dX0_distance_9 : decode cX0_distance 9 = .ok (.lastore, 1) := dk_80 (dk_at dksX0_distance_0 9 rfl rfl)
theorem dX0_distance_10 : decode cX0_distance 10 = .ok (.goto 7, 3) := dk_167 0 7 (dk_at dksX0_distance_0 10 rfl rfl)
theorem dX0_distance_13 : decode cX0_distance 13 = .ok (.astore 4, 2) := dk_58 4 (dk_at dksX0_distance_0 13 rfl rfl)
theorem dX0_distance_15 : decode cX0_distance 15 = .ok (.iconst 1, 1) := dk_4 (dk_at dksX0_distance_0 15 rfl rfl)
theorem dX0_distance_16 : decode cX0_distance 16 = .ok (.ireturn, 1) := dk_172 (dk_at dksX0_distance_0 16 rfl rfl)
theorem dX0_distance_17 : decode cX0_distance 17 = .ok (.iconst 0, 1) := dk_3 (dk_at dksX0_distance_0 17 rfl rfl)
theorem dX0_distance_18 : decode cX0_distance 18 = .ok (.ireturn, 1) := dk_172 (dk_at dksX0_distance_0 18 rfl rfl)
abbrev cX0_next : ByteArray := method_15_code
def yX0_next : MethodName := ⟨RX0, "next", "(LNetworkCenters;II[J)I"⟩
def dkwX0_next_0 : List UInt8 := [45, 3, 42, 27, 28, 182, 0, 54, 133, 80, 167, 0, 7, 58, 4, 4, 172, 3, 172]
abbrev dktX0_next_0 : List UInt8 := dkwX0_next_0 ++ []
theorem dksX0_next_0 : cX0_next.data.toList.drop 0 = dktX0_next_0 := by decide +kernel
theorem dX0_next_0 : decode cX0_next 0 = .ok (.aload_n 3, 1) := dk_45 (dk_at dksX0_next_0 0 rfl rfl)
theorem dX0_next_1 : decode cX0_next 1 = .ok (.iconst 0, 1) := dk_3 (dk_at dksX0_next_0 1 rfl rfl)
theorem dX0_next_2 : decode cX0_next 2 = .ok (.aload_n 0, 1) := dk_42 (dk_at dksX0_next_0 2 rfl rfl)
theorem dX0_next_3 : decode cX0_next 3 = .ok (.iload_n 1, 1) := dk_27 (dk_at dksX0_next_0 3 rfl rfl)
theorem dX0_next_4 : decode cX0_next 4 = .ok (.iload_n 2, 1) := dk_28 (dk_at dksX0_next_0 4 rfl rfl)
theorem dX0_next_5 : decode cX0_next 5 = .ok (.invokevirtual 54, 3) := dk_182 0 54 (dk_at dksX0_next_0 5 rfl rfl)
theorem dX0_next_8 : decode cX0_next 8 = .ok (.i2l, 1) := dk_133 (dk_at dksX0_next_0 8 rfl rfl)
theorem dX0_next_9 : decode cX0_next 9 = .ok (.lastore, 1) := dk_80 (dk_at dksX0_next_0 9 rfl rfl)
theorem dX0_next_10 : decode cX0_next 10 = .ok (.goto 7, 3) := dk_167 0 7 (dk_at dksX0_next_0 10 rfl rfl)
theorem dX0_next_13 : decode cX0_next 13 = .ok (.astore 4, 2) := dk_58 4 (dk_at dksX0_next_0 13 rfl rfl)
theorem dX0_next_15 : decode cX0_next 15 = .ok (.iconst 1, 1) := dk_4 (dk_at dksX0_next_0 15 rfl rfl)
theorem dX0_next_16 : decode cX0_next 16 = .ok (.ireturn, 1) := dk_172 (dk_at dksX0_next_0 16 rfl rfl)
theorem dX0_next_17 : decode cX0_next 17 = .ok (.iconst 0, 1) := dk_3 (dk_at dksX0_next_0 17 rfl rfl)
theorem dX0_next_18 : decode cX0_next 18 = .ok (.ireturn, 1) := dk_172 (dk_at dksX0_next_0 18 rfl rfl)
abbrev cX0_distanceTo : ByteArray := method_16_code
def yX0_distanceTo : MethodName := ⟨RX0, "distanceTo", "(LNetworkCenters;IIIII[J)I"⟩
def dkwX0_distanceTo_1 : List UInt8 := [58, 7, 5, 172, 58, 7, 6, 172, 3, 172]
abbrev dktX0_distanceTo_1 : List UInt8 := dkwX0_distanceTo_1 ++ []
def dkwX0_distanceTo_0 : List UInt8 := [25, 6, 3, 42, 27, 28, 29, 21, 4, 21, 5, 182, 0, 57, 133, 80, 167, 0, 15, 58, 7, 4, 172]
abbrev dktX0_distanceTo_0 : List UInt8 := dkwX0_distanceTo_0 ++ dktX0_distanceTo_1
theorem dksX0_distanceTo_0 : cX0_distanceTo.data.toList.drop 0 = dktX0_distanceTo_0 := by decide +kernel
theorem dksX0_distanceTo_1 : cX0_distanceTo.data.toList.drop 23 = dktX0_distanceTo_1 := dk_seg dksX0_distanceTo_0 23 rfl rfl
theorem dX0_distanceTo_0 : decode cX0_distanceTo 0 = .ok (.aload 6, 2) := dk_25 6 (dk_at dksX0_distanceTo_0 0 rfl rfl)
theorem dX0_distanceTo_2 : decode cX0_distanceTo 2 = .ok (.iconst 0, 1) := dk_3 (dk_at dksX0_distanceTo_0 2 rfl rfl)
theorem dX0_distanceTo_3 : decode cX0_distanceTo 3 = .ok (.aload_n 0, 1) := dk_42 (dk_at dksX0_distanceTo_0 3 rfl rfl)
theorem dX0_distanceTo_4 : decode cX0_distanceTo 4 = .ok (.iload_n 1, 1) := dk_27 (dk_at dksX0_distanceTo_0 4 rfl rfl)
theorem dX0_distanceTo_5 : decode cX0_distanceTo 5 = .ok (.iload_n 2, 1) := dk_28 (dk_at dksX0_distanceTo_0 5 rfl rfl)
theorem dX0_distanceTo_6 : decode cX0_distanceTo 6 = .ok (.iload_n 3, 1) := dk_29 (dk_at dksX0_distanceTo_0 6 rfl rfl)
theorem dX0_distanceTo_7 : decode cX0_distanceTo 7 = .ok (.iload 4, 2) := dk_21 4 (dk_at dksX0_distanceTo_0 7 rfl rfl)
theorem dX0_distanceTo_9 : decode cX0_distanceTo 9 = .ok (.iload 5, 2) := dk_21 5 (dk_at dksX0_distanceTo_0 9 rfl rfl)
theorem dX0_distanceTo_11 : decode cX0_distanceTo 11 = .ok (.invokevirtual 57, 3) := dk_182 0 57 (dk_at dksX0_distanceTo_0 11 rfl rfl)
theorem dX0_distanceTo_14 : decode cX0_distanceTo 14 = .ok (.i2l, 1) := dk_133 (dk_at dksX0_distanceTo_0 14 rfl rfl)
theorem dX0_distanceTo_15 : decode cX0_distanceTo 15 = .ok (.lastore, 1) := dk_80 (dk_at dksX0_distanceTo_0 15 rfl rfl)
theorem dX0_distanceTo_16 : decode cX0_distanceTo 16 = .ok (.goto 15, 3) := dk_167 0 15 (dk_at dksX0_distanceTo_0 16 rfl rfl)
theorem dX0_distanceTo_19 : decode cX0_distanceTo 19 = .ok (.astore 7, 2) := dk_58 7 (dk_at dksX0_distanceTo_0 19 rfl rfl)
theorem dX0_distanceTo_21 : decode cX0_distanceTo 21 = .ok (.iconst 1, 1) := dk_4 (dk_at dksX0_distanceTo_0 21 rfl rfl)
theorem dX0_distanceTo_22 : decode cX0_distanceTo 22 = .ok (.ireturn, 1) := dk_172 (dk_at dksX0_distanceTo_0 22 rfl rfl)
theorem dX0_distanceTo_23 : decode cX0_distanceTo 23 = .ok (.astore 7, 2) := dk_58 7 (dk_at dksX0_distanceTo_1 0 rfl rfl)
theorem dX0_distanceTo_25 : decode cX0_distanceTo 25 = .ok (.iconst 2, 1) := dk_5 (dk_at dksX0_distanceTo_1 2 rfl rfl)
theorem dX0_distanceTo_26 : decode cX0_distanceTo 26 = .ok (.ireturn, 1) := dk_172 (dk_at dksX0_distanceTo_1 3 rfl rfl)
theorem dX0_distanceTo_27 : decode cX0_distanceTo 27 = .ok (.astore 7, 2) := dk_58 7 (dk_at dksX0_distanceTo_1 4 rfl rfl)
theorem dX0_distanceTo_29 : decode cX0_distanceTo 29 = .ok (.iconst 3, 1) := dk_6 (dk_at dksX0_distanceTo_1 6 rfl rfl)
theorem dX0_distanceTo_30 : decode cX0_distanceTo 30 = .ok (.ireturn, 1) := dk_172 (dk_at dksX0_distanceTo_1 7 rfl rfl)
theorem dX0_distanceTo_31 : decode cX0_distanceTo 31 = .ok (.iconst 0, 1) := dk_3 (dk_at dksX0_distanceTo_1 8 rfl rfl)
theorem dX0_distanceTo_32 : decode cX0_distanceTo 32 = .ok (.ireturn, 1) := dk_172 (dk_at dksX0_distanceTo_1 9 rfl rfl)
abbrev cX0_isAllowed : ByteArray := method_17_code
def yX0_isAllowed : MethodName := ⟨RX0, "isAllowed", "(LNetworkCenters;III[J)I"⟩
def dkwX0_isAllowed_1 : List UInt8 := [4, 172, 58, 5, 5, 172, 3, 172]
abbrev dktX0_isAllowed_1 : List UInt8 := dkwX0_isAllowed_1 ++ []
def dkwX0_isAllowed_0 : List UInt8 := [25, 4, 3, 42, 27, 28, 29, 182, 0, 61, 153, 0, 7, 10, 167, 0, 4, 9, 80, 167, 0, 11, 58, 5]
abbrev dktX0_isAllowed_0 : List UInt8 := dkwX0_isAllowed_0 ++ dktX0_isAllowed_1
theorem dksX0_isAllowed_0 : cX0_isAllowed.data.toList.drop 0 = dktX0_isAllowed_0 := by decide +kernel
theorem dksX0_isAllowed_1 : cX0_isAllowed.data.toList.drop 24 = dktX0_isAllowed_1 := dk_seg dksX0_isAllowed_0 24 rfl rfl
theorem dX0_isAllowed_0 : decode cX0_isAllowed 0 = .ok (.aload 4, 2) := dk_25 4 (dk_at dksX0_isAllowed_0 0 rfl rfl)
theorem dX0_isAllowed_2 : decode cX0_isAllowed 2 = .ok (.iconst 0, 1) := dk_3 (dk_at dksX0_isAllowed_0 2 rfl rfl)
theorem dX0_isAllowed_3 : decode cX0_isAllowed 3 = .ok (.aload_n 0, 1) := dk_42 (dk_at dksX0_isAllowed_0 3 rfl rfl)
theorem dX0_isAllowed_4 : decode cX0_isAllowed 4 = .ok (.iload_n 1, 1) := dk_27 (dk_at dksX0_isAllowed_0 4 rfl rfl)
theorem dX0_isAllowed_5 : decode cX0_isAllowed 5 = .ok (.iload_n 2, 1) := dk_28 (dk_at dksX0_isAllowed_0 5 rfl rfl)
theorem dX0_isAllowed_6 : decode cX0_isAllowed 6 = .ok (.iload_n 3, 1) := dk_29 (dk_at dksX0_isAllowed_0 6 rfl rfl)
theorem dX0_isAllowed_7 : decode cX0_isAllowed 7 = .ok (.invokevirtual 61, 3) := dk_182 0 61 (dk_at dksX0_isAllowed_0 7 rfl rfl)
theorem dX0_isAllowed_10 : decode cX0_isAllowed 10 = .ok (.ifCond .eq 7, 3) := dk_153 0 7 (dk_at dksX0_isAllowed_0 10 rfl rfl)
theorem dX0_isAllowed_13 : decode cX0_isAllowed 13 = .ok (.lconst 1, 1) := dk_10 (dk_at dksX0_isAllowed_0 13 rfl rfl)
theorem dX0_isAllowed_14 : decode cX0_isAllowed 14 = .ok (.goto 4, 3) := dk_167 0 4 (dk_at dksX0_isAllowed_0 14 rfl rfl)
theorem dX0_isAllowed_17 : decode cX0_isAllowed 17 = .ok (.lconst 0, 1) := dk_9 (dk_at dksX0_isAllowed_0 17 rfl rfl)
theorem dX0_isAllowed_18 : decode cX0_isAllowed 18 = .ok (.lastore, 1) := dk_80 (dk_at dksX0_isAllowed_0 18 rfl rfl)
theorem dX0_isAllowed_19 : decode cX0_isAllowed 19 = .ok (.goto 11, 3) := dk_167 0 11 (dk_at dksX0_isAllowed_0 19 rfl rfl)
theorem dX0_isAllowed_22 : decode cX0_isAllowed 22 = .ok (.astore 5, 2) := dk_58 5 (dk_at dksX0_isAllowed_0 22 rfl rfl)
theorem dX0_isAllowed_24 : decode cX0_isAllowed 24 = .ok (.iconst 1, 1) := dk_4 (dk_at dksX0_isAllowed_1 0 rfl rfl)
theorem dX0_isAllowed_25 : decode cX0_isAllowed 25 = .ok (.ireturn, 1) := dk_172 (dk_at dksX0_isAllowed_1 1 rfl rfl)
theorem dX0_isAllowed_26 : decode cX0_isAllowed 26 = .ok (.astore 5, 2) := dk_58 5 (dk_at dksX0_isAllowed_1 2 rfl rfl)
theorem dX0_isAllowed_28 : decode cX0_isAllowed 28 = .ok (.iconst 2, 1) := dk_5 (dk_at dksX0_isAllowed_1 4 rfl rfl)
theorem dX0_isAllowed_29 : decode cX0_isAllowed 29 = .ok (.ireturn, 1) := dk_172 (dk_at dksX0_isAllowed_1 5 rfl rfl)
theorem dX0_isAllowed_30 : decode cX0_isAllowed 30 = .ok (.iconst 0, 1) := dk_3 (dk_at dksX0_isAllowed_1 6 rfl rfl)
theorem dX0_isAllowed_31 : decode cX0_isAllowed 31 = .ok (.ireturn, 1) := dk_172 (dk_at dksX0_isAllowed_1 7 rfl rfl)
abbrev cX0_height : ByteArray := method_18_code
def yX0_height : MethodName := ⟨RX0, "height", "(LNetworkCenters;IIIII[J)I"⟩
def dkwX0_height_1 : List UInt8 := [58, 7, 5, 172, 58, 7, 6, 172, 3, 172]
abbrev dktX0_height_1 : List UInt8 := dkwX0_height_1 ++ []
def dkwX0_height_0 : List UInt8 := [25, 6, 3, 42, 27, 28, 29, 21, 4, 21, 5, 182, 0, 65, 133, 80, 167, 0, 15, 58, 7, 4, 172]
abbrev dktX0_height_0 : List UInt8 := dkwX0_height_0 ++ dktX0_height_1
theorem dksX0_height_0 : cX0_height.data.toList.drop 0 = dktX0_height_0 := by decide +kernel
theorem dksX0_height_1 : cX0_height.data.toList.drop 23 = dktX0_height_1 := dk_seg dksX0_height_0 23 rfl rfl
theorem dX0_height_0 : decode cX0_height 0 = .ok (.aload 6, 2) := dk_25 6 (dk_at dksX0_height_0 0 rfl rfl)
theorem dX0_height_2 : decode cX0_height 2 = .ok (.iconst 0, 1) := dk_3 (dk_at dksX0_height_0 2 rfl rfl)
theorem dX0_height_3 : decode cX0_height 3 = .ok (.aload_n 0, 1) := dk_42 (dk_at dksX0_height_0 3 rfl rfl)
theorem dX0_height_4 : decode cX0_height 4 = .ok (.iload_n 1, 1) := dk_27 (dk_at dksX0_height_0 4 rfl rfl)
theorem dX0_height_5 : decode cX0_height 5 = .ok (.iload_n 2, 1) := dk_28 (dk_at dksX0_height_0 5 rfl rfl)
theorem dX0_height_6 : decode cX0_height 6 = .ok (.iload_n 3, 1) := dk_29 (dk_at dksX0_height_0 6 rfl rfl)
theorem dX0_height_7 : decode cX0_height 7 = .ok (.iload 4, 2) := dk_21 4 (dk_at dksX0_height_0 7 rfl rfl)
theorem dX0_height_9 : decode cX0_height 9 = .ok (.iload 5, 2) := dk_21 5 (dk_at dksX0_height_0 9 rfl rfl)
theorem dX0_height_11 : decode cX0_height 11 = .ok (.invokevirtual 65, 3) := dk_182 0 65 (dk_at dksX0_height_0 11 rfl rfl)
theorem dX0_height_14 : decode cX0_height 14 = .ok (.i2l, 1) := dk_133 (dk_at dksX0_height_0 14 rfl rfl)
theorem dX0_height_15 : decode cX0_height 15 = .ok (.lastore, 1) := dk_80 (dk_at dksX0_height_0 15 rfl rfl)
theorem dX0_height_16 : decode cX0_height 16 = .ok (.goto 15, 3) := dk_167 0 15 (dk_at dksX0_height_0 16 rfl rfl)
theorem dX0_height_19 : decode cX0_height 19 = .ok (.astore 7, 2) := dk_58 7 (dk_at dksX0_height_0 19 rfl rfl)
theorem dX0_height_21 : decode cX0_height 21 = .ok (.iconst 1, 1) := dk_4 (dk_at dksX0_height_0 21 rfl rfl)
theorem dX0_height_22 : decode cX0_height 22 = .ok (.ireturn, 1) := dk_172 (dk_at dksX0_height_0 22 rfl rfl)
theorem dX0_height_23 : decode cX0_height 23 = .ok (.astore 7, 2) := dk_58 7 (dk_at dksX0_height_1 0 rfl rfl)
theorem dX0_height_25 : decode cX0_height 25 = .ok (.iconst 2, 1) := dk_5 (dk_at dksX0_height_1 2 rfl rfl)
theorem dX0_height_26 : decode cX0_height 26 = .ok (.ireturn, 1) := dk_172 (dk_at dksX0_height_1 3 rfl rfl)
theorem dX0_height_27 : decode cX0_height 27 = .ok (.astore 7, 2) := dk_58 7 (dk_at dksX0_height_1 4 rfl rfl)
theorem dX0_height_29 : decode cX0_height 29 = .ok (.iconst 3, 1) := dk_6 (dk_at dksX0_height_1 6 rfl rfl)
theorem dX0_height_30 : decode cX0_height 30 = .ok (.ireturn, 1) := dk_172 (dk_at dksX0_height_1 7 rfl rfl)
theorem dX0_height_31 : decode cX0_height 31 = .ok (.iconst 0, 1) := dk_3 (dk_at dksX0_height_1 8 rfl rfl)
theorem dX0_height_32 : decode cX0_height 32 = .ok (.ireturn, 1) := dk_172 (dk_at dksX0_height_1 9 rfl rfl)
abbrev cX0_cost : ByteArray := method_19_code
def yX0_cost : MethodName := ⟨RX0, "cost", "(LNetworkCenters;IIII[J)I"⟩
def dkwX0_cost_1 : List UInt8 := [172, 58, 6, 6, 172, 3, 172]
abbrev dktX0_cost_1 : List UInt8 := dkwX0_cost_1 ++ []
def dkwX0_cost_0 : List UInt8 := [25, 5, 3, 42, 27, 28, 29, 21, 4, 182, 0, 68, 133, 80, 167, 0, 15, 58, 6, 4, 172, 58, 6, 5]
abbrev dktX0_cost_0 : List UInt8 := dkwX0_cost_0 ++ dktX0_cost_1
theorem dksX0_cost_0 : cX0_cost.data.toList.drop 0 = dktX0_cost_0 := by decide +kernel
theorem dksX0_cost_1 : cX0_cost.data.toList.drop 24 = dktX0_cost_1 := dk_seg dksX0_cost_0 24 rfl rfl
theorem dX0_cost_0 : decode cX0_cost 0 = .ok (.aload 5, 2) := dk_25 5 (dk_at dksX0_cost_0 0 rfl rfl)
theorem dX0_cost_2 : decode cX0_cost 2 = .ok (.iconst 0, 1) := dk_3 (dk_at dksX0_cost_0 2 rfl rfl)
theorem dX0_cost_3 : decode cX0_cost 3 = .ok (.aload_n 0, 1) := dk_42 (dk_at dksX0_cost_0 3 rfl rfl)
theorem dX0_cost_4 : decode cX0_cost 4 = .ok (.iload_n 1, 1) := dk_27 (dk_at dksX0_cost_0 4 rfl rfl)
theorem dX0_cost_5 : decode cX0_cost 5 = .ok (.iload_n 2, 1) := dk_28 (dk_at dksX0_cost_0 5 rfl rfl)
theorem dX0_cost_6 : decode cX0_cost 6 = .ok (.iload_n 3, 1) := dk_29 (dk_at dksX0_cost_0 6 rfl rfl)
theorem dX0_cost_7 : decode cX0_cost 7 = .ok (.iload 4, 2) := dk_21 4 (dk_at dksX0_cost_0 7 rfl rfl)
theorem dX0_cost_9 : decode cX0_cost 9 = .ok (.invokevirtual 68, 3) := dk_182 0 68 (dk_at dksX0_cost_0 9 rfl rfl)
theorem dX0_cost_12 : decode cX0_cost 12 = .ok (.i2l, 1) := dk_133 (dk_at dksX0_cost_0 12 rfl rfl)
theorem dX0_cost_13 : decode cX0_cost 13 = .ok (.lastore, 1) := dk_80 (dk_at dksX0_cost_0 13 rfl rfl)
theorem dX0_cost_14 : decode cX0_cost 14 = .ok (.goto 15, 3) := dk_167 0 15 (dk_at dksX0_cost_0 14 rfl rfl)
theorem dX0_cost_17 : decode cX0_cost 17 = .ok (.astore 6, 2) := dk_58 6 (dk_at dksX0_cost_0 17 rfl rfl)
theorem dX0_cost_19 : decode cX0_cost 19 = .ok (.iconst 1, 1) := dk_4 (dk_at dksX0_cost_0 19 rfl rfl)
theorem dX0_cost_20 : decode cX0_cost 20 = .ok (.ireturn, 1) := dk_172 (dk_at dksX0_cost_0 20 rfl rfl)
theorem dX0_cost_21 : decode cX0_cost 21 = .ok (.astore 6, 2) := dk_58 6 (dk_at dksX0_cost_0 21 rfl rfl)
theorem dX0_cost_23 : decode cX0_cost 23 = .ok (.iconst 2, 1) := dk_5 (dk_at dksX0_cost_0 23 rfl rfl)
theorem dX0_cost_24 : decode cX0_cost 24 = .ok (.ireturn, 1) := dk_172 (dk_at dksX0_cost_1 0 rfl rfl)
theorem dX0_cost_25 : decode cX0_cost 25 = .ok (.astore 6, 2) := dk_58 6 (dk_at dksX0_cost_1 1 rfl rfl)
theorem dX0_cost_27 : decode cX0_cost 27 = .ok (.iconst 3, 1) := dk_6 (dk_at dksX0_cost_1 3 rfl rfl)
theorem dX0_cost_28 : decode cX0_cost 28 = .ok (.ireturn, 1) := dk_172 (dk_at dksX0_cost_1 4 rfl rfl)
theorem dX0_cost_29 : decode cX0_cost 29 = .ok (.iconst 0, 1) := dk_3 (dk_at dksX0_cost_1 5 rfl rfl)
theorem dX0_cost_30 : decode cX0_cost 30 = .ok (.ireturn, 1) := dk_172 (dk_at dksX0_cost_1 6 rfl rfl)
abbrev cX0_corner : ByteArray := method_20_code
def yX0_corner : MethodName := ⟨RX0, "corner", "(LNetworkCenters;III[J)I"⟩
def dkwX0_corner_1 : List UInt8 := [58, 5, 6, 172, 3, 172]
abbrev dktX0_corner_1 : List UInt8 := dkwX0_corner_1 ++ []
def dkwX0_corner_0 : List UInt8 := [25, 4, 3, 42, 27, 28, 29, 182, 0, 72, 133, 80, 167, 0, 15, 58, 5, 4, 172, 58, 5, 5, 172]
abbrev dktX0_corner_0 : List UInt8 := dkwX0_corner_0 ++ dktX0_corner_1
theorem dksX0_corner_0 : cX0_corner.data.toList.drop 0 = dktX0_corner_0 := by decide +kernel
theorem dksX0_corner_1 : cX0_corner.data.toList.drop 23 = dktX0_corner_1 := dk_seg dksX0_corner_0 23 rfl rfl
theorem dX0_corner_0 : decode cX0_corner 0 = .ok (.aload 4, 2) := dk_25 4 (dk_at dksX0_corner_0 0 rfl rfl)
theorem dX0_corner_2 : decode cX0_corner 2 = .ok (.iconst 0, 1) := dk_3 (dk_at dksX0_corner_0 2 rfl rfl)
theorem dX0_corner_3 : decode cX0_corner 3 = .ok (.aload_n 0, 1) := dk_42 (dk_at dksX0_corner_0 3 rfl rfl)
theorem dX0_corner_4 : decode cX0_corner 4 = .ok (.iload_n 1, 1) := dk_27 (dk_at dksX0_corner_0 4 rfl rfl)
theorem dX0_corner_5 : decode cX0_corner 5 = .ok (.iload_n 2, 1) := dk_28 (dk_at dksX0_corner_0 5 rfl rfl)
theorem dX0_corner_6 : decode cX0_corner 6 = .ok (.iload_n 3, 1) := dk_29 (dk_at dksX0_corner_0 6 rfl rfl)
theorem dX0_corner_7 : decode cX0_corner 7 = .ok (.invokevirtual 72, 3) := dk_182 0 72 (dk_at dksX0_corner_0 7 rfl rfl)
theorem dX0_corner_10 : decode cX0_corner 10 = .ok (.i2l, 1) := dk_133 (dk_at dksX0_corner_0 10 rfl rfl)
theorem dX0_corner_11 : decode cX0_corner 11 = .ok (.lastore, 1) := dk_80 (dk_at dksX0_corner_0 11 rfl rfl)
theorem dX0_corner_12 : decode cX0_corner 12 = .ok (.goto 15, 3) := dk_167 0 15 (dk_at dksX0_corner_0 12 rfl rfl)
theorem dX0_corner_15 : decode cX0_corner 15 = .ok (.astore 5, 2) := dk_58 5 (dk_at dksX0_corner_0 15 rfl rfl)
theorem dX0_corner_17 : decode cX0_corner 17 = .ok (.iconst 1, 1) := dk_4 (dk_at dksX0_corner_0 17 rfl rfl)
theorem dX0_corner_18 : decode cX0_corner 18 = .ok (.ireturn, 1) := dk_172 (dk_at dksX0_corner_0 18 rfl rfl)
theorem dX0_corner_19 : decode cX0_corner 19 = .ok (.astore 5, 2) := dk_58 5 (dk_at dksX0_corner_0 19 rfl rfl)
theorem dX0_corner_21 : decode cX0_corner 21 = .ok (.iconst 2, 1) := dk_5 (dk_at dksX0_corner_0 21 rfl rfl)
theorem dX0_corner_22 : decode cX0_corner 22 = .ok (.ireturn, 1) := dk_172 (dk_at dksX0_corner_0 22 rfl rfl)
theorem dX0_corner_23 : decode cX0_corner 23 = .ok (.astore 5, 2) := dk_58 5 (dk_at dksX0_corner_1 0 rfl rfl)
theorem dX0_corner_25 : decode cX0_corner 25 = .ok (.iconst 3, 1) := dk_6 (dk_at dksX0_corner_1 2 rfl rfl)
theorem dX0_corner_26 : decode cX0_corner 26 = .ok (.ireturn, 1) := dk_172 (dk_at dksX0_corner_1 3 rfl rfl)
theorem dX0_corner_27 : decode cX0_corner 27 = .ok (.iconst 0, 1) := dk_3 (dk_at dksX0_corner_1 4 rfl rfl)
theorem dX0_corner_28 : decode cX0_corner 28 = .ok (.ireturn, 1) := dk_172 (dk_at dksX0_corner_1 5 rfl rfl)
abbrev cX0_radius : ByteArray := method_21_code
def yX0_radius : MethodName := ⟨RX0, "radius", "(LNetworkCenters;II[J)I"⟩
def dkwX0_radius_0 : List UInt8 := [45, 3, 42, 27, 28, 182, 0, 75, 133, 80, 167, 0, 11, 58, 4, 4, 172, 58, 4, 5, 172, 3, 172]
abbrev dktX0_radius_0 : List UInt8 := dkwX0_radius_0 ++ []
theorem dksX0_radius_0 : cX0_radius.data.toList.drop 0 = dktX0_radius_0 := by decide +kernel
theorem dX0_radius_0 : decode cX0_radius 0 = .ok (.aload_n 3, 1) := dk_45 (dk_at dksX0_radius_0 0 rfl rfl)
theorem dX0_radius_1 : decode cX0_radius 1 = .ok (.iconst 0, 1) := dk_3 (dk_at dksX0_radius_0 1 rfl rfl)
theorem dX0_radius_2 : decode cX0_radius 2 = .ok (.aload_n 0, 1) := dk_42 (dk_at dksX0_radius_0 2 rfl rfl)
theorem dX0_radius_3 : decode cX0_radius 3 = .ok (.iload_n 1, 1) := dk_27 (dk_at dksX0_radius_0 3 rfl rfl)
theorem dX0_radius_4 : decode cX0_radius 4 = .ok (.iload_n 2, 1) := dk_28 (dk_at dksX0_radius_0 4 rfl rfl)
theorem dX0_radius_5 : decode cX0_radius 5 = .ok (.invokevirtual 75, 3) := dk_182 0 75 (dk_at dksX0_radius_0 5 rfl rfl)
theorem dX0_radius_8 : decode cX0_radius 8 = .ok (.i2l, 1) := dk_133 (dk_at dksX0_radius_0 8 rfl rfl)
theorem dX0_radius_9 : decode cX0_radius 9 = .ok (.lastore, 1) := dk_80 (dk_at dksX0_radius_0 9 rfl rfl)
theorem dX0_radius_10 : decode cX0_radius 10 = .ok (.goto 11, 3) := dk_167 0 11 (dk_at dksX0_radius_0 10 rfl rfl)
theorem dX0_radius_13 : decode cX0_radius 13 = .ok (.astore 4, 2) := dk_58 4 (dk_at dksX0_radius_0 13 rfl rfl)
theorem dX0_radius_15 : decode cX0_radius 15 = .ok (.iconst 1, 1) := dk_4 (dk_at dksX0_radius_0 15 rfl rfl)
theorem dX0_radius_16 : decode cX0_radius 16 = .ok (.ireturn, 1) := dk_172 (dk_at dksX0_radius_0 16 rfl rfl)
theorem dX0_radius_17 : decode cX0_radius 17 = .ok (.astore 4, 2) := dk_58 4 (dk_at dksX0_radius_0 17 rfl rfl)
theorem dX0_radius_19 : decode cX0_radius 19 = .ok (.iconst 2, 1) := dk_5 (dk_at dksX0_radius_0 19 rfl rfl)
theorem dX0_radius_20 : decode cX0_radius 20 = .ok (.ireturn, 1) := dk_172 (dk_at dksX0_radius_0 20 rfl rfl)
theorem dX0_radius_21 : decode cX0_radius 21 = .ok (.iconst 0, 1) := dk_3 (dk_at dksX0_radius_0 21 rfl rfl)
theorem dX0_radius_22 : decode cX0_radius 22 = .ok (.ireturn, 1) := dk_172 (dk_at dksX0_radius_0 22 rfl rfl)
abbrev cX0_center : ByteArray := method_22_code
def yX0_center : MethodName := ⟨RX0, "center", "(LNetworkCenters;II[J)I"⟩
def dkwX0_center_0 : List UInt8 := [45, 3, 42, 27, 28, 182, 0, 78, 133, 80, 167, 0, 11, 58, 4, 4, 172, 58, 4, 5, 172, 3, 172]
abbrev dktX0_center_0 : List UInt8 := dkwX0_center_0 ++ []
theorem dksX0_center_0 : cX0_center.data.toList.drop 0 = dktX0_center_0 := by decide +kernel
theorem dX0_center_0 : decode cX0_center 0 = .ok (.aload_n 3, 1) := dk_45 (dk_at dksX0_center_0 0 rfl rfl)
theorem dX0_center_1 : decode cX0_center 1 = .ok (.iconst 0, 1) := dk_3 (dk_at dksX0_center_0 1 rfl rfl)
theorem dX0_center_2 : decode cX0_center 2 = .ok (.aload_n 0, 1) := dk_42 (dk_at dksX0_center_0 2 rfl rfl)
theorem dX0_center_3 : decode cX0_center 3 = .ok (.iload_n 1, 1) := dk_27 (dk_at dksX0_center_0 3 rfl rfl)
theorem dX0_center_4 : decode cX0_center 4 = .ok (.iload_n 2, 1) := dk_28 (dk_at dksX0_center_0 4 rfl rfl)
theorem dX0_center_5 : decode cX0_center 5 = .ok (.invokevirtual 78, 3) := dk_182 0 78 (dk_at dksX0_center_0 5 rfl rfl)
theorem dX0_center_8 : decode cX0_center 8 = .ok (.i2l, 1) := dk_133 (dk_at dksX0_center_0 8 rfl rfl)
theorem dX0_center_9 : decode cX0_center 9 = .ok (.lastore, 1) := dk_80 (dk_at dksX0_center_0 9 rfl rfl)
theorem dX0_center_10 : decode cX0_center 10 = .ok (.goto 11, 3) := dk_167 0 11 (dk_at dksX0_center_0 10 rfl rfl)
theorem dX0_center_13 : decode cX0_center 13 = .ok (.astore 4, 2) := dk_58 4 (dk_at dksX0_center_0 13 rfl rfl)
theorem dX0_center_15 : decode cX0_center 15 = .ok (.iconst 1, 1) := dk_4 (dk_at dksX0_center_0 15 rfl rfl)
theorem dX0_center_16 : decode cX0_center 16 = .ok (.ireturn, 1) := dk_172 (dk_at dksX0_center_0 16 rfl rfl)
theorem dX0_center_17 : decode cX0_center 17 = .ok (.astore 4, 2) := dk_58 4 (dk_at dksX0_center_0 17 rfl rfl)
theorem dX0_center_19 : decode cX0_center 19 = .ok (.iconst 2, 1) := dk_5 (dk_at dksX0_center_0 19 rfl rfl)
theorem dX0_center_20 : decode cX0_center 20 = .ok (.ireturn, 1) := dk_172 (dk_at dksX0_center_0 20 rfl rfl)
theorem dX0_center_21 : decode cX0_center 21 = .ok (.iconst 0, 1) := dk_3 (dk_at dksX0_center_0 21 rfl rfl)
theorem dX0_center_22 : decode cX0_center 22 = .ok (.ireturn, 1) := dk_172 (dk_at dksX0_center_0 22 rfl rfl)
abbrev cX0_critical : ByteArray := method_23_code
def yX0_critical : MethodName := ⟨RX0, "critical", "(LNetworkCenters;I[J)I"⟩
def dkwX0_critical_0 : List UInt8 := [44, 3, 42, 27, 182, 0, 81, 133, 80, 167, 0, 9, 78, 4, 172, 78, 5, 172, 3, 172]
abbrev dktX0_critical_0 : List UInt8 := dkwX0_critical_0 ++ []
theorem dksX0_critical_0 : cX0_critical.data.toList.drop 0 = dktX0_critical_0 := by decide +kernel
theorem dX0_critical_0 : decode cX0_critical 0 = .ok (.aload_n 2, 1) := dk_44 (dk_at dksX0_critical_0 0 rfl rfl)
theorem dX0_critical_1 : decode cX0_critical 1 = .ok (.iconst 0, 1) := dk_3 (dk_at dksX0_critical_0 1 rfl rfl)
theorem dX0_critical_2 : decode cX0_critical 2 = .ok (.aload_n 0, 1) := dk_42 (dk_at dksX0_critical_0 2 rfl rfl)
theorem dX0_critical_3 : decode cX0_critical 3 = .ok (.iload_n 1, 1) := dk_27 (dk_at dksX0_critical_0 3 rfl rfl)
theorem dX0_critical_4 : decode cX0_critical 4 = .ok (.invokevirtual 81, 3) := dk_182 0 81 (dk_at dksX0_critical_0 4 rfl rfl)
theorem dX0_critical_7 : decode cX0_critical 7 = .ok (.i2l, 1) := dk_133 (dk_at dksX0_critical_0 7 rfl rfl)
theorem dX0_critical_8 : decode cX0_critical 8 = .ok (.lastore, 1) := dk_80 (dk_at dksX0_critical_0 8 rfl rfl)
theorem dX0_critical_9 : decode cX0_critical 9 = .ok (.goto 9, 3) := dk_167 0 9 (dk_at dksX0_critical_0 9 rfl rfl)
theorem dX0_critical_12 : decode cX0_critical 12 = .ok (.astore_n 3, 1) := dk_78 (dk_at dksX0_critical_0 12 rfl rfl)
theorem dX0_critical_13 : decode cX0_critical 13 = .ok (.iconst 1, 1) := dk_4 (dk_at dksX0_critical_0 13 rfl rfl)
theorem dX0_critical_14 : decode cX0_critical 14 = .ok (.ireturn, 1) := dk_172 (dk_at dksX0_critical_0 14 rfl rfl)
theorem dX0_critical_15 : decode cX0_critical 15 = .ok (.astore_n 3, 1) := dk_78 (dk_at dksX0_critical_0 15 rfl rfl)
theorem dX0_critical_16 : decode cX0_critical 16 = .ok (.iconst 2, 1) := dk_5 (dk_at dksX0_critical_0 16 rfl rfl)
theorem dX0_critical_17 : decode cX0_critical 17 = .ok (.ireturn, 1) := dk_172 (dk_at dksX0_critical_0 17 rfl rfl)
theorem dX0_critical_18 : decode cX0_critical 18 = .ok (.iconst 0, 1) := dk_3 (dk_at dksX0_critical_0 18 rfl rfl)
theorem dX0_critical_19 : decode cX0_critical 19 = .ok (.ireturn, 1) := dk_172 (dk_at dksX0_critical_0 19 rfl rfl)
abbrev cX0_median : ByteArray := method_24_code
def yX0_median : MethodName := ⟨RX0, "median", "(LNetworkCenters;I[J)I"⟩
def dkwX0_median_0 : List UInt8 := [44, 3, 42, 27, 182, 0, 84, 133, 80, 167, 0, 9, 78, 4, 172, 78, 5, 172, 3, 172]
abbrev dktX0_median_0 : List UInt8 := dkwX0_median_0 ++ []
theorem dksX0_median_0 : cX0_median.data.toList.drop 0 = dktX0_median_0 := by decide +kernel
theorem dX0_median_0 : decode cX0_median 0 = .ok (.aload_n 2, 1) := dk_44 (dk_at dksX0_median_0 0 rfl rfl)
theorem dX0_median_1 : decode cX0_median 1 = .ok (.iconst 0, 1) := dk_3 (dk_at dksX0_median_0 1 rfl rfl)
theorem dX0_median_2 : decode cX0_median 2 = .ok (.aload_n 0, 1) := dk_42 (dk_at dksX0_median_0 2 rfl rfl)
theorem dX0_median_3 : decode cX0_median 3 = .ok (.iload_n 1, 1) := dk_27 (dk_at dksX0_median_0 3 rfl rfl)
theorem dX0_median_4 : decode cX0_median 4 = .ok (.invokevirtual 84, 3) := dk_182 0 84 (dk_at dksX0_median_0 4 rfl rfl)
theorem dX0_median_7 : decode cX0_median 7 = .ok (.i2l, 1) := dk_133 (dk_at dksX0_median_0 7 rfl rfl)
theorem dX0_median_8 : decode cX0_median 8 = .ok (.lastore, 1) := dk_80 (dk_at dksX0_median_0 8 rfl rfl)
theorem dX0_median_9 : decode cX0_median 9 = .ok (.goto 9, 3) := dk_167 0 9 (dk_at dksX0_median_0 9 rfl rfl)
theorem dX0_median_12 : decode cX0_median 12 = .ok (.astore_n 3, 1) := dk_78 (dk_at dksX0_median_0 12 rfl rfl)
theorem dX0_median_13 : decode cX0_median 13 = .ok (.iconst 1, 1) := dk_4 (dk_at dksX0_median_0 13 rfl rfl)
theorem dX0_median_14 : decode cX0_median 14 = .ok (.ireturn, 1) := dk_172 (dk_at dksX0_median_0 14 rfl rfl)
theorem dX0_median_15 : decode cX0_median 15 = .ok (.astore_n 3, 1) := dk_78 (dk_at dksX0_median_0 15 rfl rfl)
theorem dX0_median_16 : decode cX0_median 16 = .ok (.iconst 2, 1) := dk_5 (dk_at dksX0_median_0 16 rfl rfl)
theorem dX0_median_17 : decode cX0_median 17 = .ok (.ireturn, 1) := dk_172 (dk_at dksX0_median_0 17 rfl rfl)
theorem dX0_median_18 : decode cX0_median 18 = .ok (.iconst 0, 1) := dk_3 (dk_at dksX0_median_0 18 rfl rfl)
theorem dX0_median_19 : decode cX0_median 19 = .ok (.ireturn, 1) := dk_172 (dk_at dksX0_median_0 19 rfl rfl)
abbrev cX0_radiusOf : ByteArray := method_25_code
def yX0_radiusOf : MethodName := ⟨RX0, "radiusOf", "(LNetworkCenters;II[J)I"⟩
def dkwX0_radiusOf_0 : List UInt8 := [45, 3, 42, 27, 28, 182, 0, 87, 133, 80, 167, 0, 11, 58, 4, 4, 172, 58, 4, 5, 172, 3, 172]
abbrev dktX0_radiusOf_0 : List UInt8 := dkwX0_radiusOf_0 ++ []
theorem dksX0_radiusOf_0 : cX0_radiusOf.data.toList.drop 0 = dktX0_radiusOf_0 := by decide +kernel
theorem dX0_radiusOf_0 : decode cX0_radiusOf 0 = .ok (.aload_n 3, 1) := dk_45 (dk_at dksX0_radiusOf_0 0 rfl rfl)
theorem dX0_radiusOf_1 : decode cX0_radiusOf 1 = .ok (.iconst 0, 1) := dk_3 (dk_at dksX0_radiusOf_0 1 rfl rfl)
theorem dX0_radiusOf_2 : decode cX0_radiusOf 2 = .ok (.aload_n 0, 1) := dk_42 (dk_at dksX0_radiusOf_0 2 rfl rfl)
theorem dX0_radiusOf_3 : decode cX0_radiusOf 3 = .ok (.iload_n 1, 1) := dk_27 (dk_at dksX0_radiusOf_0 3 rfl rfl)
theorem dX0_radiusOf_4 : decode cX0_radiusOf 4 = .ok (.iload_n 2, 1) := dk_28 (dk_at dksX0_radiusOf_0 4 rfl rfl)
theorem dX0_radiusOf_5 : decode cX0_radiusOf 5 = .ok (.invokevirtual 87, 3) := dk_182 0 87 (dk_at dksX0_radiusOf_0 5 rfl rfl)
theorem dX0_radiusOf_8 : decode cX0_radiusOf 8 = .ok (.i2l, 1) := dk_133 (dk_at dksX0_radiusOf_0 8 rfl rfl)
theorem dX0_radiusOf_9 : decode cX0_radiusOf 9 = .ok (.lastore, 1) := dk_80 (dk_at dksX0_radiusOf_0 9 rfl rfl)
theorem dX0_radiusOf_10 : decode cX0_radiusOf 10 = .ok (.goto 11, 3) := dk_167 0 11 (dk_at dksX0_radiusOf_0 10 rfl rfl)
theorem dX0_radiusOf_13 : decode cX0_radiusOf 13 = .ok (.astore 4, 2) := dk_58 4 (dk_at dksX0_radiusOf_0 13 rfl rfl)
theorem dX0_radiusOf_15 : decode cX0_radiusOf 15 = .ok (.iconst 1, 1) := dk_4 (dk_at dksX0_radiusOf_0 15 rfl rfl)
theorem dX0_radiusOf_16 : decode cX0_radiusOf 16 = .ok (.ireturn, 1) := dk_172 (dk_at dksX0_radiusOf_0 16 rfl rfl)
theorem dX0_radiusOf_17 : decode cX0_radiusOf 17 = .ok (.astore 4, 2) := dk_58 4 (dk_at dksX0_radiusOf_0 17 rfl rfl)
theorem dX0_radiusOf_19 : decode cX0_radiusOf 19 = .ok (.iconst 2, 1) := dk_5 (dk_at dksX0_radiusOf_0 19 rfl rfl)
theorem dX0_radiusOf_20 : decode cX0_radiusOf 20 = .ok (.ireturn, 1) := dk_172 (dk_at dksX0_radiusOf_0 20 rfl rfl)
theorem dX0_radiusOf_21 : decode cX0_radiusOf 21 = .ok (.iconst 0, 1) := dk_3 (dk_at dksX0_radiusOf_0 21 rfl rfl)
theorem dX0_radiusOf_22 : decode cX0_radiusOf 22 = .ok (.ireturn, 1) := dk_172 (dk_at dksX0_radiusOf_0 22 rfl rfl)
abbrev cX0_group : ByteArray := method_26_code
def yX0_group : MethodName := ⟨RX0, "group", "(LNetworkCenters;II[J)I"⟩
def dkwX0_group_0 : List UInt8 := [45, 3, 42, 27, 28, 182, 0, 90, 133, 80, 167, 0, 11, 58, 4, 4, 172, 58, 4, 5, 172, 3, 172]
abbrev dktX0_group_0 : List UInt8 := dkwX0_group_0 ++ []
theorem dksX0_group_0 : cX0_group.data.toList.drop 0 = dktX0_group_0 := by decide +kernel
theorem dX0_group_0 : decode cX0_group 0 = .ok (.aload_n 3, 1) := dk_45 (dk_at dksX0_group_0 0 rfl rfl)
theorem dX0_group_1 : decode cX0_group 1 = .ok (.iconst 0, 1) := dk_3 (dk_at dksX0_group_0 1 rfl rfl)
theorem dX0_group_2 : decode cX0_group 2 = .ok (.aload_n 0, 1) := dk_42 (dk_at dksX0_group_0 2 rfl rfl)
theorem dX0_group_3 : decode cX0_group 3 = .ok (.iload_n 1, 1) := dk_27 (dk_at dksX0_group_0 3 rfl rfl)
theorem dX0_group_4 : decode cX0_group 4 = .ok (.iload_n 2, 1) := dk_28 (dk_at dksX0_group_0 4 rfl rfl)
theorem dX0_group_5 : decode cX0_group 5 = .ok (.invokevirtual 90, 3) := dk_182 0 90 (dk_at dksX0_group_0 5 rfl rfl)
theorem dX0_group_8 : decode cX0_group 8 = .ok (.i2l, 1) := dk_133 (dk_at dksX0_group_0 8 rfl rfl)
theorem dX0_group_9 : decode cX0_group 9 = .ok (.lastore, 1) := dk_80 (dk_at dksX0_group_0 9 rfl rfl)
theorem dX0_group_10 : decode cX0_group 10 = .ok (.goto 11, 3) := dk_167 0 11 (dk_at dksX0_group_0 10 rfl rfl)
theorem dX0_group_13 : decode cX0_group 13 = .ok (.astore 4, 2) := dk_58 4 (dk_at dksX0_group_0 13 rfl rfl)
theorem dX0_group_15 : decode cX0_group 15 = .ok (.iconst 1, 1) := dk_4 (dk_at dksX0_group_0 15 rfl rfl)
theorem dX0_group_16 : decode cX0_group 16 = .ok (.ireturn, 1) := dk_172 (dk_at dksX0_group_0 16 rfl rfl)
theorem dX0_group_17 : decode cX0_group 17 = .ok (.astore 4, 2) := dk_58 4 (dk_at dksX0_group_0 17 rfl rfl)
theorem dX0_group_19 : decode cX0_group 19 = .ok (.iconst 2, 1) := dk_5 (dk_at dksX0_group_0 19 rfl rfl)
theorem dX0_group_20 : decode cX0_group 20 = .ok (.ireturn, 1) := dk_172 (dk_at dksX0_group_0 20 rfl rfl)
theorem dX0_group_21 : decode cX0_group 21 = .ok (.iconst 0, 1) := dk_3 (dk_at dksX0_group_0 21 rfl rfl)
theorem dX0_group_22 : decode cX0_group 22 = .ok (.ireturn, 1) := dk_172 (dk_at dksX0_group_0 22 rfl rfl)
abbrev cX0_covering : ByteArray := method_27_code
def yX0_covering : MethodName := ⟨RX0, "covering", "(LNetworkCenters;II[J)I"⟩
def dkwX0_covering_0 : List UInt8 := [45, 3, 42, 27, 28, 182, 0, 93, 133, 80, 167, 0, 11, 58, 4, 4, 172, 58, 4, 5, 172, 3, 172]
abbrev dktX0_covering_0 : List UInt8 := dkwX0_covering_0 ++ []
theorem dksX0_covering_0 : cX0_covering.data.toList.drop 0 = dktX0_covering_0 := by decide +kernel
theorem dX0_covering_0 : decode cX0_covering 0 = .ok (.aload_n 3, 1) := dk_45 (dk_at dksX0_covering_0 0 rfl rfl)
theorem dX0_covering_1 : decode cX0_covering 1 = .ok (.iconst 0, 1) := dk_3 (dk_at dksX0_covering_0 1 rfl rfl)
theorem dX0_covering_2 : decode cX0_covering 2 = .ok (.aload_n 0, 1) := dk_42 (dk_at dksX0_covering_0 2 rfl rfl)
theorem dX0_covering_3 : decode cX0_covering 3 = .ok (.iload_n 1, 1) := dk_27 (dk_at dksX0_covering_0 3 rfl rfl)
theorem dX0_covering_4 : decode cX0_covering 4 = .ok (.iload_n 2, 1) := dk_28 (dk_at dksX0_covering_0 4 rfl rfl)
theorem dX0_covering_5 : decode cX0_covering 5 = .ok (.invokevirtual 93, 3) := dk_182 0 93 (dk_at dksX0_covering_0 5 rfl rfl)
theorem dX0_covering_8 : decode cX0_covering 8 = .ok (.i2l, 1) := dk_133 (dk_at dksX0_covering_0 8 rfl rfl)
theorem dX0_covering_9 : decode cX0_covering 9 = .ok (.lastore, 1) := dk_80 (dk_at dksX0_covering_0 9 rfl rfl)
theorem dX0_covering_10 : decode cX0_covering 10 = .ok (.goto 11, 3) := dk_167 0 11 (dk_at dksX0_covering_0 10 rfl rfl)
theorem dX0_covering_13 : decode cX0_covering 13 = .ok (.astore 4, 2) := dk_58 4 (dk_at dksX0_covering_0 13 rfl rfl)
theorem dX0_covering_15 : decode cX0_covering 15 = .ok (.iconst 1, 1) := dk_4 (dk_at dksX0_covering_0 15 rfl rfl)
theorem dX0_covering_16 : decode cX0_covering 16 = .ok (.ireturn, 1) := dk_172 (dk_at dksX0_covering_0 16 rfl rfl)
theorem dX0_covering_17 : decode cX0_covering 17 = .ok (.astore 4, 2) := dk_58 4 (dk_at dksX0_covering_0 17 rfl rfl)
theorem dX0_covering_19 : decode cX0_covering 19 = .ok (.iconst 2, 1) := dk_5 (dk_at dksX0_covering_0 19 rfl rfl)
theorem dX0_covering_20 : decode cX0_covering 20 = .ok (.ireturn, 1) := dk_172 (dk_at dksX0_covering_0 20 rfl rfl)
theorem dX0_covering_21 : decode cX0_covering 21 = .ok (.iconst 0, 1) := dk_3 (dk_at dksX0_covering_0 21 rfl rfl)
theorem dX0_covering_22 : decode cX0_covering 22 = .ok (.ireturn, 1) := dk_172 (dk_at dksX0_covering_0 22 rfl rfl)
abbrev cX0_covered : ByteArray := method_28_code
def yX0_covered : MethodName := ⟨RX0, "covered", "(LNetworkCenters;III[J)I"⟩
def dkwX0_covered_1 : List UInt8 := [58, 5, 6, 172, 3, 172]
abbrev dktX0_covered_1 : List UInt8 := dkwX0_covered_1 ++ []
def dkwX0_covered_0 : List UInt8 := [25, 4, 3, 42, 27, 28, 29, 182, 0, 96, 133, 80, 167, 0, 15, 58, 5, 4, 172, 58, 5, 5, 172]
abbrev dktX0_covered_0 : List UInt8 := dkwX0_covered_0 ++ dktX0_covered_1
theorem dksX0_covered_0 : cX0_covered.data.toList.drop 0 = dktX0_covered_0 := by decide +kernel
theorem dksX0_covered_1 : cX0_covered.data.toList.drop 23 = dktX0_covered_1 := dk_seg dksX0_covered_0 23 rfl rfl
theorem dX0_covered_0 : decode cX0_covered 0 = .ok (.aload 4, 2) := dk_25 4 (dk_at dksX0_covered_0 0 rfl rfl)
theorem dX0_covered_2 : decode cX0_covered 2 = .ok (.iconst 0, 1) := dk_3 (dk_at dksX0_covered_0 2 rfl rfl)
theorem dX0_covered_3 : decode cX0_covered 3 = .ok (.aload_n 0, 1) := dk_42 (dk_at dksX0_covered_0 3 rfl rfl)
theorem dX0_covered_4 : decode cX0_covered 4 = .ok (.iload_n 1, 1) := dk_27 (dk_at dksX0_covered_0 4 rfl rfl)
theorem dX0_covered_5 : decode cX0_covered 5 = .ok (.iload_n 2, 1) := dk_28 (dk_at dksX0_covered_0 5 rfl rfl)
theorem dX0_covered_6 : decode cX0_covered 6 = .ok (.iload_n 3, 1) := dk_29 (dk_at dksX0_covered_0 6 rfl rfl)
theorem dX0_covered_7 : decode cX0_covered 7 = .ok (.invokevirtual 96, 3) := dk_182 0 96 (dk_at dksX0_covered_0 7 rfl rfl)
theorem dX0_covered_10 : decode cX0_covered 10 = .ok (.i2l, 1) := dk_133 (dk_at dksX0_covered_0 10 rfl rfl)
theorem dX0_covered_11 : decode cX0_covered 11 = .ok (.lastore, 1) := dk_80 (dk_at dksX0_covered_0 11 rfl rfl)
theorem dX0_covered_12 : decode cX0_covered 12 = .ok (.goto 15, 3) := dk_167 0 15 (dk_at dksX0_covered_0 12 rfl rfl)
theorem dX0_covered_15 : decode cX0_covered 15 = .ok (.astore 5, 2) := dk_58 5 (dk_at dksX0_covered_0 15 rfl rfl)
theorem dX0_covered_17 : decode cX0_covered 17 = .ok (.iconst 1, 1) := dk_4 (dk_at dksX0_covered_0 17 rfl rfl)
theorem dX0_covered_18 : decode cX0_covered 18 = .ok (.ireturn, 1) := dk_172 (dk_at dksX0_covered_0 18 rfl rfl)
theorem dX0_covered_19 : decode cX0_covered 19 = .ok (.astore 5, 2) := dk_58 5 (dk_at dksX0_covered_0 19 rfl rfl)
theorem dX0_covered_21 : decode cX0_covered 21 = .ok (.iconst 2, 1) := dk_5 (dk_at dksX0_covered_0 21 rfl rfl)
theorem dX0_covered_22 : decode cX0_covered 22 = .ok (.ireturn, 1) := dk_172 (dk_at dksX0_covered_0 22 rfl rfl)
theorem dX0_covered_23 : decode cX0_covered 23 = .ok (.astore 5, 2) := dk_58 5 (dk_at dksX0_covered_1 0 rfl rfl)
theorem dX0_covered_25 : decode cX0_covered 25 = .ok (.iconst 3, 1) := dk_6 (dk_at dksX0_covered_1 2 rfl rfl)
theorem dX0_covered_26 : decode cX0_covered 26 = .ok (.ireturn, 1) := dk_172 (dk_at dksX0_covered_1 3 rfl rfl)
theorem dX0_covered_27 : decode cX0_covered 27 = .ok (.iconst 0, 1) := dk_3 (dk_at dksX0_covered_1 4 rfl rfl)
theorem dX0_covered_28 : decode cX0_covered 28 = .ok (.ireturn, 1) := dk_172 (dk_at dksX0_covered_1 5 rfl rfl)
abbrev cX0_changedRadius : ByteArray := method_29_code
def yX0_changedRadius : MethodName := ⟨RX0, "changedRadius", "(LNetworkCenters;II[J)I"⟩
def dkwX0_changedRadius_0 : List UInt8 := [45, 3, 42, 27, 28, 182, 0, 99, 133, 80, 167, 0, 11, 58, 4, 4, 172, 58, 4, 5, 172, 3, 172]
abbrev dktX0_changedRadius_0 : List UInt8 := dkwX0_changedRadius_0 ++ []
theorem dksX0_changedRadius_0 : cX0_changedRadius.data.toList.drop 0 = dktX0_changedRadius_0 := by decide +kernel
theorem dX0_changedRadius_0 : decode cX0_changedRadius 0 = .ok (.aload_n 3, 1) := dk_45 (dk_at dksX0_changedRadius_0 0 rfl rfl)
theorem dX0_changedRadius_1 : decode cX0_changedRadius 1 = .ok (.iconst 0, 1) := dk_3 (dk_at dksX0_changedRadius_0 1 rfl rfl)
theorem dX0_changedRadius_2 : decode cX0_changedRadius 2 = .ok (.aload_n 0, 1) := dk_42 (dk_at dksX0_changedRadius_0 2 rfl rfl)
theorem dX0_changedRadius_3 : decode cX0_changedRadius 3 = .ok (.iload_n 1, 1) := dk_27 (dk_at dksX0_changedRadius_0 3 rfl rfl)
theorem dX0_changedRadius_4 : decode cX0_changedRadius 4 = .ok (.iload_n 2, 1) := dk_28 (dk_at dksX0_changedRadius_0 4 rfl rfl)
theorem dX0_changedRadius_5 : decode cX0_changedRadius 5 = .ok (.invokevirtual 99, 3) := dk_182 0 99 (dk_at dksX0_changedRadius_0 5 rfl rfl)
theorem dX0_changedRadius_8 : decode cX0_changedRadius 8 = .ok (.i2l, 1) := dk_133 (dk_at dksX0_changedRadius_0 8 rfl rfl)
theorem dX0_changedRadius_9 : decode cX0_changedRadius 9 = .ok (.lastore, 1) := dk_80 (dk_at dksX0_changedRadius_0 9 rfl rfl)
theorem dX0_changedRadius_10 : decode cX0_changedRadius 10 = .ok (.goto 11, 3) := dk_167 0 11 (dk_at dksX0_changedRadius_0 10 rfl rfl)
theorem dX0_changedRadius_13 : decode cX0_changedRadius 13 = .ok (.astore 4, 2) := dk_58 4 (dk_at dksX0_changedRadius_0 13 rfl rfl)
theorem dX0_changedRadius_15 : decode cX0_changedRadius 15 = .ok (.iconst 1, 1) := dk_4 (dk_at dksX0_changedRadius_0 15 rfl rfl)
theorem dX0_changedRadius_16 : decode cX0_changedRadius 16 = .ok (.ireturn, 1) := dk_172 (dk_at dksX0_changedRadius_0 16 rfl rfl)
theorem dX0_changedRadius_17 : decode cX0_changedRadius 17 = .ok (.astore 4, 2) := dk_58 4 (dk_at dksX0_changedRadius_0 17 rfl rfl)
theorem dX0_changedRadius_19 : decode cX0_changedRadius 19 = .ok (.iconst 2, 1) := dk_5 (dk_at dksX0_changedRadius_0 19 rfl rfl)
theorem dX0_changedRadius_20 : decode cX0_changedRadius 20 = .ok (.ireturn, 1) := dk_172 (dk_at dksX0_changedRadius_0 20 rfl rfl)
theorem dX0_changedRadius_21 : decode cX0_changedRadius 21 = .ok (.iconst 0, 1) := dk_3 (dk_at dksX0_changedRadius_0 21 rfl rfl)
theorem dX0_changedRadius_22 : decode cX0_changedRadius 22 = .ok (.ireturn, 1) := dk_172 (dk_at dksX0_changedRadius_0 22 rfl rfl)
abbrev cX0_radiusWithout : ByteArray := method_30_code
def yX0_radiusWithout : MethodName := ⟨RX0, "radiusWithout", "(LNetworkCenters;II[J)I"⟩
def dkwX0_radiusWithout_0 : List UInt8 := [45, 3, 42, 27, 28, 182, 0, 102, 133, 80, 167, 0, 11, 58, 4, 4, 172, 58, 4, 5, 172, 3, 172]
abbrev dktX0_radiusWithout_0 : List UInt8 := dkwX0_radiusWithout_0 ++ []
theorem dksX0_radiusWithout_0 : cX0_radiusWithout.data.toList.drop 0 = dktX0_radiusWithout_0 := by decide +kernel
theorem dX0_radiusWithout_0 : decode cX0_radiusWithout 0 = .ok (.aload_n 3, 1) := dk_45 (dk_at dksX0_radiusWithout_0 0 rfl rfl)
theorem dX0_radiusWithout_1 : decode cX0_radiusWithout 1 = .ok (.iconst 0, 1) := dk_3 (dk_at dksX0_radiusWithout_0 1 rfl rfl)
theorem dX0_radiusWithout_2 : decode cX0_radiusWithout 2 = .ok (.aload_n 0, 1) := dk_42 (dk_at dksX0_radiusWithout_0 2 rfl rfl)
theorem dX0_radiusWithout_3 : decode cX0_radiusWithout 3 = .ok (.iload_n 1, 1) := dk_27 (dk_at dksX0_radiusWithout_0 3 rfl rfl)
theorem dX0_radiusWithout_4 : decode cX0_radiusWithout 4 = .ok (.iload_n 2, 1) := dk_28 (dk_at dksX0_radiusWithout_0 4 rfl rfl)
theorem dX0_radiusWithout_5 : decode cX0_radiusWithout 5 = .ok (.invokevirtual 102, 3) := dk_182 0 102 (dk_at dksX0_radiusWithout_0 5 rfl rfl)
theorem dX0_radiusWithout_8 : decode cX0_radiusWithout 8 = .ok (.i2l, 1) := dk_133 (dk_at dksX0_radiusWithout_0 8 rfl rfl)
theorem dX0_radiusWithout_9 : decode cX0_radiusWithout 9 = .ok (.lastore, 1) := dk_80 (dk_at dksX0_radiusWithout_0 9 rfl rfl)
theorem dX0_radiusWithout_10 : decode cX0_radiusWithout 10 = .ok (.goto 11, 3) := dk_167 0 11 (dk_at dksX0_radiusWithout_0 10 rfl rfl)
theorem dX0_radiusWithout_13 : decode cX0_radiusWithout 13 = .ok (.astore 4, 2) := dk_58 4 (dk_at dksX0_radiusWithout_0 13 rfl rfl)
theorem dX0_radiusWithout_15 : decode cX0_radiusWithout 15 = .ok (.iconst 1, 1) := dk_4 (dk_at dksX0_radiusWithout_0 15 rfl rfl)
theorem dX0_radiusWithout_16 : decode cX0_radiusWithout 16 = .ok (.ireturn, 1) := dk_172 (dk_at dksX0_radiusWithout_0 16 rfl rfl)
theorem dX0_radiusWithout_17 : decode cX0_radiusWithout 17 = .ok (.astore 4, 2) := dk_58 4 (dk_at dksX0_radiusWithout_0 17 rfl rfl)
theorem dX0_radiusWithout_19 : decode cX0_radiusWithout 19 = .ok (.iconst 2, 1) := dk_5 (dk_at dksX0_radiusWithout_0 19 rfl rfl)
theorem dX0_radiusWithout_20 : decode cX0_radiusWithout 20 = .ok (.ireturn, 1) := dk_172 (dk_at dksX0_radiusWithout_0 20 rfl rfl)
theorem dX0_radiusWithout_21 : decode cX0_radiusWithout 21 = .ok (.iconst 0, 1) := dk_3 (dk_at dksX0_radiusWithout_0 21 rfl rfl)
theorem dX0_radiusWithout_22 : decode cX0_radiusWithout 22 = .ok (.ireturn, 1) := dk_172 (dk_at dksX0_radiusWithout_0 22 rfl rfl)
abbrev cX0_type : ByteArray := method_31_code
def yX0_type : MethodName := ⟨RX0, "type", "(LNetworkCenters;I[J)I"⟩
def dkwX0_type_0 : List UInt8 := [44, 3, 42, 27, 182, 0, 105, 133, 80, 167, 0, 9, 78, 4, 172, 78, 5, 172, 3, 172]
abbrev dktX0_type_0 : List UInt8 := dkwX0_type_0 ++ []
theorem dksX0_type_0 : cX0_type.data.toList.drop 0 = dktX0_type_0 := by decide +kernel
theorem dX0_type_0 : decode cX0_type 0 = .ok (.aload_n 2, 1) := dk_44 (dk_at dksX0_type_0 0 rfl rfl)
theorem dX0_type_1 : decode cX0_type 1 = .ok (.iconst 0, 1) := dk_3 (dk_at dksX0_type_0 1 rfl rfl)
theorem dX0_type_2 : decode cX0_type 2 = .ok (.aload_n 0, 1) := dk_42 (dk_at dksX0_type_0 2 rfl rfl)
theorem dX0_type_3 : decode cX0_type 3 = .ok (.iload_n 1, 1) := dk_27 (dk_at dksX0_type_0 3 rfl rfl)
theorem dX0_type_4 : decode cX0_type 4 = .ok (.invokevirtual 105, 3) := dk_182 0 105 (dk_at dksX0_type_0 4 rfl rfl)
theorem dX0_type_7 : decode cX0_type 7 = .ok (.i2l, 1) := dk_133 (dk_at dksX0_type_0 7 rfl rfl)
theorem dX0_type_8 : decode cX0_type 8 = .ok (.lastore, 1) := dk_80 (dk_at dksX0_type_0 8 rfl rfl)
theorem dX0_type_9 : decode cX0_type 9 = .ok (.goto 9, 3) := dk_167 0 9 (dk_at dksX0_type_0 9 rfl rfl)
theorem dX0_type_12 : decode cX0_type 12 = .ok (.astore_n 3, 1) := dk_78 (dk_at dksX0_type_0 12 rfl rfl)
theorem dX0_type_13 : decode cX0_type 13 = .ok (.iconst 1, 1) := dk_4 (dk_at dksX0_type_0 13 rfl rfl)
theorem dX0_type_14 : decode cX0_type 14 = .ok (.ireturn, 1) := dk_172 (dk_at dksX0_type_0 14 rfl rfl)
theorem dX0_type_15 : decode cX0_type 15 = .ok (.astore_n 3, 1) := dk_78 (dk_at dksX0_type_0 15 rfl rfl)
theorem dX0_type_16 : decode cX0_type 16 = .ok (.iconst 2, 1) := dk_5 (dk_at dksX0_type_0 16 rfl rfl)
theorem dX0_type_17 : decode cX0_type 17 = .ok (.ireturn, 1) := dk_172 (dk_at dksX0_type_0 17 rfl rfl)
theorem dX0_type_18 : decode cX0_type 18 = .ok (.iconst 0, 1) := dk_3 (dk_at dksX0_type_0 18 rfl rfl)
theorem dX0_type_19 : decode cX0_type 19 = .ok (.ireturn, 1) := dk_172 (dk_at dksX0_type_0 19 rfl rfl)
abbrev cX0_run : ByteArray := method_32_code
def yX0_run : MethodName := ⟨RX0, "run", "(LNetworkCenters;[J)I"⟩
def dkwX0_run_0 : List UInt8 := [43, 3, 42, 182, 0, 108, 133, 80, 167, 0, 6, 77, 4, 172, 3, 172]
abbrev dktX0_run_0 : List UInt8 := dkwX0_run_0 ++ []
theorem dksX0_run_0 : cX0_run.data.toList.drop 0 = dktX0_run_0 := by decide +kernel
theorem dX0_run_0 : decode cX0_run 0 = .ok (.aload_n 1, 1) := dk_43 (dk_at dksX0_run_0 0 rfl rfl)
theorem dX0_run_1 : decode cX0_run 1 = .ok (.iconst 0, 1) := dk_3 (dk_at dksX0_run_0 1 rfl rfl)
theorem dX0_run_2 : decode cX0_run 2 = .ok (.aload_n 0, 1) := dk_42 (dk_at dksX0_run_0 2 rfl rfl)
theorem dX0_run_3 : decode cX0_run 3 = .ok (.invokevirtual 108, 3) := dk_182 0 108 (dk_at dksX0_run_0 3 rfl rfl)
theorem dX0_run_6 : decode cX0_run 6 = .ok (.i2l, 1) := dk_133 (dk_at dksX0_run_0 6 rfl rfl)
theorem dX0_run_7 : decode cX0_run 7 = .ok (.lastore, 1) := dk_80 (dk_at dksX0_run_0 7 rfl rfl)
theorem dX0_run_8 : decode cX0_run 8 = .ok (.goto 6, 3) := dk_167 0 6 (dk_at dksX0_run_0 8 rfl rfl)
theorem dX0_run_11 : decode cX0_run 11 = .ok (.astore_n 2, 1) := dk_77 (dk_at dksX0_run_0 11 rfl rfl)
theorem dX0_run_12 : decode cX0_run 12 = .ok (.iconst 1, 1) := dk_4 (dk_at dksX0_run_0 12 rfl rfl)
theorem dX0_run_13 : decode cX0_run 13 = .ok (.ireturn, 1) := dk_172 (dk_at dksX0_run_0 13 rfl rfl)
theorem dX0_run_14 : decode cX0_run 14 = .ok (.iconst 0, 1) := dk_3 (dk_at dksX0_run_0 14 rfl rfl)
theorem dX0_run_15 : decode cX0_run 15 = .ok (.ireturn, 1) := dk_172 (dk_at dksX0_run_0 15 rfl rfl)
abbrev cX0_undo : ByteArray := method_33_code
def yX0_undo : MethodName := ⟨RX0, "undo", "(LNetworkCenters;[J)I"⟩
def dkwX0_undo_0 : List UInt8 := [43, 3, 42, 182, 0, 112, 133, 80, 167, 0, 6, 77, 4, 172, 3, 172]
abbrev dktX0_undo_0 : List UInt8 := dkwX0_undo_0 ++ []
theorem dksX0_undo_0 : cX0_undo.data.toList.drop 0 = dktX0_undo_0 := by decide +kernel
theorem dX0_undo_0 : decode cX0_undo 0 = .ok (.aload_n 1, 1) := dk_43 (dk_at dksX0_undo_0 0 rfl rfl)
theorem dX0_undo_1 : decode cX0_undo 1 = .ok (.iconst 0, 1) := dk_3 (dk_at dksX0_undo_0 1 rfl rfl)
theorem dX0_undo_2 : decode cX0_undo 2 = .ok (.aload_n 0, 1) := dk_42 (dk_at dksX0_undo_0 2 rfl rfl)
theorem dX0_undo_3 : decode cX0_undo 3 = .ok (.invokevirtual 112, 3) := dk_182 0 112 (dk_at dksX0_undo_0 3 rfl rfl)
theorem dX0_undo_6 : decode cX0_undo 6 = .ok (.i2l, 1) := dk_133 (dk_at dksX0_undo_0 6 rfl rfl)
theorem dX0_undo_7 : decode cX0_undo 7 = .ok (.lastore, 1) := dk_80 (dk_at dksX0_undo_0 7 rfl rfl)
theorem dX0_undo_8 : decode cX0_undo 8 = .ok (.goto 6, 3) := dk_167 0 6 (dk_at dksX0_undo_0 8 rfl rfl)
theorem dX0_undo_11 : decode cX0_undo 11 = .ok (.astore_n 2, 1) := dk_77 (dk_at dksX0_undo_0 11 rfl rfl)
theorem dX0_undo_12 : decode cX0_undo 12 = .ok (.iconst 1, 1) := dk_4 (dk_at dksX0_undo_0 12 rfl rfl)
theorem dX0_undo_13 : decode cX0_undo 13 = .ok (.ireturn, 1) := dk_172 (dk_at dksX0_undo_0 13 rfl rfl)
theorem dX0_undo_14 : decode cX0_undo 14 = .ok (.iconst 0, 1) := dk_3 (dk_at dksX0_undo_0 14 rfl rfl)
theorem dX0_undo_15 : decode cX0_undo 15 = .ok (.ireturn, 1) := dk_172 (dk_at dksX0_undo_0 15 rfl rfl)
theorem q104 : (Jvm.Cond.initialized "NetworkCentersLaw") ∈ lw_all := lw_g (lw_at lw_m1 0 rfl) rfl
theorem q151 : (Jvm.Cond.classLink "NetworkCentersLaw" (8 : Nat) "NetworkCenters") ∈ lw_all := lw_g (lw_at lw_m1 47 rfl) rfl
theorem q153 : (Jvm.Cond.methodLink "NetworkCentersLaw" (115 : Nat) ({ cls := "NetworkCenters", name := "<init>", desc := "()V" } : Jvm.MethodName)) ∈ lw_all := lw_g (lw_at lw_m1 49 rfl) rfl
theorem q307 : (Jvm.Cond.methodLink "NetworkCentersLaw" (166 : Nat) ({ cls := "NetworkCenters", name := "diameter", desc := "()I" } : Jvm.MethodName)) ∈ lw_all := lw_g (lw_at lw_m1 203 rfl) rfl
theorem q315 : (Jvm.Cond.methodLink "NetworkCentersLaw" (220 : Nat) ({ cls := "NetworkCenters", name := "clearText", desc := "()I" } : Jvm.MethodName)) ∈ lw_all := lw_g (lw_at lw_m1 211 rfl) rfl
theorem q662 : (Jvm.Cond.methodLink "NetworkCentersLaw" (224 : Nat) ({ cls := "NetworkCenters", name := "fault", desc := "()I" } : Jvm.MethodName)) ∈ lw_all := lw_g (lw_at lw_m3 78 rfl) rfl
theorem q808 : (Jvm.Cond.methodLink "NetworkCentersLaw" (235 : Nat) ({ cls := "NetworkCenters", name := "checksum", desc := "()J" } : Jvm.MethodName)) ∈ lw_all := lw_g (lw_at lw_m3 224 rfl) rfl
theorem q1155 : (Jvm.Cond.methodLink "NetworkCentersLaw" (119 : Nat) ({ cls := "NetworkCentersLaw", name := "reset", desc := "(LNetworkCenters;I[J)I" } : Jvm.MethodName)) ∈ lw_all := lw_g (lw_at lw_m5 91 rfl) rfl
theorem q1156 : (Jvm.Cond.static ({ cls := "NetworkCentersLaw", name := "reset", desc := "(LNetworkCenters;I[J)I" } : Jvm.MethodName)) ∈ lw_all := lw_g (lw_at lw_m5 92 rfl) rfl
theorem q1157 : (Jvm.Cond.codeWith ({ cls := "NetworkCentersLaw", name := "reset", desc := "(LNetworkCenters;I[J)I" } : Jvm.MethodName) method_3_code (4 : Nat) (Option.some Jvm.ClassFile.FieldType.int) [((0 : Nat), (9 : Nat), (12 : Nat), (13 : Nat))]) ∈ lw_all := lw_g (lw_at lw_m5 93 rfl) rfl
theorem q1158 : (Jvm.Cond.classLink "NetworkCentersLaw" (13 : Nat) "java/lang/IllegalArgumentException") ∈ lw_all := lw_g (lw_at lw_m5 94 rfl) rfl
theorem q1159 : (Jvm.Cond.methodLink "NetworkCentersLaw" (7 : Nat) ({ cls := "NetworkCenters", name := "reset", desc := "(I)I" } : Jvm.MethodName)) ∈ lw_all := lw_g (lw_at lw_m5 95 rfl) rfl
theorem q1277 : (Jvm.Cond.methodLink "NetworkCentersLaw" (128 : Nat) ({ cls := "NetworkCentersLaw", name := "connect", desc := "(LNetworkCenters;III[J)I" } : Jvm.MethodName)) ∈ lw_all := lw_g (lw_at lw_m5 213 rfl) rfl
theorem q1278 : (Jvm.Cond.static ({ cls := "NetworkCentersLaw", name := "connect", desc := "(LNetworkCenters;III[J)I" } : Jvm.MethodName)) ∈ lw_all := lw_g (lw_at lw_m5 214 rfl) rfl
theorem q1279 : (Jvm.Cond.codeWith ({ cls := "NetworkCentersLaw", name := "connect", desc := "(LNetworkCenters;III[J)I" } : Jvm.MethodName) method_4_code (6 : Nat) (Option.some Jvm.ClassFile.FieldType.int) [((0 : Nat), (12 : Nat), (15 : Nat), (19 : Nat)), ((0 : Nat), (12 : Nat), (19 : Nat), (13 : Nat)), ((0 : Nat), (12 : Nat), (23 : Nat), (21 : Nat))]) ∈ lw_all := lw_g (lw_at lw_m5 215 rfl) rfl
theorem q1280 : (Jvm.Cond.classLink "NetworkCentersLaw" (19 : Nat) "java/lang/IndexOutOfBoundsException") ∈ lw_all := lw_g (lw_at lw_m5 216 rfl) rfl
theorem q1283 : (Jvm.Cond.classLink "NetworkCentersLaw" (21 : Nat) "java/lang/IllegalStateException") ∈ lw_all := lw_g (lw_at lw_m5 219 rfl) rfl
theorem q1284 : (Jvm.Cond.methodLink "NetworkCentersLaw" (15 : Nat) ({ cls := "NetworkCenters", name := "connect", desc := "(III)I" } : Jvm.MethodName)) ∈ lw_all := lw_g (lw_at lw_m5 220 rfl) rfl
theorem q1361 : (Jvm.Cond.methodLink "NetworkCentersLaw" (132 : Nat) ({ cls := "NetworkCentersLaw", name := "disconnect", desc := "(LNetworkCenters;I[J)I" } : Jvm.MethodName)) ∈ lw_all := lw_g (lw_at lw_m6 57 rfl) rfl
theorem q1362 : (Jvm.Cond.static ({ cls := "NetworkCentersLaw", name := "disconnect", desc := "(LNetworkCenters;I[J)I" } : Jvm.MethodName)) ∈ lw_all := lw_g (lw_at lw_m6 58 rfl) rfl
theorem q1363 : (Jvm.Cond.codeWith ({ cls := "NetworkCentersLaw", name := "disconnect", desc := "(LNetworkCenters;I[J)I" } : Jvm.MethodName) method_5_code (4 : Nat) (Option.some Jvm.ClassFile.FieldType.int) [((0 : Nat), (9 : Nat), (12 : Nat), (19 : Nat))]) ∈ lw_all := lw_g (lw_at lw_m6 59 rfl) rfl
theorem q1364 : (Jvm.Cond.methodLink "NetworkCentersLaw" (23 : Nat) ({ cls := "NetworkCenters", name := "disconnect", desc := "(I)I" } : Jvm.MethodName)) ∈ lw_all := lw_g (lw_at lw_m6 60 rfl) rfl
theorem q1701 : (Jvm.Cond.methodLink "NetworkCentersLaw" (135 : Nat) ({ cls := "NetworkCentersLaw", name := "setWeight", desc := "(LNetworkCenters;II[J)I" } : Jvm.MethodName)) ∈ lw_all := lw_g (lw_at lw_m7 157 rfl) rfl
theorem q1702 : (Jvm.Cond.static ({ cls := "NetworkCentersLaw", name := "setWeight", desc := "(LNetworkCenters;II[J)I" } : Jvm.MethodName)) ∈ lw_all := lw_g (lw_at lw_m7 158 rfl) rfl
theorem q1703 : (Jvm.Cond.codeWith ({ cls := "NetworkCentersLaw", name := "setWeight", desc := "(LNetworkCenters;II[J)I" } : Jvm.MethodName) method_6_code (5 : Nat) (Option.some Jvm.ClassFile.FieldType.int) [((0 : Nat), (10 : Nat), (13 : Nat), (19 : Nat)), ((0 : Nat), (10 : Nat), (17 : Nat), (13 : Nat))]) ∈ lw_all := lw_g (lw_at lw_m7 159 rfl) rfl
theorem q1704 : (Jvm.Cond.methodLink "NetworkCentersLaw" (26 : Nat) ({ cls := "NetworkCenters", name := "setWeight", desc := "(II)I" } : Jvm.MethodName)) ∈ lw_all := lw_g (lw_at lw_m7 160 rfl) rfl
theorem q1720 : (Jvm.Cond.methodLink "NetworkCentersLaw" (139 : Nat) ({ cls := "NetworkCentersLaw", name := "setTrend", desc := "(LNetworkCenters;II[J)I" } : Jvm.MethodName)) ∈ lw_all := lw_g (lw_at lw_m7 176 rfl) rfl
theorem q1721 : (Jvm.Cond.static ({ cls := "NetworkCentersLaw", name := "setTrend", desc := "(LNetworkCenters;II[J)I" } : Jvm.MethodName)) ∈ lw_all := lw_g (lw_at lw_m7 177 rfl) rfl
theorem q1722 : (Jvm.Cond.codeWith ({ cls := "NetworkCentersLaw", name := "setTrend", desc := "(LNetworkCenters;II[J)I" } : Jvm.MethodName) method_7_code (5 : Nat) (Option.some Jvm.ClassFile.FieldType.int) [((0 : Nat), (10 : Nat), (13 : Nat), (19 : Nat)), ((0 : Nat), (10 : Nat), (17 : Nat), (13 : Nat))]) ∈ lw_all := lw_g (lw_at lw_m7 178 rfl) rfl
theorem q1723 : (Jvm.Cond.methodLink "NetworkCentersLaw" (30 : Nat) ({ cls := "NetworkCenters", name := "setTrend", desc := "(II)I" } : Jvm.MethodName)) ∈ lw_all := lw_g (lw_at lw_m7 179 rfl) rfl
theorem q1731 : (Jvm.Cond.methodLink "NetworkCentersLaw" (142 : Nat) ({ cls := "NetworkCentersLaw", name := "forbid", desc := "(LNetworkCenters;III[J)I" } : Jvm.MethodName)) ∈ lw_all := lw_g (lw_at lw_m7 187 rfl) rfl
theorem q1732 : (Jvm.Cond.static ({ cls := "NetworkCentersLaw", name := "forbid", desc := "(LNetworkCenters;III[J)I" } : Jvm.MethodName)) ∈ lw_all := lw_g (lw_at lw_m7 188 rfl) rfl
theorem q1733 : (Jvm.Cond.codeWith ({ cls := "NetworkCentersLaw", name := "forbid", desc := "(LNetworkCenters;III[J)I" } : Jvm.MethodName) method_8_code (6 : Nat) (Option.some Jvm.ClassFile.FieldType.int) [((0 : Nat), (12 : Nat), (15 : Nat), (19 : Nat)), ((0 : Nat), (12 : Nat), (19 : Nat), (13 : Nat)), ((0 : Nat), (12 : Nat), (23 : Nat), (21 : Nat))]) ∈ lw_all := lw_g (lw_at lw_m7 189 rfl) rfl
theorem q1734 : (Jvm.Cond.methodLink "NetworkCentersLaw" (33 : Nat) ({ cls := "NetworkCenters", name := "forbid", desc := "(III)I" } : Jvm.MethodName)) ∈ lw_all := lw_g (lw_at lw_m7 190 rfl) rfl
theorem q1748 : (Jvm.Cond.methodLink "NetworkCentersLaw" (145 : Nat) ({ cls := "NetworkCentersLaw", name := "allow", desc := "(LNetworkCenters;I[J)I" } : Jvm.MethodName)) ∈ lw_all := lw_g (lw_at lw_m7 204 rfl) rfl
theorem q1749 : (Jvm.Cond.static ({ cls := "NetworkCentersLaw", name := "allow", desc := "(LNetworkCenters;I[J)I" } : Jvm.MethodName)) ∈ lw_all := lw_g (lw_at lw_m7 205 rfl) rfl
theorem q1750 : (Jvm.Cond.codeWith ({ cls := "NetworkCentersLaw", name := "allow", desc := "(LNetworkCenters;I[J)I" } : Jvm.MethodName) method_9_code (4 : Nat) (Option.some Jvm.ClassFile.FieldType.int) [((0 : Nat), (9 : Nat), (12 : Nat), (19 : Nat))]) ∈ lw_all := lw_g (lw_at lw_m7 206 rfl) rfl
theorem q1751 : (Jvm.Cond.methodLink "NetworkCentersLaw" (36 : Nat) ({ cls := "NetworkCenters", name := "allow", desc := "(I)I" } : Jvm.MethodName)) ∈ lw_all := lw_g (lw_at lw_m7 207 rfl) rfl
theorem q1763 : (Jvm.Cond.methodLink "NetworkCentersLaw" (148 : Nat) ({ cls := "NetworkCentersLaw", name := "count", desc := "(LNetworkCenters;I[J)I" } : Jvm.MethodName)) ∈ lw_all := lw_g (lw_at lw_m7 219 rfl) rfl
theorem q1764 : (Jvm.Cond.static ({ cls := "NetworkCentersLaw", name := "count", desc := "(LNetworkCenters;I[J)I" } : Jvm.MethodName)) ∈ lw_all := lw_g (lw_at lw_m7 220 rfl) rfl
theorem q1765 : (Jvm.Cond.codeWith ({ cls := "NetworkCentersLaw", name := "count", desc := "(LNetworkCenters;I[J)I" } : Jvm.MethodName) method_10_code (4 : Nat) (Option.some Jvm.ClassFile.FieldType.int) [((0 : Nat), (9 : Nat), (12 : Nat), (13 : Nat))]) ∈ lw_all := lw_g (lw_at lw_m7 221 rfl) rfl
theorem q1766 : (Jvm.Cond.methodLink "NetworkCentersLaw" (39 : Nat) ({ cls := "NetworkCenters", name := "count", desc := "(I)I" } : Jvm.MethodName)) ∈ lw_all := lw_g (lw_at lw_m7 222 rfl) rfl
theorem q1770 : (Jvm.Cond.methodLink "NetworkCentersLaw" (151 : Nat) ({ cls := "NetworkCentersLaw", name := "edge", desc := "(LNetworkCenters;II[J)I" } : Jvm.MethodName)) ∈ lw_all := lw_g (lw_at lw_m7 226 rfl) rfl
theorem q1771 : (Jvm.Cond.static ({ cls := "NetworkCentersLaw", name := "edge", desc := "(LNetworkCenters;II[J)I" } : Jvm.MethodName)) ∈ lw_all := lw_g (lw_at lw_m7 227 rfl) rfl
theorem q1772 : (Jvm.Cond.codeWith ({ cls := "NetworkCentersLaw", name := "edge", desc := "(LNetworkCenters;II[J)I" } : Jvm.MethodName) method_11_code (5 : Nat) (Option.some Jvm.ClassFile.FieldType.int) [((0 : Nat), (10 : Nat), (13 : Nat), (19 : Nat)), ((0 : Nat), (10 : Nat), (17 : Nat), (13 : Nat))]) ∈ lw_all := lw_g (lw_at lw_m7 228 rfl) rfl
theorem q1773 : (Jvm.Cond.methodLink "NetworkCentersLaw" (42 : Nat) ({ cls := "NetworkCenters", name := "edge", desc := "(II)I" } : Jvm.MethodName)) ∈ lw_all := lw_g (lw_at lw_m7 229 rfl) rfl
theorem q1777 : (Jvm.Cond.methodLink "NetworkCentersLaw" (154 : Nat) ({ cls := "NetworkCentersLaw", name := "node", desc := "(LNetworkCenters;II[J)I" } : Jvm.MethodName)) ∈ lw_all := lw_g (lw_at lw_m7 233 rfl) rfl
theorem q1778 : (Jvm.Cond.static ({ cls := "NetworkCentersLaw", name := "node", desc := "(LNetworkCenters;II[J)I" } : Jvm.MethodName)) ∈ lw_all := lw_g (lw_at lw_m7 234 rfl) rfl
theorem q1779 : (Jvm.Cond.codeWith ({ cls := "NetworkCentersLaw", name := "node", desc := "(LNetworkCenters;II[J)I" } : Jvm.MethodName) method_12_code (5 : Nat) (Option.some Jvm.ClassFile.FieldType.int) [((0 : Nat), (10 : Nat), (13 : Nat), (19 : Nat)), ((0 : Nat), (10 : Nat), (17 : Nat), (13 : Nat))]) ∈ lw_all := lw_g (lw_at lw_m7 235 rfl) rfl
theorem q1780 : (Jvm.Cond.methodLink "NetworkCentersLaw" (45 : Nat) ({ cls := "NetworkCenters", name := "node", desc := "(II)I" } : Jvm.MethodName)) ∈ lw_all := lw_g (lw_at lw_m7 236 rfl) rfl
theorem q1784 : (Jvm.Cond.methodLink "NetworkCentersLaw" (157 : Nat) ({ cls := "NetworkCentersLaw", name := "stretch", desc := "(LNetworkCenters;II[J)I" } : Jvm.MethodName)) ∈ lw_all := lw_g (lw_at lw_m8 0 rfl) rfl
theorem q1785 : (Jvm.Cond.static ({ cls := "NetworkCentersLaw", name := "stretch", desc := "(LNetworkCenters;II[J)I" } : Jvm.MethodName)) ∈ lw_all := lw_g (lw_at lw_m8 1 rfl) rfl
theorem q1786 : (Jvm.Cond.codeWith ({ cls := "NetworkCentersLaw", name := "stretch", desc := "(LNetworkCenters;II[J)I" } : Jvm.MethodName) method_13_code (5 : Nat) (Option.some Jvm.ClassFile.FieldType.int) [((0 : Nat), (10 : Nat), (13 : Nat), (19 : Nat)), ((0 : Nat), (10 : Nat), (17 : Nat), (13 : Nat))]) ∈ lw_all := lw_g (lw_at lw_m8 2 rfl) rfl
theorem q1787 : (Jvm.Cond.methodLink "NetworkCentersLaw" (48 : Nat) ({ cls := "NetworkCenters", name := "stretch", desc := "(II)I" } : Jvm.MethodName)) ∈ lw_all := lw_g (lw_at lw_m8 3 rfl) rfl
theorem q1791 : (Jvm.Cond.methodLink "NetworkCentersLaw" (160 : Nat) ({ cls := "NetworkCentersLaw", name := "distance", desc := "(LNetworkCenters;II[J)I" } : Jvm.MethodName)) ∈ lw_all := lw_g (lw_at lw_m8 7 rfl) rfl
theorem q1792 : (Jvm.Cond.static ({ cls := "NetworkCentersLaw", name := "distance", desc := "(LNetworkCenters;II[J)I" } : Jvm.MethodName)) ∈ lw_all := lw_g (lw_at lw_m8 8 rfl) rfl
theorem q1793 : (Jvm.Cond.codeWith ({ cls := "NetworkCentersLaw", name := "distance", desc := "(LNetworkCenters;II[J)I" } : Jvm.MethodName) method_14_code (5 : Nat) (Option.some Jvm.ClassFile.FieldType.int) [((0 : Nat), (10 : Nat), (13 : Nat), (19 : Nat))]) ∈ lw_all := lw_g (lw_at lw_m8 9 rfl) rfl
theorem q1794 : (Jvm.Cond.methodLink "NetworkCentersLaw" (51 : Nat) ({ cls := "NetworkCenters", name := "distance", desc := "(II)I" } : Jvm.MethodName)) ∈ lw_all := lw_g (lw_at lw_m8 10 rfl) rfl
theorem q1799 : (Jvm.Cond.methodLink "NetworkCentersLaw" (163 : Nat) ({ cls := "NetworkCentersLaw", name := "next", desc := "(LNetworkCenters;II[J)I" } : Jvm.MethodName)) ∈ lw_all := lw_g (lw_at lw_m8 15 rfl) rfl
theorem q1800 : (Jvm.Cond.static ({ cls := "NetworkCentersLaw", name := "next", desc := "(LNetworkCenters;II[J)I" } : Jvm.MethodName)) ∈ lw_all := lw_g (lw_at lw_m8 16 rfl) rfl
theorem q1801 : (Jvm.Cond.codeWith ({ cls := "NetworkCentersLaw", name := "next", desc := "(LNetworkCenters;II[J)I" } : Jvm.MethodName) method_15_code (5 : Nat) (Option.some Jvm.ClassFile.FieldType.int) [((0 : Nat), (10 : Nat), (13 : Nat), (19 : Nat))]) ∈ lw_all := lw_g (lw_at lw_m8 17 rfl) rfl
theorem q1802 : (Jvm.Cond.methodLink "NetworkCentersLaw" (54 : Nat) ({ cls := "NetworkCenters", name := "next", desc := "(II)I" } : Jvm.MethodName)) ∈ lw_all := lw_g (lw_at lw_m8 18 rfl) rfl
theorem q1806 : (Jvm.Cond.methodLink "NetworkCentersLaw" (170 : Nat) ({ cls := "NetworkCentersLaw", name := "distanceTo", desc := "(LNetworkCenters;IIIII[J)I" } : Jvm.MethodName)) ∈ lw_all := lw_g (lw_at lw_m8 22 rfl) rfl
theorem q1807 : (Jvm.Cond.static ({ cls := "NetworkCentersLaw", name := "distanceTo", desc := "(LNetworkCenters;IIIII[J)I" } : Jvm.MethodName)) ∈ lw_all := lw_g (lw_at lw_m8 23 rfl) rfl
theorem q1808 : (Jvm.Cond.codeWith ({ cls := "NetworkCentersLaw", name := "distanceTo", desc := "(LNetworkCenters;IIIII[J)I" } : Jvm.MethodName) method_16_code (8 : Nat) (Option.some Jvm.ClassFile.FieldType.int) [((0 : Nat), (16 : Nat), (19 : Nat), (19 : Nat)), ((0 : Nat), (16 : Nat), (23 : Nat), (13 : Nat)), ((0 : Nat), (16 : Nat), (27 : Nat), (21 : Nat))]) ∈ lw_all := lw_g (lw_at lw_m8 24 rfl) rfl
theorem q1809 : (Jvm.Cond.methodLink "NetworkCentersLaw" (57 : Nat) ({ cls := "NetworkCenters", name := "distanceTo", desc := "(IIIII)I" } : Jvm.MethodName)) ∈ lw_all := lw_g (lw_at lw_m8 25 rfl) rfl
theorem q1821 : (Jvm.Cond.methodLink "NetworkCentersLaw" (174 : Nat) ({ cls := "NetworkCentersLaw", name := "isAllowed", desc := "(LNetworkCenters;III[J)I" } : Jvm.MethodName)) ∈ lw_all := lw_g (lw_at lw_m8 37 rfl) rfl
theorem q1822 : (Jvm.Cond.static ({ cls := "NetworkCentersLaw", name := "isAllowed", desc := "(LNetworkCenters;III[J)I" } : Jvm.MethodName)) ∈ lw_all := lw_g (lw_at lw_m8 38 rfl) rfl
theorem q1823 : (Jvm.Cond.codeWith ({ cls := "NetworkCentersLaw", name := "isAllowed", desc := "(LNetworkCenters;III[J)I" } : Jvm.MethodName) method_17_code (6 : Nat) (Option.some Jvm.ClassFile.FieldType.int) [((0 : Nat), (19 : Nat), (22 : Nat), (19 : Nat)), ((0 : Nat), (19 : Nat), (26 : Nat), (13 : Nat))]) ∈ lw_all := lw_g (lw_at lw_m8 39 rfl) rfl
theorem q1824 : (Jvm.Cond.methodLink "NetworkCentersLaw" (61 : Nat) ({ cls := "NetworkCenters", name := "isAllowed", desc := "(III)Z" } : Jvm.MethodName)) ∈ lw_all := lw_g (lw_at lw_m8 40 rfl) rfl
theorem q1829 : (Jvm.Cond.methodLink "NetworkCentersLaw" (177 : Nat) ({ cls := "NetworkCentersLaw", name := "height", desc := "(LNetworkCenters;IIIII[J)I" } : Jvm.MethodName)) ∈ lw_all := lw_g (lw_at lw_m8 45 rfl) rfl
theorem q1830 : (Jvm.Cond.static ({ cls := "NetworkCentersLaw", name := "height", desc := "(LNetworkCenters;IIIII[J)I" } : Jvm.MethodName)) ∈ lw_all := lw_g (lw_at lw_m8 46 rfl) rfl
theorem q1831 : (Jvm.Cond.codeWith ({ cls := "NetworkCentersLaw", name := "height", desc := "(LNetworkCenters;IIIII[J)I" } : Jvm.MethodName) method_18_code (8 : Nat) (Option.some Jvm.ClassFile.FieldType.int) [((0 : Nat), (16 : Nat), (19 : Nat), (19 : Nat)), ((0 : Nat), (16 : Nat), (23 : Nat), (13 : Nat)), ((0 : Nat), (16 : Nat), (27 : Nat), (21 : Nat))]) ∈ lw_all := lw_g (lw_at lw_m8 47 rfl) rfl
theorem q1832 : (Jvm.Cond.methodLink "NetworkCentersLaw" (65 : Nat) ({ cls := "NetworkCenters", name := "height", desc := "(IIIII)I" } : Jvm.MethodName)) ∈ lw_all := lw_g (lw_at lw_m8 48 rfl) rfl
theorem q1841 : (Jvm.Cond.methodLink "NetworkCentersLaw" (180 : Nat) ({ cls := "NetworkCentersLaw", name := "cost", desc := "(LNetworkCenters;IIII[J)I" } : Jvm.MethodName)) ∈ lw_all := lw_g (lw_at lw_m8 57 rfl) rfl
theorem q1842 : (Jvm.Cond.static ({ cls := "NetworkCentersLaw", name := "cost", desc := "(LNetworkCenters;IIII[J)I" } : Jvm.MethodName)) ∈ lw_all := lw_g (lw_at lw_m8 58 rfl) rfl
theorem q1843 : (Jvm.Cond.codeWith ({ cls := "NetworkCentersLaw", name := "cost", desc := "(LNetworkCenters;IIII[J)I" } : Jvm.MethodName) method_19_code (7 : Nat) (Option.some Jvm.ClassFile.FieldType.int) [((0 : Nat), (14 : Nat), (17 : Nat), (19 : Nat)), ((0 : Nat), (14 : Nat), (21 : Nat), (13 : Nat)), ((0 : Nat), (14 : Nat), (25 : Nat), (21 : Nat))]) ∈ lw_all := lw_g (lw_at lw_m8 59 rfl) rfl
theorem q1844 : (Jvm.Cond.methodLink "NetworkCentersLaw" (68 : Nat) ({ cls := "NetworkCenters", name := "cost", desc := "(IIII)I" } : Jvm.MethodName)) ∈ lw_all := lw_g (lw_at lw_m8 60 rfl) rfl
theorem q1848 : (Jvm.Cond.methodLink "NetworkCentersLaw" (184 : Nat) ({ cls := "NetworkCentersLaw", name := "corner", desc := "(LNetworkCenters;III[J)I" } : Jvm.MethodName)) ∈ lw_all := lw_g (lw_at lw_m8 64 rfl) rfl
theorem q1849 : (Jvm.Cond.static ({ cls := "NetworkCentersLaw", name := "corner", desc := "(LNetworkCenters;III[J)I" } : Jvm.MethodName)) ∈ lw_all := lw_g (lw_at lw_m8 65 rfl) rfl
theorem q1850 : (Jvm.Cond.codeWith ({ cls := "NetworkCentersLaw", name := "corner", desc := "(LNetworkCenters;III[J)I" } : Jvm.MethodName) method_20_code (6 : Nat) (Option.some Jvm.ClassFile.FieldType.int) [((0 : Nat), (12 : Nat), (15 : Nat), (19 : Nat)), ((0 : Nat), (12 : Nat), (19 : Nat), (13 : Nat)), ((0 : Nat), (12 : Nat), (23 : Nat), (21 : Nat))]) ∈ lw_all := lw_g (lw_at lw_m8 66 rfl) rfl
theorem q1851 : (Jvm.Cond.methodLink "NetworkCentersLaw" (72 : Nat) ({ cls := "NetworkCenters", name := "corner", desc := "(III)I" } : Jvm.MethodName)) ∈ lw_all := lw_g (lw_at lw_m8 67 rfl) rfl
theorem q1855 : (Jvm.Cond.methodLink "NetworkCentersLaw" (187 : Nat) ({ cls := "NetworkCentersLaw", name := "radius", desc := "(LNetworkCenters;II[J)I" } : Jvm.MethodName)) ∈ lw_all := lw_g (lw_at lw_m8 71 rfl) rfl
theorem q1856 : (Jvm.Cond.static ({ cls := "NetworkCentersLaw", name := "radius", desc := "(LNetworkCenters;II[J)I" } : Jvm.MethodName)) ∈ lw_all := lw_g (lw_at lw_m8 72 rfl) rfl
theorem q1857 : (Jvm.Cond.codeWith ({ cls := "NetworkCentersLaw", name := "radius", desc := "(LNetworkCenters;II[J)I" } : Jvm.MethodName) method_21_code (5 : Nat) (Option.some Jvm.ClassFile.FieldType.int) [((0 : Nat), (10 : Nat), (13 : Nat), (13 : Nat)), ((0 : Nat), (10 : Nat), (17 : Nat), (21 : Nat))]) ∈ lw_all := lw_g (lw_at lw_m8 73 rfl) rfl
theorem q1858 : (Jvm.Cond.methodLink "NetworkCentersLaw" (75 : Nat) ({ cls := "NetworkCenters", name := "radius", desc := "(II)I" } : Jvm.MethodName)) ∈ lw_all := lw_g (lw_at lw_m8 74 rfl) rfl
theorem q1862 : (Jvm.Cond.methodLink "NetworkCentersLaw" (190 : Nat) ({ cls := "NetworkCentersLaw", name := "center", desc := "(LNetworkCenters;II[J)I" } : Jvm.MethodName)) ∈ lw_all := lw_g (lw_at lw_m8 78 rfl) rfl
theorem q1863 : (Jvm.Cond.static ({ cls := "NetworkCentersLaw", name := "center", desc := "(LNetworkCenters;II[J)I" } : Jvm.MethodName)) ∈ lw_all := lw_g (lw_at lw_m8 79 rfl) rfl
theorem q1864 : (Jvm.Cond.codeWith ({ cls := "NetworkCentersLaw", name := "center", desc := "(LNetworkCenters;II[J)I" } : Jvm.MethodName) method_22_code (5 : Nat) (Option.some Jvm.ClassFile.FieldType.int) [((0 : Nat), (10 : Nat), (13 : Nat), (13 : Nat)), ((0 : Nat), (10 : Nat), (17 : Nat), (21 : Nat))]) ∈ lw_all := lw_g (lw_at lw_m8 80 rfl) rfl
theorem q1865 : (Jvm.Cond.methodLink "NetworkCentersLaw" (78 : Nat) ({ cls := "NetworkCenters", name := "center", desc := "(II)I" } : Jvm.MethodName)) ∈ lw_all := lw_g (lw_at lw_m8 81 rfl) rfl
theorem q1869 : (Jvm.Cond.methodLink "NetworkCentersLaw" (193 : Nat) ({ cls := "NetworkCentersLaw", name := "critical", desc := "(LNetworkCenters;I[J)I" } : Jvm.MethodName)) ∈ lw_all := lw_g (lw_at lw_m8 85 rfl) rfl
theorem q1870 : (Jvm.Cond.static ({ cls := "NetworkCentersLaw", name := "critical", desc := "(LNetworkCenters;I[J)I" } : Jvm.MethodName)) ∈ lw_all := lw_g (lw_at lw_m8 86 rfl) rfl
theorem q1871 : (Jvm.Cond.codeWith ({ cls := "NetworkCentersLaw", name := "critical", desc := "(LNetworkCenters;I[J)I" } : Jvm.MethodName) method_23_code (4 : Nat) (Option.some Jvm.ClassFile.FieldType.int) [((0 : Nat), (9 : Nat), (12 : Nat), (13 : Nat)), ((0 : Nat), (9 : Nat), (15 : Nat), (21 : Nat))]) ∈ lw_all := lw_g (lw_at lw_m8 87 rfl) rfl
theorem q1872 : (Jvm.Cond.methodLink "NetworkCentersLaw" (81 : Nat) ({ cls := "NetworkCenters", name := "critical", desc := "(I)I" } : Jvm.MethodName)) ∈ lw_all := lw_g (lw_at lw_m8 88 rfl) rfl
theorem q1876 : (Jvm.Cond.methodLink "NetworkCentersLaw" (196 : Nat) ({ cls := "NetworkCentersLaw", name := "median", desc := "(LNetworkCenters;I[J)I" } : Jvm.MethodName)) ∈ lw_all := lw_g (lw_at lw_m8 92 rfl) rfl
theorem q1877 : (Jvm.Cond.static ({ cls := "NetworkCentersLaw", name := "median", desc := "(LNetworkCenters;I[J)I" } : Jvm.MethodName)) ∈ lw_all := lw_g (lw_at lw_m8 93 rfl) rfl
theorem q1878 : (Jvm.Cond.codeWith ({ cls := "NetworkCentersLaw", name := "median", desc := "(LNetworkCenters;I[J)I" } : Jvm.MethodName) method_24_code (4 : Nat) (Option.some Jvm.ClassFile.FieldType.int) [((0 : Nat), (9 : Nat), (12 : Nat), (13 : Nat)), ((0 : Nat), (9 : Nat), (15 : Nat), (21 : Nat))]) ∈ lw_all := lw_g (lw_at lw_m8 94 rfl) rfl
theorem q1879 : (Jvm.Cond.methodLink "NetworkCentersLaw" (84 : Nat) ({ cls := "NetworkCenters", name := "median", desc := "(I)I" } : Jvm.MethodName)) ∈ lw_all := lw_g (lw_at lw_m8 95 rfl) rfl
theorem q1883 : (Jvm.Cond.methodLink "NetworkCentersLaw" (199 : Nat) ({ cls := "NetworkCentersLaw", name := "radiusOf", desc := "(LNetworkCenters;II[J)I" } : Jvm.MethodName)) ∈ lw_all := lw_g (lw_at lw_m8 99 rfl) rfl
theorem q1884 : (Jvm.Cond.static ({ cls := "NetworkCentersLaw", name := "radiusOf", desc := "(LNetworkCenters;II[J)I" } : Jvm.MethodName)) ∈ lw_all := lw_g (lw_at lw_m8 100 rfl) rfl
theorem q1885 : (Jvm.Cond.codeWith ({ cls := "NetworkCentersLaw", name := "radiusOf", desc := "(LNetworkCenters;II[J)I" } : Jvm.MethodName) method_25_code (5 : Nat) (Option.some Jvm.ClassFile.FieldType.int) [((0 : Nat), (10 : Nat), (13 : Nat), (13 : Nat)), ((0 : Nat), (10 : Nat), (17 : Nat), (21 : Nat))]) ∈ lw_all := lw_g (lw_at lw_m8 101 rfl) rfl
theorem q1886 : (Jvm.Cond.methodLink "NetworkCentersLaw" (87 : Nat) ({ cls := "NetworkCenters", name := "radiusOf", desc := "(II)I" } : Jvm.MethodName)) ∈ lw_all := lw_g (lw_at lw_m8 102 rfl) rfl
theorem q1890 : (Jvm.Cond.methodLink "NetworkCentersLaw" (202 : Nat) ({ cls := "NetworkCentersLaw", name := "group", desc := "(LNetworkCenters;II[J)I" } : Jvm.MethodName)) ∈ lw_all := lw_g (lw_at lw_m8 106 rfl) rfl
theorem q1891 : (Jvm.Cond.static ({ cls := "NetworkCentersLaw", name := "group", desc := "(LNetworkCenters;II[J)I" } : Jvm.MethodName)) ∈ lw_all := lw_g (lw_at lw_m8 107 rfl) rfl
theorem q1892 : (Jvm.Cond.codeWith ({ cls := "NetworkCentersLaw", name := "group", desc := "(LNetworkCenters;II[J)I" } : Jvm.MethodName) method_26_code (5 : Nat) (Option.some Jvm.ClassFile.FieldType.int) [((0 : Nat), (10 : Nat), (13 : Nat), (13 : Nat)), ((0 : Nat), (10 : Nat), (17 : Nat), (21 : Nat))]) ∈ lw_all := lw_g (lw_at lw_m8 108 rfl) rfl
theorem q1893 : (Jvm.Cond.methodLink "NetworkCentersLaw" (90 : Nat) ({ cls := "NetworkCenters", name := "group", desc := "(II)I" } : Jvm.MethodName)) ∈ lw_all := lw_g (lw_at lw_m8 109 rfl) rfl
theorem q1906 : (Jvm.Cond.methodLink "NetworkCentersLaw" (205 : Nat) ({ cls := "NetworkCentersLaw", name := "covering", desc := "(LNetworkCenters;II[J)I" } : Jvm.MethodName)) ∈ lw_all := lw_g (lw_at lw_m8 122 rfl) rfl
theorem q1907 : (Jvm.Cond.static ({ cls := "NetworkCentersLaw", name := "covering", desc := "(LNetworkCenters;II[J)I" } : Jvm.MethodName)) ∈ lw_all := lw_g (lw_at lw_m8 123 rfl) rfl
theorem q1908 : (Jvm.Cond.codeWith ({ cls := "NetworkCentersLaw", name := "covering", desc := "(LNetworkCenters;II[J)I" } : Jvm.MethodName) method_27_code (5 : Nat) (Option.some Jvm.ClassFile.FieldType.int) [((0 : Nat), (10 : Nat), (13 : Nat), (13 : Nat)), ((0 : Nat), (10 : Nat), (17 : Nat), (21 : Nat))]) ∈ lw_all := lw_g (lw_at lw_m8 124 rfl) rfl
theorem q1909 : (Jvm.Cond.methodLink "NetworkCentersLaw" (93 : Nat) ({ cls := "NetworkCenters", name := "covering", desc := "(II)I" } : Jvm.MethodName)) ∈ lw_all := lw_g (lw_at lw_m8 125 rfl) rfl
theorem q1917 : (Jvm.Cond.methodLink "NetworkCentersLaw" (208 : Nat) ({ cls := "NetworkCentersLaw", name := "covered", desc := "(LNetworkCenters;III[J)I" } : Jvm.MethodName)) ∈ lw_all := lw_g (lw_at lw_m8 133 rfl) rfl
theorem q1918 : (Jvm.Cond.static ({ cls := "NetworkCentersLaw", name := "covered", desc := "(LNetworkCenters;III[J)I" } : Jvm.MethodName)) ∈ lw_all := lw_g (lw_at lw_m8 134 rfl) rfl
theorem q1919 : (Jvm.Cond.codeWith ({ cls := "NetworkCentersLaw", name := "covered", desc := "(LNetworkCenters;III[J)I" } : Jvm.MethodName) method_28_code (6 : Nat) (Option.some Jvm.ClassFile.FieldType.int) [((0 : Nat), (12 : Nat), (15 : Nat), (19 : Nat)), ((0 : Nat), (12 : Nat), (19 : Nat), (13 : Nat)), ((0 : Nat), (12 : Nat), (23 : Nat), (21 : Nat))]) ∈ lw_all := lw_g (lw_at lw_m8 135 rfl) rfl
theorem q1920 : (Jvm.Cond.methodLink "NetworkCentersLaw" (96 : Nat) ({ cls := "NetworkCenters", name := "covered", desc := "(III)I" } : Jvm.MethodName)) ∈ lw_all := lw_g (lw_at lw_m8 136 rfl) rfl
theorem q1924 : (Jvm.Cond.methodLink "NetworkCentersLaw" (211 : Nat) ({ cls := "NetworkCentersLaw", name := "changedRadius", desc := "(LNetworkCenters;II[J)I" } : Jvm.MethodName)) ∈ lw_all := lw_g (lw_at lw_m8 140 rfl) rfl
theorem q1925 : (Jvm.Cond.static ({ cls := "NetworkCentersLaw", name := "changedRadius", desc := "(LNetworkCenters;II[J)I" } : Jvm.MethodName)) ∈ lw_all := lw_g (lw_at lw_m8 141 rfl) rfl
theorem q1926 : (Jvm.Cond.codeWith ({ cls := "NetworkCentersLaw", name := "changedRadius", desc := "(LNetworkCenters;II[J)I" } : Jvm.MethodName) method_29_code (5 : Nat) (Option.some Jvm.ClassFile.FieldType.int) [((0 : Nat), (10 : Nat), (13 : Nat), (13 : Nat)), ((0 : Nat), (10 : Nat), (17 : Nat), (21 : Nat))]) ∈ lw_all := lw_g (lw_at lw_m8 142 rfl) rfl
theorem q1927 : (Jvm.Cond.methodLink "NetworkCentersLaw" (99 : Nat) ({ cls := "NetworkCenters", name := "changedRadius", desc := "(II)I" } : Jvm.MethodName)) ∈ lw_all := lw_g (lw_at lw_m8 143 rfl) rfl
theorem q1935 : (Jvm.Cond.methodLink "NetworkCentersLaw" (214 : Nat) ({ cls := "NetworkCentersLaw", name := "radiusWithout", desc := "(LNetworkCenters;II[J)I" } : Jvm.MethodName)) ∈ lw_all := lw_g (lw_at lw_m8 151 rfl) rfl
theorem q1936 : (Jvm.Cond.static ({ cls := "NetworkCentersLaw", name := "radiusWithout", desc := "(LNetworkCenters;II[J)I" } : Jvm.MethodName)) ∈ lw_all := lw_g (lw_at lw_m8 152 rfl) rfl
theorem q1937 : (Jvm.Cond.codeWith ({ cls := "NetworkCentersLaw", name := "radiusWithout", desc := "(LNetworkCenters;II[J)I" } : Jvm.MethodName) method_30_code (5 : Nat) (Option.some Jvm.ClassFile.FieldType.int) [((0 : Nat), (10 : Nat), (13 : Nat), (19 : Nat)), ((0 : Nat), (10 : Nat), (17 : Nat), (13 : Nat))]) ∈ lw_all := lw_g (lw_at lw_m8 153 rfl) rfl
theorem q1938 : (Jvm.Cond.methodLink "NetworkCentersLaw" (102 : Nat) ({ cls := "NetworkCenters", name := "radiusWithout", desc := "(II)I" } : Jvm.MethodName)) ∈ lw_all := lw_g (lw_at lw_m8 154 rfl) rfl
theorem q1942 : (Jvm.Cond.methodLink "NetworkCentersLaw" (217 : Nat) ({ cls := "NetworkCentersLaw", name := "type", desc := "(LNetworkCenters;I[J)I" } : Jvm.MethodName)) ∈ lw_all := lw_g (lw_at lw_m8 158 rfl) rfl
theorem q1943 : (Jvm.Cond.static ({ cls := "NetworkCentersLaw", name := "type", desc := "(LNetworkCenters;I[J)I" } : Jvm.MethodName)) ∈ lw_all := lw_g (lw_at lw_m8 159 rfl) rfl
theorem q1944 : (Jvm.Cond.codeWith ({ cls := "NetworkCentersLaw", name := "type", desc := "(LNetworkCenters;I[J)I" } : Jvm.MethodName) method_31_code (4 : Nat) (Option.some Jvm.ClassFile.FieldType.int) [((0 : Nat), (9 : Nat), (12 : Nat), (13 : Nat)), ((0 : Nat), (9 : Nat), (15 : Nat), (21 : Nat))]) ∈ lw_all := lw_g (lw_at lw_m8 160 rfl) rfl
theorem q1945 : (Jvm.Cond.methodLink "NetworkCentersLaw" (105 : Nat) ({ cls := "NetworkCenters", name := "type", desc := "(I)I" } : Jvm.MethodName)) ∈ lw_all := lw_g (lw_at lw_m8 161 rfl) rfl
theorem q1962 : (Jvm.Cond.methodLink "NetworkCentersLaw" (228 : Nat) ({ cls := "NetworkCentersLaw", name := "run", desc := "(LNetworkCenters;[J)I" } : Jvm.MethodName)) ∈ lw_all := lw_g (lw_at lw_m8 178 rfl) rfl
theorem q1963 : (Jvm.Cond.static ({ cls := "NetworkCentersLaw", name := "run", desc := "(LNetworkCenters;[J)I" } : Jvm.MethodName)) ∈ lw_all := lw_g (lw_at lw_m8 179 rfl) rfl
theorem q1964 : (Jvm.Cond.codeWith ({ cls := "NetworkCentersLaw", name := "run", desc := "(LNetworkCenters;[J)I" } : Jvm.MethodName) method_32_code (3 : Nat) (Option.some Jvm.ClassFile.FieldType.int) [((0 : Nat), (8 : Nat), (11 : Nat), (13 : Nat))]) ∈ lw_all := lw_g (lw_at lw_m8 180 rfl) rfl
theorem q1965 : (Jvm.Cond.methodLink "NetworkCentersLaw" (108 : Nat) ({ cls := "NetworkCenters", name := "run", desc := "()I" } : Jvm.MethodName)) ∈ lw_all := lw_g (lw_at lw_m8 181 rfl) rfl
theorem q1999 : (Jvm.Cond.methodLink "NetworkCentersLaw" (232 : Nat) ({ cls := "NetworkCentersLaw", name := "undo", desc := "(LNetworkCenters;[J)I" } : Jvm.MethodName)) ∈ lw_all := lw_g (lw_at lw_m8 215 rfl) rfl
theorem q2000 : (Jvm.Cond.static ({ cls := "NetworkCentersLaw", name := "undo", desc := "(LNetworkCenters;[J)I" } : Jvm.MethodName)) ∈ lw_all := lw_g (lw_at lw_m8 216 rfl) rfl
theorem q2001 : (Jvm.Cond.codeWith ({ cls := "NetworkCentersLaw", name := "undo", desc := "(LNetworkCenters;[J)I" } : Jvm.MethodName) method_33_code (3 : Nat) (Option.some Jvm.ClassFile.FieldType.int) [((0 : Nat), (8 : Nat), (11 : Nat), (21 : Nat))]) ∈ lw_all := lw_g (lw_at lw_m8 217 rfl) rfl
theorem q2002 : (Jvm.Cond.methodLink "NetworkCentersLaw" (112 : Nat) ({ cls := "NetworkCenters", name := "undo", desc := "()I" } : Jvm.MethodName)) ∈ lw_all := lw_g (lw_at lw_m8 218 rfl) rfl
theorem q2021 : (Jvm.Cond.classLink "NetworkCentersLaw" (116 : Nat) "NetworkCentersModel") ∈ lw_all := lw_g (lw_at lw_m8 237 rfl) rfl
theorem q2023 : (Jvm.Cond.methodLink "NetworkCentersLaw" (118 : Nat) ({ cls := "NetworkCentersModel", name := "<init>", desc := "()V" } : Jvm.MethodName)) ∈ lw_all := lw_g (lw_at lw_m8 239 rfl) rfl
theorem q2113 : (Jvm.Cond.methodLink "NetworkCentersLaw" (125 : Nat) ({ cls := "NetworkCentersModel", name := "thrown", desc := "()I" } : Jvm.MethodName)) ∈ lw_all := lw_g (lw_at lw_m9 89 rfl) rfl
theorem q2117 : (Jvm.Cond.methodLink "NetworkCentersLaw" (234 : Nat) ({ cls := "NetworkCentersModel", name := "undo", desc := "()I" } : Jvm.MethodName)) ∈ lw_all := lw_g (lw_at lw_m9 93 rfl) rfl
theorem q2125 : (Jvm.Cond.methodLink "NetworkCentersLaw" (124 : Nat) ({ cls := "NetworkCentersModel", name := "reset", desc := "(I)I" } : Jvm.MethodName)) ∈ lw_all := lw_g (lw_at lw_m9 101 rfl) rfl
theorem q2140 : (Jvm.Cond.methodLink "NetworkCentersLaw" (131 : Nat) ({ cls := "NetworkCentersModel", name := "connect", desc := "(III)I" } : Jvm.MethodName)) ∈ lw_all := lw_g (lw_at lw_m9 116 rfl) rfl
theorem q2168 : (Jvm.Cond.methodLink "NetworkCentersLaw" (134 : Nat) ({ cls := "NetworkCentersModel", name := "disconnect", desc := "(I)I" } : Jvm.MethodName)) ∈ lw_all := lw_g (lw_at lw_m9 144 rfl) rfl
theorem q2192 : (Jvm.Cond.methodLink "NetworkCentersLaw" (138 : Nat) ({ cls := "NetworkCentersModel", name := "setWeight", desc := "(II)I" } : Jvm.MethodName)) ∈ lw_all := lw_g (lw_at lw_m9 168 rfl) rfl
theorem q2200 : (Jvm.Cond.methodLink "NetworkCentersLaw" (141 : Nat) ({ cls := "NetworkCentersModel", name := "setTrend", desc := "(II)I" } : Jvm.MethodName)) ∈ lw_all := lw_g (lw_at lw_m9 176 rfl) rfl
theorem q2204 : (Jvm.Cond.methodLink "NetworkCentersLaw" (144 : Nat) ({ cls := "NetworkCentersModel", name := "forbid", desc := "(III)I" } : Jvm.MethodName)) ∈ lw_all := lw_g (lw_at lw_m9 180 rfl) rfl
theorem q2216 : (Jvm.Cond.methodLink "NetworkCentersLaw" (147 : Nat) ({ cls := "NetworkCentersModel", name := "allow", desc := "(I)I" } : Jvm.MethodName)) ∈ lw_all := lw_g (lw_at lw_m9 192 rfl) rfl
theorem q2220 : (Jvm.Cond.methodLink "NetworkCentersLaw" (150 : Nat) ({ cls := "NetworkCentersModel", name := "count", desc := "(I)I" } : Jvm.MethodName)) ∈ lw_all := lw_g (lw_at lw_m9 196 rfl) rfl
theorem q2237 : (Jvm.Cond.methodLink "NetworkCentersLaw" (153 : Nat) ({ cls := "NetworkCentersModel", name := "edge", desc := "(II)I" } : Jvm.MethodName)) ∈ lw_all := lw_g (lw_at lw_m9 213 rfl) rfl
theorem q2241 : (Jvm.Cond.methodLink "NetworkCentersLaw" (156 : Nat) ({ cls := "NetworkCentersModel", name := "node", desc := "(II)I" } : Jvm.MethodName)) ∈ lw_all := lw_g (lw_at lw_m9 217 rfl) rfl
theorem q2249 : (Jvm.Cond.methodLink "NetworkCentersLaw" (159 : Nat) ({ cls := "NetworkCentersModel", name := "stretch", desc := "(II)I" } : Jvm.MethodName)) ∈ lw_all := lw_g (lw_at lw_m9 225 rfl) rfl
theorem q2253 : (Jvm.Cond.methodLink "NetworkCentersLaw" (162 : Nat) ({ cls := "NetworkCentersModel", name := "distance", desc := "(II)I" } : Jvm.MethodName)) ∈ lw_all := lw_g (lw_at lw_m9 229 rfl) rfl
theorem q2261 : (Jvm.Cond.methodLink "NetworkCentersLaw" (165 : Nat) ({ cls := "NetworkCentersModel", name := "next", desc := "(II)I" } : Jvm.MethodName)) ∈ lw_all := lw_g (lw_at lw_m9 237 rfl) rfl
theorem q2265 : (Jvm.Cond.methodLink "NetworkCentersLaw" (169 : Nat) ({ cls := "NetworkCentersModel", name := "diameter", desc := "()I" } : Jvm.MethodName)) ∈ lw_all := lw_g (lw_at lw_m10 1 rfl) rfl
theorem q2269 : (Jvm.Cond.methodLink "NetworkCentersLaw" (173 : Nat) ({ cls := "NetworkCentersModel", name := "distanceTo", desc := "(IIIII)I" } : Jvm.MethodName)) ∈ lw_all := lw_g (lw_at lw_m10 5 rfl) rfl
theorem q2295 : (Jvm.Cond.methodLink "NetworkCentersLaw" (176 : Nat) ({ cls := "NetworkCentersModel", name := "isAllowed", desc := "(III)Z" } : Jvm.MethodName)) ∈ lw_all := lw_g (lw_at lw_m10 31 rfl) rfl
theorem q2303 : (Jvm.Cond.methodLink "NetworkCentersLaw" (179 : Nat) ({ cls := "NetworkCentersModel", name := "height", desc := "(IIIII)I" } : Jvm.MethodName)) ∈ lw_all := lw_g (lw_at lw_m10 39 rfl) rfl
theorem q2322 : (Jvm.Cond.methodLink "NetworkCentersLaw" (183 : Nat) ({ cls := "NetworkCentersModel", name := "cost", desc := "(IIII)I" } : Jvm.MethodName)) ∈ lw_all := lw_g (lw_at lw_m10 58 rfl) rfl
theorem q2330 : (Jvm.Cond.methodLink "NetworkCentersLaw" (186 : Nat) ({ cls := "NetworkCentersModel", name := "corner", desc := "(III)I" } : Jvm.MethodName)) ∈ lw_all := lw_g (lw_at lw_m10 66 rfl) rfl
theorem q2368 : (Jvm.Cond.methodLink "NetworkCentersLaw" (189 : Nat) ({ cls := "NetworkCentersModel", name := "radius", desc := "(II)I" } : Jvm.MethodName)) ∈ lw_all := lw_g (lw_at lw_m10 104 rfl) rfl
theorem q2388 : (Jvm.Cond.methodLink "NetworkCentersLaw" (192 : Nat) ({ cls := "NetworkCentersModel", name := "center", desc := "(II)I" } : Jvm.MethodName)) ∈ lw_all := lw_g (lw_at lw_m10 124 rfl) rfl
theorem q2396 : (Jvm.Cond.methodLink "NetworkCentersLaw" (195 : Nat) ({ cls := "NetworkCentersModel", name := "critical", desc := "(I)I" } : Jvm.MethodName)) ∈ lw_all := lw_g (lw_at lw_m10 132 rfl) rfl
theorem q2404 : (Jvm.Cond.methodLink "NetworkCentersLaw" (198 : Nat) ({ cls := "NetworkCentersModel", name := "median", desc := "(I)I" } : Jvm.MethodName)) ∈ lw_all := lw_g (lw_at lw_m10 140 rfl) rfl
theorem q2416 : (Jvm.Cond.methodLink "NetworkCentersLaw" (201 : Nat) ({ cls := "NetworkCentersModel", name := "radiusOf", desc := "(II)I" } : Jvm.MethodName)) ∈ lw_all := lw_g (lw_at lw_m10 152 rfl) rfl
theorem q2432 : (Jvm.Cond.methodLink "NetworkCentersLaw" (204 : Nat) ({ cls := "NetworkCentersModel", name := "group", desc := "(II)I" } : Jvm.MethodName)) ∈ lw_all := lw_g (lw_at lw_m10 168 rfl) rfl
theorem q2444 : (Jvm.Cond.methodLink "NetworkCentersLaw" (207 : Nat) ({ cls := "NetworkCentersModel", name := "covering", desc := "(II)I" } : Jvm.MethodName)) ∈ lw_all := lw_g (lw_at lw_m10 180 rfl) rfl
theorem q2448 : (Jvm.Cond.methodLink "NetworkCentersLaw" (210 : Nat) ({ cls := "NetworkCentersModel", name := "covered", desc := "(III)I" } : Jvm.MethodName)) ∈ lw_all := lw_g (lw_at lw_m10 184 rfl) rfl
theorem q2452 : (Jvm.Cond.methodLink "NetworkCentersLaw" (213 : Nat) ({ cls := "NetworkCentersModel", name := "changedRadius", desc := "(II)I" } : Jvm.MethodName)) ∈ lw_all := lw_g (lw_at lw_m10 188 rfl) rfl
theorem q2456 : (Jvm.Cond.methodLink "NetworkCentersLaw" (216 : Nat) ({ cls := "NetworkCentersModel", name := "radiusWithout", desc := "(II)I" } : Jvm.MethodName)) ∈ lw_all := lw_g (lw_at lw_m10 192 rfl) rfl
theorem q2460 : (Jvm.Cond.methodLink "NetworkCentersLaw" (219 : Nat) ({ cls := "NetworkCentersModel", name := "type", desc := "(I)I" } : Jvm.MethodName)) ∈ lw_all := lw_g (lw_at lw_m10 196 rfl) rfl
theorem q2464 : (Jvm.Cond.methodLink "NetworkCentersLaw" (223 : Nat) ({ cls := "NetworkCentersModel", name := "clearText", desc := "()I" } : Jvm.MethodName)) ∈ lw_all := lw_g (lw_at lw_m10 200 rfl) rfl
theorem q2468 : (Jvm.Cond.methodLink "NetworkCentersLaw" (227 : Nat) ({ cls := "NetworkCentersModel", name := "fault", desc := "()I" } : Jvm.MethodName)) ∈ lw_all := lw_g (lw_at lw_m10 204 rfl) rfl
theorem q2500 : (Jvm.Cond.methodLink "NetworkCentersLaw" (231 : Nat) ({ cls := "NetworkCentersModel", name := "run", desc := "()I" } : Jvm.MethodName)) ∈ lw_all := lw_g (lw_at lw_m10 236 rfl) rfl
theorem q2504 : (Jvm.Cond.methodLink "NetworkCentersLaw" (239 : Nat) ({ cls := "NetworkCentersModel", name := "checksum", desc := "()J" } : Jvm.MethodName)) ∈ lw_all := lw_g (lw_at lw_m11 0 rfl) rfl
