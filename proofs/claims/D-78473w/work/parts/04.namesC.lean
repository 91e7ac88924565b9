/-! NetworkCenters -/
set_option maxRecDepth 100000
def RX1 : String := "NetworkCenters"
def TX1 : u_T := fun k => match k with
  | 0 => ("NetworkCenters", "net", "LNetworkCenters$Network;", false)
  | 1 => ("NetworkCenters", "plan", "LNetworkCenters$Plan;", false)
  | 2 => ("NetworkCenters", "saved", "Ljava/util/ArrayDeque;", true)
  | 3 => ("NetworkCenters", "text", "Ljava/lang/StringBuilder;", true)
  | _ => ("NetworkCenters", "hash", "J", false)
def tyX1 : Nat → FieldType := fun k => match k with
  | 0 => .object "NetworkCenters$Network"
  | 1 => .object "NetworkCenters$Plan"
  | 2 => .object "java/util/ArrayDeque"
  | 3 => .object "java/lang/StringBuilder"
  | _ => .long
abbrev wsX10 : List Cond := u_ws RX1 TX1 5
theorem nmX1 : ∀ a, a < 5 → ∀ b, b < 5 → a ≠ b → (TX1 a).2.1 ≠ (TX1 b).2.1 := by decide +kernel
theorem tyX1_ok : ∀ k, k < 5 → parseFieldDescriptor (TX1 k).2.2.1 = some (tyX1 k) := by decide +kernel
abbrev cX1_init : ByteArray := prog_1_method_7_code
def yX1_init : MethodName := ⟨RX1, "<init>", "()V"⟩
def dkwX1_init_2 : List UInt8 := [89, 183, 0, 61, 181, 0, 62, 177]
abbrev dktX1_init_2 : List UInt8 := dkwX1_init_2 ++ []
def dkwX1_init_1 : List UInt8 := [180, 0, 39, 183, 0, 45, 181, 0, 48, 42, 187, 0, 52, 89, 183, 0, 54, 181, 0, 55, 42, 187, 0, 59]
abbrev dktX1_init_1 : List UInt8 := dkwX1_init_1 ++ dktX1_init_2
def dkwX1_init_0 : List UInt8 := [42, 183, 0, 28, 42, 187, 0, 34, 89, 7, 183, 0, 36, 181, 0, 39, 42, 187, 0, 43, 89, 42]
abbrev dktX1_init_0 : List UInt8 := dkwX1_init_0 ++ dktX1_init_1
theorem dksX1_init_0 : cX1_init.data.toList.drop 0 = dktX1_init_0 := by decide +kernel
theorem dksX1_init_1 : cX1_init.data.toList.drop 22 = dktX1_init_1 := dk_seg dksX1_init_0 22 rfl rfl
theorem dksX1_init_2 : cX1_init.data.toList.drop 46 = dktX1_init_2 := dk_seg dksX1_init_1 24 rfl rfl
theorem dX1_init_0 : decode cX1_init 0 = .ok (.aload_n 0, 1) := dk_42 (dk_at dksX1_init_0 0 rfl rfl)
theorem dX1_init_1 : decode cX1_init 1 = .ok (.invokespecial 28, 3) := dk_183 0 28 (dk_at dksX1_init_0 1 rfl rfl)
theorem dX1_init_4 : decode cX1_init 4 = .ok (.aload_n 0, 1) := dk_42 (dk_at dksX1_init_0 4 rfl rfl)
theorem dX1_init_5 : decode cX1_init 5 = .ok (.new 34, 3) := dk_187 0 34 (dk_at dksX1_init_0 5 rfl rfl)
theorem dX1_init_8 : decode cX1_init 8 = .ok (.dup, 1) := dk_89 (dk_at dksX1_init_0 8 rfl rfl)
theorem dX1_init_9 : decode cX1_init 9 = .ok (.iconst 4, 1) := dk_7 (dk_at dksX1_init_0 9 rfl rfl)
theorem dX1_init_10 : decode cX1_init 10 = .ok (.invokespecial 36, 3) := dk_183 0 36 (dk_at dksX1_init_0 10 rfl rfl)
theorem dX1_init_13 : decode cX1_init 13 = .ok (.putfield 39, 3) := dk_181 0 39 (dk_at dksX1_init_0 13 rfl rfl)
theorem dX1_init_16 : decode cX1_init 16 = .ok (.aload_n 0, 1) := dk_42 (dk_at dksX1_init_0 16 rfl rfl)
theorem dX1_init_17 : decode cX1_init 17 = .ok (.new 43, 3) := dk_187 0 43 (dk_at dksX1_init_0 17 rfl rfl)
theorem dX1_init_20 : decode cX1_init 20 = .ok (.dup, 1) := dk_89 (dk_at dksX1_init_0 20 rfl rfl)
theorem dX1_init_21 : decode cX1_init 21 = .ok (.aload_n 0, 1) := dk_42 (dk_at dksX1_init_0 21 rfl rfl)
theorem dX1_init_22 : decode cX1_init 22 = .ok (.getfield 39, 3) := dk_180 0 39 (dk_at dksX1_init_1 0 rfl rfl)
theorem dX1_init_25 : decode cX1_init 25 = .ok (.invokespecial 45, 3) := dk_183 0 45 (dk_at dksX1_init_1 3 rfl rfl)
theorem dX1_init_28 : decode cX1_init 28 = .ok (.putfield 48, 3) := dk_181 0 48 (dk_at dksX1_init_1 6 rfl rfl)
theorem dX1_init_31 : decode cX1_init 31 = .ok (.aload_n 0, 1) := dk_42 (dk_at dksX1_init_1 9 rfl rfl)
theorem dX1_init_32 : decode cX1_init 32 = .ok (.new 52, 3) := dk_187 0 52 (dk_at dksX1_init_1 10 rfl rfl)
theorem dX1_init_35 : decode cX1_init 35 = .ok (.dup, 1) := dk_89 (dk_at dksX1_init_1 13 rfl rfl)
theorem dX1_init_36 : decode cX1_init 36 = .ok (.invokespecial 54, 3) := dk_183 0 54 (dk_at dksX1_init_1 14 rfl rfl)
theorem dX1_init_39 : decode cX1_init 39 = .ok (.putfield 55, 3) := dk_181 0 55 (dk_at dksX1_init_1 17 rfl rfl)
theorem dX1_init_42 : decode cX1_init 42 = .ok (.aload_n 0, 1) := dk_42 (dk_at dksX1_init_1 20 rfl rfl)
theorem dX1_init_43 : decode cX1_init 43 = .ok (.new 59, 3) := dk_187 0 59 (dk_at dksX1_init_1 21 rfl rfl)
theorem dX1_init_46 : decode cX1_init 46 = .ok (.dup, 1) := dk_89 (dk_at dksX1_init_2 0 rfl rfl)
theorem dX1_init_47 : decode cX1_init 47 = .ok (.invokespecial 61, 3) := dk_183 0 61 (dk_at dksX1_init_2 1 rfl rfl)
theorem dX1_init_50 : decode cX1_init 50 = .ok (.putfield 62, 3) := dk_181 0 62 (dk_at dksX1_init_2 4 rfl rfl)
theorem dX1_init_53 : decode cX1_init 53 = .ok (.return_, 1) := dk_177 (dk_at dksX1_init_2 7 rfl rfl)
abbrev cX1_diameter : ByteArray := prog_1_method_35_code
def yX1_diameter : MethodName := ⟨RX1, "diameter", "()I"⟩
def dkwX1_diameter_1 : List UInt8 := [28, 46, 184, 0, 217, 60, 132, 2, 1, 167, 255, 227, 27, 18, 207, 162, 0, 7, 27, 167, 0, 4, 2, 172]
abbrev dktX1_diameter_1 : List UInt8 := dkwX1_diameter_1 ++ []
def dkwX1_diameter_0 : List UInt8 := [3, 60, 3, 61, 28, 42, 180, 0, 48, 180, 0, 214, 190, 162, 0, 23, 27, 42, 180, 0, 48, 180, 0, 214]
abbrev dktX1_diameter_0 : List UInt8 := dkwX1_diameter_0 ++ dktX1_diameter_1
theorem dksX1_diameter_0 : cX1_diameter.data.toList.drop 0 = dktX1_diameter_0 := by decide +kernel
theorem dksX1_diameter_1 : cX1_diameter.data.toList.drop 24 = dktX1_diameter_1 := dk_seg dksX1_diameter_0 24 rfl rfl
theorem dX1_diameter_0 : decode cX1_diameter 0 = .ok (.iconst 0, 1) := dk_3 (dk_at dksX1_diameter_0 0 rfl rfl)
theorem dX1_diameter_1 : decode cX1_diameter 1 = .ok (.istore_n 1, 1) := dk_60 (dk_at dksX1_diameter_0 1 rfl rfl)
theorem dX1_diameter_2 : decode cX1_diameter 2 = .ok (.iconst 0, 1) := dk_3 (dk_at dksX1_diameter_0 2 rfl rfl)
theorem dX1_diameter_3 : decode cX1_diameter 3 = .ok (.istore_n 2, 1) := dk_61 (dk_at dksX1_diameter_0 3 rfl rfl)
theorem dX1_diameter_4 : decode cX1_diameter 4 = .ok (.iload_n 2, 1) := dk_28 (dk_at dksX1_diameter_0 4 rfl rfl)
theorem dX1_diameter_5 : decode cX1_diameter 5 = .ok (.aload_n 0, 1) := dk_42 (dk_at dksX1_diameter_0 5 rfl rfl)
theorem dX1_diameter_6 : decode cX1_diameter 6 = .ok (.getfield 48, 3) := dk_180 0 48 (dk_at dksX1_diameter_0 6 rfl rfl)
theorem dX1_diameter_9 : decode cX1_diameter 9 = .ok (.getfield 214, 3) := dk_180 0 214 (dk_at dksX1_diameter_0 9 rfl rfl)
theorem dX1_diameter_12 : decode cX1_diameter 12 = .ok (.arraylength, 1) := dk_190 (dk_at dksX1_diameter_0 12 rfl rfl)
theorem dX1_diameter_13 : decode cX1_diameter 13 = .ok (.if_icmp .ge 23, 3) := dk_162 0 23 (dk_at dksX1_diameter_0 13 rfl rfl)
theorem dX1_diameter_16 : decode cX1_diameter 16 = .ok (.iload_n 1, 1) := dk_27 (dk_at dksX1_diameter_0 16 rfl rfl)
theorem dX1_diameter_17 : decode cX1_diameter 17 = .ok (.aload_n 0, 1) := dk_42 (dk_at dksX1_diameter_0 17 rfl rfl)
theorem dX1_diameter_18 : decode cX1_diameter 18 = .ok (.getfield 48, 3) := dk_180 0 48 (dk_at dksX1_diameter_0 18 rfl rfl)
theorem dX1_diameter_21 : decode cX1_diameter 21 = .ok (.getfield 214, 3) := dk_180 0 214 (dk_at dksX1_diameter_0 21 rfl rfl)
theorem dX1_diameter_24 : decode cX1_diameter 24 = .ok (.iload_n 2, 1) := dk_28 (dk_at dksX1_diameter_1 0 rfl rfl)
theorem dX1_diameter_25 : decode cX1_diameter 25 = .ok (.iaload, 1) := dk_46 (dk_at dksX1_diameter_1 1 rfl rfl)
theorem dX1_diameter_26 : decode cX1_diameter 26 = .ok (.invokestatic 217, 3) := dk_184 0 217 (dk_at dksX1_diameter_1 2 rfl rfl)
theorem dX1_diameter_29 : decode cX1_diameter 29 = .ok (.istore_n 1, 1) := dk_60 (dk_at dksX1_diameter_1 5 rfl rfl)
theorem dX1_diameter_30 : decode cX1_diameter 30 = .ok (.iinc 2 1, 3) := dk_132 2 1 (dk_at dksX1_diameter_1 6 rfl rfl)
theorem dX1_diameter_33 : decode cX1_diameter 33 = .ok (.goto (-29), 3) := dk_167 255 227 (dk_at dksX1_diameter_1 9 rfl rfl)
theorem dX1_diameter_36 : decode cX1_diameter 36 = .ok (.iload_n 1, 1) := dk_27 (dk_at dksX1_diameter_1 12 rfl rfl)
theorem dX1_diameter_37 : decode cX1_diameter 37 = .ok (.ldc 207, 2) := dk_18 207 (dk_at dksX1_diameter_1 13 rfl rfl)
theorem dX1_diameter_39 : decode cX1_diameter 39 = .ok (.if_icmp .ge 7, 3) := dk_162 0 7 (dk_at dksX1_diameter_1 15 rfl rfl)
theorem dX1_diameter_42 : decode cX1_diameter 42 = .ok (.iload_n 1, 1) := dk_27 (dk_at dksX1_diameter_1 18 rfl rfl)
theorem dX1_diameter_43 : decode cX1_diameter 43 = .ok (.goto 4, 3) := dk_167 0 4 (dk_at dksX1_diameter_1 19 rfl rfl)
theorem dX1_diameter_46 : decode cX1_diameter 46 = .ok (.iconst (-1), 1) := dk_2 (dk_at dksX1_diameter_1 22 rfl rfl)
theorem dX1_diameter_47 : decode cX1_diameter 47 = .ok (.ireturn, 1) := dk_172 (dk_at dksX1_diameter_1 23 rfl rfl)
abbrev cX1_clearText : ByteArray := prog_1_method_55_code
def yX1_clearText : MethodName := ⟨RX1, "clearText", "()I"⟩
def dkwX1_clearText_0 : List UInt8 := [42, 180, 0, 62, 182, 1, 51, 60, 42, 180, 0, 62, 3, 182, 1, 57, 27, 172]
abbrev dktX1_clearText_0 : List UInt8 := dkwX1_clearText_0 ++ []
theorem dksX1_clearText_0 : cX1_clearText.data.toList.drop 0 = dktX1_clearText_0 := by decide +kernel
theorem dX1_clearText_0 : decode cX1_clearText 0 = .ok (.aload_n 0, 1) := dk_42 (dk_at dksX1_clearText_0 0 rfl rfl)
theorem dX1_clearText_1 : decode cX1_clearText 1 = .ok (.getfield 62, 3) := dk_180 0 62 (dk_at dksX1_clearText_0 1 rfl rfl)
theorem dX1_clearText_4 : decode cX1_clearText 4 = .ok (.invokevirtual 307, 3) := dk_182 1 51 (dk_at dksX1_clearText_0 4 rfl rfl)
theorem dX1_clearText_7 : decode cX1_clearText 7 = .ok (.istore_n 1, 1) := dk_60 (dk_at dksX1_clearText_0 7 rfl rfl)
theorem dX1_clearText_8 : decode cX1_clearText 8 = .ok (.aload_n 0, 1) := dk_42 (dk_at dksX1_clearText_0 8 rfl rfl)
theorem dX1_clearText_9 : decode cX1_clearText 9 = .ok (.getfield 62, 3) := dk_180 0 62 (dk_at dksX1_clearText_0 9 rfl rfl)
theorem dX1_clearText_12 : decode cX1_clearText 12 = .ok (.iconst 0, 1) := dk_3 (dk_at dksX1_clearText_0 12 rfl rfl)
theorem dX1_clearText_13 : decode cX1_clearText 13 = .ok (.invokevirtual 313, 3) := dk_182 1 57 (dk_at dksX1_clearText_0 13 rfl rfl)
theorem dX1_clearText_16 : decode cX1_clearText 16 = .ok (.iload_n 1, 1) := dk_27 (dk_at dksX1_clearText_0 16 rfl rfl)
theorem dX1_clearText_17 : decode cX1_clearText 17 = .ok (.ireturn, 1) := dk_172 (dk_at dksX1_clearText_0 17 rfl rfl)
abbrev cX1_fault : ByteArray := prog_1_method_56_code
def yX1_fault : MethodName := ⟨RX1, "fault", "()I"⟩
def dkwX1_fault_1 : List UInt8 := [167, 255, 245, 167, 0, 9, 77, 44, 180, 1, 73, 172, 2, 172]
abbrev dktX1_fault_1 : List UInt8 := dkwX1_fault_1 ++ []
def dkwX1_fault_0 : List UInt8 := [187, 1, 60, 89, 42, 180, 0, 62, 183, 1, 62, 76, 43, 182, 1, 65, 154, 0, 10, 43, 182, 1, 68]
abbrev dktX1_fault_0 : List UInt8 := dkwX1_fault_0 ++ dktX1_fault_1
theorem dksX1_fault_0 : cX1_fault.data.toList.drop 0 = dktX1_fault_0 := by decide +kernel
theorem dksX1_fault_1 : cX1_fault.data.toList.drop 23 = dktX1_fault_1 := dk_seg dksX1_fault_0 23 rfl rfl
theorem dX1_fault_0 : decode cX1_fault 0 = .ok (.new 316, 3) := dk_187 1 60 (dk_at dksX1_fault_0 0 rfl rfl)
theorem dX1_fault_3 : decode cX1_fault 3 = .ok (.dup, 1) := dk_89 (dk_at dksX1_fault_0 3 rfl rfl)
theorem dX1_fault_4 : decode cX1_fault 4 = .ok (.aload_n 0, 1) := dk_42 (dk_at dksX1_fault_0 4 rfl rfl)
theorem dX1_fault_5 : decode cX1_fault 5 = .ok (.getfield 62, 3) := dk_180 0 62 (dk_at dksX1_fault_0 5 rfl rfl)
theorem dX1_fault_8 : decode cX1_fault 8 = .ok (.invokespecial 318, 3) := dk_183 1 62 (dk_at dksX1_fault_0 8 rfl rfl)
theorem dX1_fault_11 : decode cX1_fault 11 = .ok (.astore_n 1, 1) := dk_76 (dk_at dksX1_fault_0 11 rfl rfl)
theorem dX1_fault_12 : decode cX1_fault 12 = .ok (.aload_n 1, 1) := dk_43 (dk_at dksX1_fault_0 12 rfl rfl)
theorem dX1_fault_13 : decode cX1_fault 13 = .ok (.invokevirtual 321, 3) := dk_182 1 65 (dk_at dksX1_fault_0 13 rfl rfl)
theorem dX1_fault_16 : decode cX1_fault 16 = .ok (.ifCond .ne 10, 3) := dk_154 0 10 (dk_at dksX1_fault_0 16 rfl rfl)
theorem dX1_fault_19 : decode cX1_fault 19 = .ok (.aload_n 1, 1) := dk_43 (dk_at dksX1_fault_0 19 rfl rfl)
theorem dX1_fault_20 : decode cX1_fault 20 = .ok (.invokevirtual 324, 3) := dk_182 1 68 (dk_at dksX1_fault_0 20 rfl rfl)
theorem dX1_fault_23 : decode cX1_fault 23 = .ok (.goto (-11), 3) := dk_167 255 245 (dk_at dksX1_fault_1 0 rfl rfl)
theorem dX1_fault_26 : decode cX1_fault 26 = .ok (.goto 9, 3) := dk_167 0 9 (dk_at dksX1_fault_1 3 rfl rfl)
theorem dX1_fault_29 : decode cX1_fault 29 = .ok (.astore_n 2, 1) := dk_77 (dk_at dksX1_fault_1 6 rfl rfl)
theorem dX1_fault_30 : decode cX1_fault 30 = .ok (.aload_n 2, 1) := dk_44 (dk_at dksX1_fault_1 7 rfl rfl)
theorem dX1_fault_31 : decode cX1_fault 31 = .ok (.getfield 329, 3) := dk_180 1 73 (dk_at dksX1_fault_1 8 rfl rfl)
theorem dX1_fault_34 : decode cX1_fault 34 = .ok (.ireturn, 1) := dk_172 (dk_at dksX1_fault_1 11 rfl rfl)
theorem dX1_fault_35 : decode cX1_fault 35 = .ok (.iconst (-1), 1) := dk_2 (dk_at dksX1_fault_1 12 rfl rfl)
theorem dX1_fault_36 : decode cX1_fault 36 = .ok (.ireturn, 1) := dk_172 (dk_at dksX1_fault_1 13 rfl rfl)
abbrev cX1_isIn : ByteArray := prog_1_method_1_code
def yX1_isIn : MethodName := ⟨RX1, "isIn", "(III)Z"⟩
def dkwX1_isIn_0 : List UInt8 := [26, 27, 161, 0, 12, 26, 28, 163, 0, 7, 4, 167, 0, 4, 3, 172]
abbrev dktX1_isIn_0 : List UInt8 := dkwX1_isIn_0 ++ []
theorem dksX1_isIn_0 : cX1_isIn.data.toList.drop 0 = dktX1_isIn_0 := by decide +kernel
theorem dX1_isIn_0 : decode cX1_isIn 0 = .ok (.iload_n 0, 1) := dk_26 (dk_at dksX1_isIn_0 0 rfl rfl)
theorem dX1_isIn_1 : decode cX1_isIn 1 = .ok (.iload_n 1, 1) := dk_27 (dk_at dksX1_isIn_0 1 rfl rfl)
theorem dX1_isIn_2 : decode cX1_isIn 2 = .ok (.if_icmp .lt 12, 3) := dk_161 0 12 (dk_at dksX1_isIn_0 2 rfl rfl)
theorem dX1_isIn_5 : decode cX1_isIn 5 = .ok (.iload_n 0, 1) := dk_26 (dk_at dksX1_isIn_0 5 rfl rfl)
theorem dX1_isIn_6 : decode cX1_isIn 6 = .ok (.iload_n 2, 1) := dk_28 (dk_at dksX1_isIn_0 6 rfl rfl)
theorem dX1_isIn_7 : decode cX1_isIn 7 = .ok (.if_icmp .gt 7, 3) := dk_163 0 7 (dk_at dksX1_isIn_0 7 rfl rfl)
theorem dX1_isIn_10 : decode cX1_isIn 10 = .ok (.iconst 1, 1) := dk_4 (dk_at dksX1_isIn_0 10 rfl rfl)
theorem dX1_isIn_11 : decode cX1_isIn 11 = .ok (.goto 4, 3) := dk_167 0 4 (dk_at dksX1_isIn_0 11 rfl rfl)
theorem dX1_isIn_14 : decode cX1_isIn 14 = .ok (.iconst 0, 1) := dk_3 (dk_at dksX1_isIn_0 14 rfl rfl)
theorem dX1_isIn_15 : decode cX1_isIn 15 = .ok (.ireturn, 1) := dk_172 (dk_at dksX1_isIn_0 15 rfl rfl)
abbrev cX1_checksum : ByteArray := prog_1_method_61_code
def yX1_checksum : MethodName := ⟨RX1, "checksum", "()J"⟩
def dkwX1_checksum_9 : List UInt8 := [180, 1, 100, 173]
abbrev dktX1_checksum_9 : List UInt8 := dkwX1_checksum_9 ++ []
def dkwX1_checksum_8 : List UInt8 := [42, 180, 0, 62, 182, 1, 51, 182, 1, 104, 42, 42, 180, 0, 55, 182, 0, 100, 182, 1, 104, 42]
abbrev dktX1_checksum_8 : List UInt8 := dkwX1_checksum_8 ++ dktX1_checksum_9
def dkwX1_checksum_7 : List UInt8 := [167, 255, 231, 132, 1, 1, 167, 255, 211, 42, 180, 0, 48, 182, 1, 15, 153, 0, 7, 42, 182, 1, 109, 42]
abbrev dktX1_checksum_7 : List UInt8 := dkwX1_checksum_7 ++ dktX1_checksum_8
def dkwX1_checksum_6 : List UInt8 := [162, 0, 26, 42, 42, 180, 0, 39, 180, 0, 144, 27, 50, 28, 182, 0, 203, 182, 1, 104, 132, 2, 1]
abbrev dktX1_checksum_6 : List UInt8 := dkwX1_checksum_6 ++ dktX1_checksum_7
def dkwX1_checksum_5 : List UInt8 := [132, 1, 1, 167, 255, 211, 3, 60, 27, 42, 180, 0, 39, 180, 0, 144, 190, 162, 0, 39, 3, 61, 28, 6]
abbrev dktX1_checksum_5 : List UInt8 := dkwX1_checksum_5 ++ dktX1_checksum_6
def dkwX1_checksum_4 : List UInt8 := [42, 42, 180, 0, 39, 180, 0, 83, 27, 50, 28, 182, 0, 193, 182, 1, 104, 132, 2, 1, 167, 255, 231]
abbrev dktX1_checksum_4 : List UInt8 := dkwX1_checksum_4 ++ dktX1_checksum_5
def dkwX1_checksum_3 : List UInt8 := [167, 255, 219, 3, 60, 27, 42, 180, 0, 39, 180, 0, 83, 190, 162, 0, 39, 3, 61, 28, 6, 162, 0, 26]
abbrev dktX1_checksum_3 : List UInt8 := dkwX1_checksum_3 ++ dktX1_checksum_4
def dkwX1_checksum_2 : List UInt8 := [162, 0, 19, 42, 42, 27, 28, 182, 0, 199, 182, 1, 104, 132, 2, 1, 167, 255, 238, 132, 1, 1]
abbrev dktX1_checksum_2 : List UInt8 := dkwX1_checksum_2 ++ dktX1_checksum_3
def dkwX1_checksum_1 : List UInt8 := [132, 1, 1, 167, 255, 239, 3, 60, 27, 42, 180, 0, 39, 182, 0, 96, 162, 0, 32, 3, 61, 28, 6]
abbrev dktX1_checksum_1 : List UInt8 := dkwX1_checksum_1 ++ dktX1_checksum_2
def dkwX1_checksum_0 : List UInt8 := [42, 20, 1, 107, 181, 1, 100, 3, 60, 27, 7, 162, 0, 18, 42, 42, 27, 182, 0, 189, 182, 1, 104]
abbrev dktX1_checksum_0 : List UInt8 := dkwX1_checksum_0 ++ dktX1_checksum_1
theorem dksX1_checksum_0 : cX1_checksum.data.toList.drop 0 = dktX1_checksum_0 := by decide +kernel
theorem dksX1_checksum_1 : cX1_checksum.data.toList.drop 23 = dktX1_checksum_1 := dk_seg dksX1_checksum_0 23 rfl rfl
theorem dksX1_checksum_2 : cX1_checksum.data.toList.drop 46 = dktX1_checksum_2 := dk_seg dksX1_checksum_1 23 rfl rfl
theorem dksX1_checksum_3 : cX1_checksum.data.toList.drop 68 = dktX1_checksum_3 := dk_seg dksX1_checksum_2 22 rfl rfl
theorem dksX1_checksum_4 : cX1_checksum.data.toList.drop 92 = dktX1_checksum_4 := dk_seg dksX1_checksum_3 24 rfl rfl
theorem dksX1_checksum_5 : cX1_checksum.data.toList.drop 115 = dktX1_checksum_5 := dk_seg dksX1_checksum_4 23 rfl rfl
theorem dksX1_checksum_6 : cX1_checksum.data.toList.drop 139 = dktX1_checksum_6 := dk_seg dksX1_checksum_5 24 rfl rfl
theorem dksX1_checksum_7 : cX1_checksum.data.toList.drop 162 = dktX1_checksum_7 := dk_seg dksX1_checksum_6 23 rfl rfl
theorem dksX1_checksum_8 : cX1_checksum.data.toList.drop 186 = dktX1_checksum_8 := dk_seg dksX1_checksum_7 24 rfl rfl
theorem dksX1_checksum_9 : cX1_checksum.data.toList.drop 208 = dktX1_checksum_9 := dk_seg dksX1_checksum_8 22 rfl rfl
theorem dX1_checksum_0 : decode cX1_checksum 0 = .ok (.aload_n 0, 1) := dk_42 (dk_at dksX1_checksum_0 0 rfl rfl)
theorem dX1_checksum_1 : decode cX1_checksum 1 = .ok (.ldc2_w 363, 3) := dk_20 1 107 (dk_at dksX1_checksum_0 1 rfl rfl)
theorem dX1_checksum_4 : decode cX1_checksum 4 = .ok (.putfield 356, 3) := dk_181 1 100 (dk_at dksX1_checksum_0 4 rfl rfl)
theorem dX1_checksum_7 : decode cX1_checksum 7 = .ok (.iconst 0, 1) := dk_3 (dk_at dksX1_checksum_0 7 rfl rfl)
theorem dX1_checksum_8 : decode cX1_checksum 8 = .ok (.istore_n 1, 1) := dk_60 (dk_at dksX1_checksum_0 8 rfl rfl)
theorem dX1_checksum_9 : decode cX1_checksum 9 = .ok (.iload_n 1, 1) := dk_27 (dk_at dksX1_checksum_0 9 rfl rfl)
theorem dX1_checksum_10 : decode cX1_checksum 10 = .ok (.iconst 4, 1) := dk_7 (dk_at dksX1_checksum_0 10 rfl rfl)
theorem dX1_checksum_11 : decode cX1_checksum 11 = .ok (.if_icmp .ge 18, 3) := dk_162 0 18 (dk_at dksX1_checksum_0 11 rfl rfl)
theorem dX1_checksum_14 : decode cX1_checksum 14 = .ok (.aload_n 0, 1) := dk_42 (dk_at dksX1_checksum_0 14 rfl rfl)
theorem dX1_checksum_15 : decode cX1_checksum 15 = .ok (.aload_n 0, 1) := dk_42 (dk_at dksX1_checksum_0 15 rfl rfl)
theorem dX1_checksum_16 : decode cX1_checksum 16 = .ok (.iload_n 1, 1) := dk_27 (dk_at dksX1_checksum_0 16 rfl rfl)
theorem dX1_checksum_17 : decode cX1_checksum 17 = .ok (.invokevirtual 189, 3) := dk_182 0 189 (dk_at dksX1_checksum_0 17 rfl rfl)
theorem dX1_checksum_20 : decode cX1_checksum 20 = .ok (.invokevirtual 360, 3) := dk_182 1 104 (dk_at dksX1_checksum_0 20 rfl rfl)
theorem dX1_checksum_23 : decode cX1_checksum 23 = .ok (.iinc 1 1, 3) := dk_132 1 1 (dk_at dksX1_checksum_1 0 rfl rfl)
theorem dX1_checksum_26 : decode cX1_checksum 26 = .ok (.goto (-17), 3) := dk_167 255 239 (dk_at dksX1_checksum_1 3 rfl rfl)
theorem dX1_checksum_29 : decode cX1_checksum 29 = .ok (.iconst 0, 1) := dk_3 (dk_at dksX1_checksum_1 6 rfl rfl)
theorem dX1_checksum_30 : decode cX1_checksum 30 = .ok (.istore_n 1, 1) := dk_60 (dk_at dksX1_checksum_1 7 rfl rfl)
theorem dX1_checksum_31 : decode cX1_checksum 31 = .ok (.iload_n 1, 1) := dk_27 (dk_at dksX1_checksum_1 8 rfl rfl)
theorem dX1_checksum_32 : decode cX1_checksum 32 = .ok (.aload_n 0, 1) := dk_42 (dk_at dksX1_checksum_1 9 rfl rfl)
theorem dX1_checksum_33 : decode cX1_checksum 33 = .ok (.getfield 39, 3) := dk_180 0 39 (dk_at dksX1_checksum_1 10 rfl rfl)
theorem dX1_checksum_36 : decode cX1_checksum 36 = .ok (.invokevirtual 96, 3) := dk_182 0 96 (dk_at dksX1_checksum_1 13 rfl rfl)
theorem dX1_checksum_39 : decode cX1_checksum 39 = .ok (.if_icmp .ge 32, 3) := dk_162 0 32 (dk_at dksX1_checksum_1 16 rfl rfl)
theorem dX1_checksum_42 : decode cX1_checksum 42 = .ok (.iconst 0, 1) := dk_3 (dk_at dksX1_checksum_1 19 rfl rfl)
theorem dX1_checksum_43 : decode cX1_checksum 43 = .ok (.istore_n 2, 1) := dk_61 (dk_at dksX1_checksum_1 20 rfl rfl)
theorem dX1_checksum_44 : decode cX1_checksum 44 = .ok (.iload_n 2, 1) := dk_28 (dk_at dksX1_checksum_1 21 rfl rfl)
theorem dX1_checksum_45 : decode cX1_checksum 45 = .ok (.iconst 3, 1) := dk_6 (dk_at dksX1_checksum_1 22 rfl rfl)
theorem dX1_checksum_46 : decode cX1_checksum 46 = .ok (.if_icmp .ge 19, 3) := dk_162 0 19 (dk_at dksX1_checksum_2 0 rfl rfl)
theorem dX1_checksum_49 : decode cX1_checksum 49 = .ok (.aload_n 0, 1) := dk_42 (dk_at dksX1_checksum_2 3 rfl rfl)
theorem dX1_checksum_50 : decode cX1_checksum 50 = .ok (.aload_n 0, 1) := dk_42 (dk_at dksX1_checksum_2 4 rfl rfl)
theorem dX1_checksum_51 : decode cX1_checksum 51 = .ok (.iload_n 1, 1) := dk_27 (dk_at dksX1_checksum_2 5 rfl rfl)
theorem dX1_checksum_52 : decode cX1_checksum 52 = .ok (.iload_n 2, 1) := dk_28 (dk_at dksX1_checksum_2 6 rfl rfl)
theorem dX1_checksum_53 : decode cX1_checksum 53 = .ok (.invokevirtual 199, 3) := dk_182 0 199 (dk_at dksX1_checksum_2 7 rfl rfl)
theorem dX1_checksum_56 : decode cX1_checksum 56 = .ok (.invokevirtual 360, 3) := dk_182 1 104 (dk_at dksX1_checksum_2 10 rfl rfl)
theorem dX1_checksum_59 : decode cX1_checksum 59 = .ok (.iinc 2 1, 3) := dk_132 2 1 (dk_at dksX1_checksum_2 13 rfl rfl)
theorem dX1_checksum_62 : decode cX1_checksum 62 = .ok (.goto (-18), 3) := dk_167 255 238 (dk_at dksX1_checksum_2 16 rfl rfl)
theorem dX1_checksum_65 : decode cX1_checksum 65 = .ok (.iinc 1 1, 3) := dk_132 1 1 (dk_at dksX1_checksum_2 19 rfl rfl)
theorem dX1_checksum_68 : decode cX1_checksum 68 = .ok (.goto (-37), 3) := dk_167 255 219 (dk_at dksX1_checksum_3 0 rfl rfl)
theorem dX1_checksum_71 : decode cX1_checksum 71 = .ok (.iconst 0, 1) := dk_3 (dk_at dksX1_checksum_3 3 rfl rfl)
theorem dX1_checksum_72 : decode cX1_checksum 72 = .ok (.istore_n 1, 1) := dk_60 (dk_at dksX1_checksum_3 4 rfl rfl)
theorem dX1_checksum_73 : decode cX1_checksum 73 = .ok (.iload_n 1, 1) := dk_27 (dk_at dksX1_checksum_3 5 rfl rfl)
theorem dX1_checksum_74 : decode cX1_checksum 74 = .ok (.aload_n 0, 1) := dk_42 (dk_at dksX1_checksum_3 6 rfl rfl)
theorem dX1_checksum_75 : decode cX1_checksum 75 = .ok (.getfield 39, 3) := dk_180 0 39 (dk_at dksX1_checksum_3 7 rfl rfl)
theorem dX1_checksum_78 : decode cX1_checksum 78 = .ok (.getfield 83, 3) := dk_180 0 83 (dk_at dksX1_checksum_3 10 rfl rfl)
theorem dX1_checksum_81 : decode cX1_checksum 81 = .ok (.arraylength, 1) := dk_190 (dk_at dksX1_checksum_3 13 rfl rfl)
theorem dX1_checksum_82 : decode cX1_checksum 82 = .ok (.if_icmp .ge 39, 3) := dk_162 0 39 (dk_at dksX1_checksum_3 14 rfl rfl)
theorem dX1_checksum_85 : decode cX1_checksum 85 = .ok (.iconst 0, 1) := dk_3 (dk_at dksX1_checksum_3 17 rfl rfl)
theorem dX1_checksum_86 : decode cX1_checksum 86 = .ok (.istore_n 2, 1) := dk_61 (dk_at dksX1_checksum_3 18 rfl rfl)
theorem dX1_checksum_87 : decode cX1_checksum 87 = .ok (.iload_n 2, 1) := dk_28 (dk_at dksX1_checksum_3 19 rfl rfl)
theorem dX1_checksum_88 : decode cX1_checksum 88 = .ok (.iconst 3, 1) := dk_6 (dk_at dksX1_checksum_3 20 rfl rfl)
theorem dX1_checksum_89 : decode cX1_checksum 89 = .ok (.if_icmp .ge 26, 3) := dk_162 0 26 (dk_at dksX1_checksum_3 21 rfl rfl)
theorem dX1_checksum_92 : decode cX1_checksum 92 = .ok (.aload_n 0, 1) := dk_42 (dk_at dksX1_checksum_4 0 rfl rfl)
theorem dX1_checksum_93 : decode cX1_checksum 93 = .ok (.aload_n 0, 1) := dk_42 (dk_at dksX1_checksum_4 1 rfl rfl)
theorem dX1_checksum_94 : decode cX1_checksum 94 = .ok (.getfield 39, 3) := dk_180 0 39 (dk_at dksX1_checksum_4 2 rfl rfl)
theorem dX1_checksum_97 : decode cX1_checksum 97 = .ok (.getfield 83, 3) := dk_180 0 83 (dk_at dksX1_checksum_4 5 rfl rfl)
theorem dX1_checksum_100 : decode cX1_checksum 100 = .ok (.iload_n 1, 1) := dk_27 (dk_at dksX1_checksum_4 8 rfl rfl)
theorem dX1_checksum_101 : decode cX1_checksum 101 = .ok (.aaload, 1) := dk_50 (dk_at dksX1_checksum_4 9 rfl rfl)
theorem dX1_checksum_102 : decode cX1_checksum 102 = .ok (.iload_n 2, 1) := dk_28 (dk_at dksX1_checksum_4 10 rfl rfl)
theorem dX1_checksum_103 : decode cX1_checksum 103 = .ok (.invokevirtual 193, 3) := dk_182 0 193 (dk_at dksX1_checksum_4 11 rfl rfl)
theorem dX1_checksum_106 : decode cX1_checksum 106 = .ok (.invokevirtual 360, 3) := dk_182 1 104 (dk_at dksX1_checksum_4 14 rfl rfl)
theorem dX1_checksum_109 : decode cX1_checksum 109 = .ok (.iinc 2 1, 3) := dk_132 2 1 (dk_at dksX1_checksum_4 17 rfl rfl)
theorem dX1_checksum_112 : decode cX1_checksum 112 = .ok (.goto (-25), 3) := dk_167 255 231 (dk_at dksX1_checksum_4 20 rfl rfl)
theorem dX1_checksum_115 : decode cX1_checksum 115 = .ok (.iinc 1 1, 3) := dk_132 1 1 (dk_at dksX1_checksum_5 0 rfl rfl)
theorem dX1_checksum_118 : decode cX1_checksum 118 = .ok (.goto (-45), 3) := dk_167 255 211 (dk_at dksX1_checksum_5 3 rfl rfl)
theorem dX1_checksum_121 : decode cX1_checksum 121 = .ok (.iconst 0, 1) := dk_3 (dk_at dksX1_checksum_5 6 rfl rfl)
theorem dX1_checksum_122 : decode cX1_checksum 122 = .ok (.istore_n 1, 1) := dk_60 (dk_at dksX1_checksum_5 7 rfl rfl)
theorem dX1_checksum_123 : decode cX1_checksum 123 = .ok (.iload_n 1, 1) := dk_27 (dk_at dksX1_checksum_5 8 rfl rfl)
theorem dX1_checksum_124 : decode cX1_checksum 124 = .ok (.aload_n 0, 1) := dk_42 (dk_at dksX1_checksum_5 9 rfl rfl)
theorem dX1_checksum_125 : decode cX1_checksum 125 = .ok (.getfield 39, 3) := dk_180 0 39 (dk_at dksX1_checksum_5 10 rfl rfl)
theorem dX1_checksum_128 : decode cX1_checksum 128 = .ok (.getfield 144, 3) := dk_180 0 144 (dk_at dksX1_checksum_5 13 rfl rfl)
theorem dX1_checksum_131 : decode cX1_checksum 131 = .ok (.arraylength, 1) := dk_190 (dk_at dksX1_checksum_5 16 rfl rfl)
theorem dX1_checksum_132 : decode cX1_checksum 132 = .ok (.if_icmp .ge 39, 3) := dk_162 0 39 (dk_at dksX1_checksum_5 17 rfl rfl)
theorem dX1_checksum_135 : decode cX1_checksum 135 = .ok (.iconst 0, 1) := dk_3 (dk_at dksX1_checksum_5 20 rfl rfl)
theorem dX1_checksum_136 : decode cX1_checksum 136 = .ok (.istore_n 2, 1) := dk_61 (dk_at dksX1_checksum_5 21 rfl rfl)
theorem dX1_checksum_137 : decode cX1_checksum 137 = .ok (.iload_n 2, 1) := dk_28 (dk_at dksX1_checksum_5 22 rfl rfl)
theorem dX1_checksum_138 : decode cX1_checksum 138 = .ok (.iconst 3, 1) := dk_6 (dk_at dksX1_checksum_5 23 rfl rfl)
theorem dX1_checksum_139 : decode cX1_checksum 139 = .ok (.if_icmp .ge 26, 3) := dk_162 0 26 (dk_at dksX1_checksum_6 0 rfl rfl)
theorem dX1_checksum_142 : decode cX1_checksum 142 = .ok (.aload_n 0, 1) := dk_42 (dk_at dksX1_checksum_6 3 rfl rfl)
theorem dX1_checksum_143 : decode cX1_checksum 143 = .ok (.aload_n 0, 1) := dk_42 (dk_at dksX1_checksum_6 4 rfl rfl)
theorem dX1_checksum_144 : decode cX1_checksum 144 = .ok (.getfield 39, 3) := dk_180 0 39 (dk_at dksX1_checksum_6 5 rfl rfl)
theorem dX1_checksum_147 : decode cX1_checksum 147 = .ok (.getfield 144, 3) := dk_180 0 144 (dk_at dksX1_checksum_6 8 rfl rfl)
theorem dX1_checksum_150 : decode cX1_checksum 150 = .ok (.iload_n 1, 1) := dk_27 (dk_at dksX1_checksum_6 11 rfl rfl)
theorem dX1_checksum_151 : decode cX1_checksum 151 = .ok (.aaload, 1) := dk_50 (dk_at dksX1_checksum_6 12 rfl rfl)
theorem dX1_checksum_152 : decode cX1_checksum 152 = .ok (.iload_n 2, 1) := dk_28 (dk_at dksX1_checksum_6 13 rfl rfl)
theorem dX1_checksum_153 : decode cX1_checksum 153 = .ok (.invokevirtual 203, 3) := dk_182 0 203 (dk_at dksX1_checksum_6 14 rfl rfl)
theorem dX1_checksum_156 : decode cX1_checksum 156 = .ok (.invokevirtual 360, 3) := dk_182 1 104 (dk_at dksX1_checksum_6 17 rfl rfl)
theorem dX1_checksum_159 : decode cX1_checksum 159 = .ok (.iinc 2 1, 3) := dk_132 2 1 (dk_at dksX1_checksum_6 20 rfl rfl)
theorem dX1_checksum_162 : decode cX1_checksum 162 = .ok (.goto (-25), 3) := dk_167 255 231 (dk_at dksX1_checksum_7 0 rfl rfl)
theorem dX1_checksum_165 : decode cX1_checksum 165 = .ok (.iinc 1 1, 3) := dk_132 1 1 (dk_at dksX1_checksum_7 3 rfl rfl)
theorem dX1_checksum_168 : decode cX1_checksum 168 = .ok (.goto (-45), 3) := dk_167 255 211 (dk_at dksX1_checksum_7 6 rfl rfl)
theorem dX1_checksum_171 : decode cX1_checksum 171 = .ok (.aload_n 0, 1) := dk_42 (dk_at dksX1_checksum_7 9 rfl rfl)
theorem dX1_checksum_172 : decode cX1_checksum 172 = .ok (.getfield 48, 3) := dk_180 0 48 (dk_at dksX1_checksum_7 10 rfl rfl)
theorem dX1_checksum_175 : decode cX1_checksum 175 = .ok (.invokevirtual 271, 3) := dk_182 1 15 (dk_at dksX1_checksum_7 13 rfl rfl)
theorem dX1_checksum_178 : decode cX1_checksum 178 = .ok (.ifCond .eq 7, 3) := dk_153 0 7 (dk_at dksX1_checksum_7 16 rfl rfl)
theorem dX1_checksum_181 : decode cX1_checksum 181 = .ok (.aload_n 0, 1) := dk_42 (dk_at dksX1_checksum_7 19 rfl rfl)
theorem dX1_checksum_182 : decode cX1_checksum 182 = .ok (.invokevirtual 365, 3) := dk_182 1 109 (dk_at dksX1_checksum_7 20 rfl rfl)
theorem dX1_checksum_185 : decode cX1_checksum 185 = .ok (.aload_n 0, 1) := dk_42 (dk_at dksX1_checksum_7 23 rfl rfl)
theorem dX1_checksum_186 : decode cX1_checksum 186 = .ok (.aload_n 0, 1) := dk_42 (dk_at dksX1_checksum_8 0 rfl rfl)
theorem dX1_checksum_187 : decode cX1_checksum 187 = .ok (.getfield 62, 3) := dk_180 0 62 (dk_at dksX1_checksum_8 1 rfl rfl)
theorem dX1_checksum_190 : decode cX1_checksum 190 = .ok (.invokevirtual 307, 3) := dk_182 1 51 (dk_at dksX1_checksum_8 4 rfl rfl)
theorem dX1_checksum_193 : decode cX1_checksum 193 = .ok (.invokevirtual 360, 3) := dk_182 1 104 (dk_at dksX1_checksum_8 7 rfl rfl)
theorem dX1_checksum_196 : decode cX1_checksum 196 = .ok (.aload_n 0, 1) := dk_42 (dk_at dksX1_checksum_8 10 rfl rfl)
theorem dX1_checksum_197 : decode cX1_checksum 197 = .ok (.aload_n 0, 1) := dk_42 (dk_at dksX1_checksum_8 11 rfl rfl)
theorem dX1_checksum_198 : decode cX1_checksum 198 = .ok (.getfield 55, 3) := dk_180 0 55 (dk_at dksX1_checksum_8 12 rfl rfl)
theorem dX1_checksum_201 : decode cX1_checksum 201 = .ok (.invokevirtual 100, 3) := dk_182 0 100 (dk_at dksX1_checksum_8 15 rfl rfl)
theorem dX1_checksum_204 : decode cX1_checksum 204 = .ok (.invokevirtual 360, 3) := dk_182 1 104 (dk_at dksX1_checksum_8 18 rfl rfl)
theorem dX1_checksum_207 : decode cX1_checksum 207 = .ok (.aload_n 0, 1) := dk_42 (dk_at dksX1_checksum_8 21 rfl rfl)
theorem dX1_checksum_208 : decode cX1_checksum 208 = .ok (.getfield 356, 3) := dk_180 1 100 (dk_at dksX1_checksum_9 0 rfl rfl)
theorem dX1_checksum_211 : decode cX1_checksum 211 = .ok (.lreturn, 1) := dk_173 (dk_at dksX1_checksum_9 3 rfl rfl)
abbrev cX1_counted : ByteArray := prog_1_method_27_code
def yX1_counted : MethodName := ⟨RX1, "counted", "(I)I"⟩
def dkwX1_counted_3 : List UInt8 := [190, 172, 42, 180, 0, 48, 182, 0, 185, 153, 0, 7, 4, 167, 0, 4, 3, 172]
abbrev dktX1_counted_3 : List UInt8 := dkwX1_counted_3 ++ []
def dkwX1_counted_2 : List UInt8 := [42, 180, 0, 39, 182, 0, 96, 172, 42, 180, 0, 39, 180, 0, 83, 190, 172, 42, 180, 0, 39, 180, 0, 144]
abbrev dktX1_counted_2 : List UInt8 := dkwX1_counted_2 ++ dktX1_counted_3
def dkwX1_counted_1 : List UInt8 := [170, 0, 0, 0, 0, 0, 53, 0, 0, 0, 0, 0, 0, 0, 2, 0, 0, 0, 27, 0, 0, 0, 35, 0, 0, 0, 44]
abbrev dktX1_counted_1 : List UInt8 := dkwX1_counted_1 ++ dktX1_counted_2
def dkwX1_counted_0 : List UInt8 := [27]
abbrev dktX1_counted_0 : List UInt8 := dkwX1_counted_0 ++ dktX1_counted_1
theorem dksX1_counted_0 : cX1_counted.data.toList.drop 0 = dktX1_counted_0 := by decide +kernel
theorem dksX1_counted_1 : cX1_counted.data.toList.drop 1 = dktX1_counted_1 := dk_seg dksX1_counted_0 1 rfl rfl
theorem dksX1_counted_2 : cX1_counted.data.toList.drop 28 = dktX1_counted_2 := dk_seg dksX1_counted_1 27 rfl rfl
theorem dksX1_counted_3 : cX1_counted.data.toList.drop 52 = dktX1_counted_3 := dk_seg dksX1_counted_2 24 rfl rfl
theorem dX1_counted_0 : decode cX1_counted 0 = .ok (.iload_n 1, 1) := dk_27 (dk_at dksX1_counted_0 0 rfl rfl)
theorem dX1_counted_1 : decode cX1_counted 1 = .ok (.tableswitch 53 0 2 #[27, 35, 44], 27) := by decide +kernel
theorem dX1_counted_28 : decode cX1_counted 28 = .ok (.aload_n 0, 1) := dk_42 (dk_at dksX1_counted_2 0 rfl rfl)
theorem dX1_counted_29 : decode cX1_counted 29 = .ok (.getfield 39, 3) := dk_180 0 39 (dk_at dksX1_counted_2 1 rfl rfl)
theorem dX1_counted_32 : decode cX1_counted 32 = .ok (.invokevirtual 96, 3) := dk_182 0 96 (dk_at dksX1_counted_2 4 rfl rfl)
theorem dX1_counted_35 : decode cX1_counted 35 = .ok (.ireturn, 1) := dk_172 (dk_at dksX1_counted_2 7 rfl rfl)
theorem dX1_counted_36 : decode cX1_counted 36 = .ok (.aload_n 0, 1) := dk_42 (dk_at dksX1_counted_2 8 rfl rfl)
theorem dX1_counted_37 : decode cX1_counted 37 = .ok (.getfield 39, 3) := dk_180 0 39 (dk_at dksX1_counted_2 9 rfl rfl)
theorem dX1_counted_40 : decode cX1_counted 40 = .ok (.getfield 83, 3) := dk_180 0 83 (dk_at dksX1_counted_2 12 rfl rfl)
theorem dX1_counted_43 : decode cX1_counted 43 = .ok (.arraylength, 1) := dk_190 (dk_at dksX1_counted_2 15 rfl rfl)
theorem dX1_counted_44 : decode cX1_counted 44 = .ok (.ireturn, 1) := dk_172 (dk_at dksX1_counted_2 16 rfl rfl)
theorem dX1_counted_45 : decode cX1_counted 45 = .ok (.aload_n 0, 1) := dk_42 (dk_at dksX1_counted_2 17 rfl rfl)
theorem dX1_counted_46 : decode cX1_counted 46 = .ok (.getfield 39, 3) := dk_180 0 39 (dk_at dksX1_counted_2 18 rfl rfl)
theorem dX1_counted_49 : decode cX1_counted 49 = .ok (.getfield 144, 3) := dk_180 0 144 (dk_at dksX1_counted_2 21 rfl rfl)
theorem dX1_counted_52 : decode cX1_counted 52 = .ok (.arraylength, 1) := dk_190 (dk_at dksX1_counted_3 0 rfl rfl)
theorem dX1_counted_53 : decode cX1_counted 53 = .ok (.ireturn, 1) := dk_172 (dk_at dksX1_counted_3 1 rfl rfl)
theorem dX1_counted_54 : decode cX1_counted 54 = .ok (.aload_n 0, 1) := dk_42 (dk_at dksX1_counted_3 2 rfl rfl)
theorem dX1_counted_55 : decode cX1_counted 55 = .ok (.getfield 48, 3) := dk_180 0 48 (dk_at dksX1_counted_3 3 rfl rfl)
theorem dX1_counted_58 : decode cX1_counted 58 = .ok (.invokevirtual 185, 3) := dk_182 0 185 (dk_at dksX1_counted_3 6 rfl rfl)
theorem dX1_counted_61 : decode cX1_counted 61 = .ok (.ifCond .eq 7, 3) := dk_153 0 7 (dk_at dksX1_counted_3 9 rfl rfl)
theorem dX1_counted_64 : decode cX1_counted 64 = .ok (.iconst 1, 1) := dk_4 (dk_at dksX1_counted_3 12 rfl rfl)
theorem dX1_counted_65 : decode cX1_counted 65 = .ok (.goto 4, 3) := dk_167 0 4 (dk_at dksX1_counted_3 13 rfl rfl)
theorem dX1_counted_68 : decode cX1_counted 68 = .ok (.iconst 0, 1) := dk_3 (dk_at dksX1_counted_3 16 rfl rfl)
theorem dX1_counted_69 : decode cX1_counted 69 = .ok (.ireturn, 1) := dk_172 (dk_at dksX1_counted_3 17 rfl rfl)
abbrev cX1_mix : ByteArray := prog_1_method_59_code
def yX1_mix : MethodName := ⟨RX1, "mix", "(I)V"⟩
def dkwX1_mix_0 : List UInt8 := [42, 20, 1, 98, 42, 180, 1, 100, 105, 27, 133, 97, 181, 1, 100, 177]
abbrev dktX1_mix_0 : List UInt8 := dkwX1_mix_0 ++ []
theorem dksX1_mix_0 : cX1_mix.data.toList.drop 0 = dktX1_mix_0 := by decide +kernel
theorem dX1_mix_0 : decode cX1_mix 0 = .ok (.aload_n 0, 1) := dk_42 (dk_at dksX1_mix_0 0 rfl rfl)
theorem dX1_mix_1 : decode cX1_mix 1 = .ok (.ldc2_w 354, 3) := dk_20 1 98 (dk_at dksX1_mix_0 1 rfl rfl)
theorem dX1_mix_4 : decode cX1_mix 4 = .ok (.aload_n 0, 1) := dk_42 (dk_at dksX1_mix_0 4 rfl rfl)
theorem dX1_mix_5 : decode cX1_mix 5 = .ok (.getfield 356, 3) := dk_180 1 100 (dk_at dksX1_mix_0 5 rfl rfl)
theorem dX1_mix_8 : decode cX1_mix 8 = .ok (.lmul, 1) := dk_105 (dk_at dksX1_mix_0 8 rfl rfl)
theorem dX1_mix_9 : decode cX1_mix 9 = .ok (.iload_n 1, 1) := dk_27 (dk_at dksX1_mix_0 9 rfl rfl)
theorem dX1_mix_10 : decode cX1_mix 10 = .ok (.i2l, 1) := dk_133 (dk_at dksX1_mix_0 10 rfl rfl)
theorem dX1_mix_11 : decode cX1_mix 11 = .ok (.ladd, 1) := dk_97 (dk_at dksX1_mix_0 11 rfl rfl)
theorem dX1_mix_12 : decode cX1_mix 12 = .ok (.putfield 356, 3) := dk_181 1 100 (dk_at dksX1_mix_0 12 rfl rfl)
theorem dX1_mix_15 : decode cX1_mix 15 = .ok (.return_, 1) := dk_177 (dk_at dksX1_mix_0 15 rfl rfl)
abbrev cX1_propertyOf : ByteArray := prog_1_method_30_code
def yX1_propertyOf : MethodName := ⟨RX1, "propertyOf", "(II)I"⟩
def dkwX1_propertyOf_1 : List UInt8 := [180, 0, 39, 180, 0, 160, 27, 46, 167, 0, 11, 42, 180, 0, 39, 27, 182, 0, 196, 172]
abbrev dktX1_propertyOf_1 : List UInt8 := dkwX1_propertyOf_1 ++ []
def dkwX1_propertyOf_0 : List UInt8 := [28, 154, 0, 15, 42, 180, 0, 39, 180, 0, 152, 27, 46, 167, 0, 28, 28, 4, 160, 0, 15, 42]
abbrev dktX1_propertyOf_0 : List UInt8 := dkwX1_propertyOf_0 ++ dktX1_propertyOf_1
theorem dksX1_propertyOf_0 : cX1_propertyOf.data.toList.drop 0 = dktX1_propertyOf_0 := by decide +kernel
theorem dksX1_propertyOf_1 : cX1_propertyOf.data.toList.drop 22 = dktX1_propertyOf_1 := dk_seg dksX1_propertyOf_0 22 rfl rfl
theorem dX1_propertyOf_0 : decode cX1_propertyOf 0 = .ok (.iload_n 2, 1) := dk_28 (dk_at dksX1_propertyOf_0 0 rfl rfl)
theorem dX1_propertyOf_1 : decode cX1_propertyOf 1 = .ok (.ifCond .ne 15, 3) := dk_154 0 15 (dk_at dksX1_propertyOf_0 1 rfl rfl)
theorem dX1_propertyOf_4 : decode cX1_propertyOf 4 = .ok (.aload_n 0, 1) := dk_42 (dk_at dksX1_propertyOf_0 4 rfl rfl)
theorem dX1_propertyOf_5 : decode cX1_propertyOf 5 = .ok (.getfield 39, 3) := dk_180 0 39 (dk_at dksX1_propertyOf_0 5 rfl rfl)
theorem dX1_propertyOf_8 : decode cX1_propertyOf 8 = .ok (.getfield 152, 3) := dk_180 0 152 (dk_at dksX1_propertyOf_0 8 rfl rfl)
theorem dX1_propertyOf_11 : decode cX1_propertyOf 11 = .ok (.iload_n 1, 1) := dk_27 (dk_at dksX1_propertyOf_0 11 rfl rfl)
theorem dX1_propertyOf_12 : decode cX1_propertyOf 12 = .ok (.iaload, 1) := dk_46 (dk_at dksX1_propertyOf_0 12 rfl rfl)
theorem dX1_propertyOf_13 : decode cX1_propertyOf 13 = .ok (.goto 28, 3) := dk_167 0 28 (dk_at dksX1_propertyOf_0 13 rfl rfl)
theorem dX1_propertyOf_16 : decode cX1_propertyOf 16 = .ok (.iload_n 2, 1) := dk_28 (dk_at dksX1_propertyOf_0 16 rfl rfl)
theorem dX1_propertyOf_17 : decode cX1_propertyOf 17 = .ok (.iconst 1, 1) := dk_4 (dk_at dksX1_propertyOf_0 17 rfl rfl)
theorem dX1_propertyOf_18 : decode cX1_propertyOf 18 = .ok (.if_icmp .ne 15, 3) := dk_160 0 15 (dk_at dksX1_propertyOf_0 18 rfl rfl)
theorem dX1_propertyOf_21 : decode cX1_propertyOf 21 = .ok (.aload_n 0, 1) := dk_42 (dk_at dksX1_propertyOf_0 21 rfl rfl)
theorem dX1_propertyOf_22 : decode cX1_propertyOf 22 = .ok (.getfield 39, 3) := dk_180 0 39 (dk_at dksX1_propertyOf_1 0 rfl rfl)
theorem dX1_propertyOf_25 : decode cX1_propertyOf 25 = .ok (.getfield 160, 3) := dk_180 0 160 (dk_at dksX1_propertyOf_1 3 rfl rfl)
theorem dX1_propertyOf_28 : decode cX1_propertyOf 28 = .ok (.iload_n 1, 1) := dk_27 (dk_at dksX1_propertyOf_1 6 rfl rfl)
theorem dX1_propertyOf_29 : decode cX1_propertyOf 29 = .ok (.iaload, 1) := dk_46 (dk_at dksX1_propertyOf_1 7 rfl rfl)
theorem dX1_propertyOf_30 : decode cX1_propertyOf 30 = .ok (.goto 11, 3) := dk_167 0 11 (dk_at dksX1_propertyOf_1 8 rfl rfl)
theorem dX1_propertyOf_33 : decode cX1_propertyOf 33 = .ok (.aload_n 0, 1) := dk_42 (dk_at dksX1_propertyOf_1 11 rfl rfl)
theorem dX1_propertyOf_34 : decode cX1_propertyOf 34 = .ok (.getfield 39, 3) := dk_180 0 39 (dk_at dksX1_propertyOf_1 12 rfl rfl)
theorem dX1_propertyOf_37 : decode cX1_propertyOf 37 = .ok (.iload_n 1, 1) := dk_27 (dk_at dksX1_propertyOf_1 15 rfl rfl)
theorem dX1_propertyOf_38 : decode cX1_propertyOf 38 = .ok (.invokevirtual 196, 3) := dk_182 0 196 (dk_at dksX1_propertyOf_1 16 rfl rfl)
theorem dX1_propertyOf_41 : decode cX1_propertyOf 41 = .ok (.ireturn, 1) := dk_172 (dk_at dksX1_propertyOf_1 19 rfl rfl)
abbrev cX1_mixCenters : ByteArray := prog_1_method_60_code
def yX1_mixCenters : MethodName := ⟨RX1, "mixCenters", "()V"⟩
def dkwX1_mixCenters_7 : List UInt8 := [21, 4, 182, 1, 11, 182, 1, 104, 132, 4, 1, 167, 255, 235, 132, 3, 1, 167, 255, 214, 177]
abbrev dktX1_mixCenters_7 : List UInt8 := dkwX1_mixCenters_7 ++ []
def dkwX1_mixCenters_6 : List UInt8 := [180, 0, 39, 180, 0, 83, 190, 162, 0, 36, 3, 54, 4, 21, 4, 7, 162, 0, 21, 42, 42, 29, 4]
abbrev dktX1_mixCenters_6 : List UInt8 := dkwX1_mixCenters_6 ++ dktX1_mixCenters_7
def dkwX1_mixCenters_5 : List UInt8 := [3, 182, 1, 18, 182, 1, 104, 42, 42, 180, 0, 48, 28, 4, 182, 1, 18, 182, 1, 104, 3, 62, 29, 42]
abbrev dktX1_mixCenters_5 : List UInt8 := dkwX1_mixCenters_5 ++ dktX1_mixCenters_6
def dkwX1_mixCenters_4 : List UInt8 := [182, 1, 104, 132, 2, 1, 167, 255, 239, 42, 180, 0, 48, 5, 182, 1, 38, 61, 42, 42, 180, 0, 48, 28]
abbrev dktX1_mixCenters_4 : List UInt8 := dkwX1_mixCenters_4 ++ dktX1_mixCenters_5
def dkwX1_mixCenters_3 : List UInt8 := [180, 0, 48, 27, 182, 1, 29, 182, 1, 104, 3, 61, 28, 8, 162, 0, 18, 42, 42, 28, 182, 1, 35]
abbrev dktX1_mixCenters_3 : List UInt8 := dkwX1_mixCenters_3 ++ dktX1_mixCenters_4
def dkwX1_mixCenters_2 : List UInt8 := [42, 42, 180, 0, 48, 27, 182, 1, 23, 28, 182, 1, 26, 182, 1, 104, 132, 2, 1, 167, 255, 231, 42, 42]
abbrev dktX1_mixCenters_2 : List UInt8 := dkwX1_mixCenters_2 ++ dktX1_mixCenters_3
def dkwX1_mixCenters_1 : List UInt8 := [182, 1, 104, 42, 42, 180, 0, 48, 27, 4, 182, 1, 18, 182, 1, 104, 3, 61, 28, 6, 162, 0, 26, 42]
abbrev dktX1_mixCenters_1 : List UInt8 := dkwX1_mixCenters_1 ++ dktX1_mixCenters_2
def dkwX1_mixCenters_0 : List UInt8 := [4, 42, 180, 0, 39, 182, 0, 96, 120, 4, 100, 60, 42, 42, 180, 0, 48, 27, 3, 182, 1, 18]
abbrev dktX1_mixCenters_0 : List UInt8 := dkwX1_mixCenters_0 ++ dktX1_mixCenters_1
theorem dksX1_mixCenters_0 : cX1_mixCenters.data.toList.drop 0 = dktX1_mixCenters_0 := by decide +kernel
theorem dksX1_mixCenters_1 : cX1_mixCenters.data.toList.drop 22 = dktX1_mixCenters_1 := dk_seg dksX1_mixCenters_0 22 rfl rfl
theorem dksX1_mixCenters_2 : cX1_mixCenters.data.toList.drop 46 = dktX1_mixCenters_2 := dk_seg dksX1_mixCenters_1 24 rfl rfl
theorem dksX1_mixCenters_3 : cX1_mixCenters.data.toList.drop 70 = dktX1_mixCenters_3 := dk_seg dksX1_mixCenters_2 24 rfl rfl
theorem dksX1_mixCenters_4 : cX1_mixCenters.data.toList.drop 93 = dktX1_mixCenters_4 := dk_seg dksX1_mixCenters_3 23 rfl rfl
theorem dksX1_mixCenters_5 : cX1_mixCenters.data.toList.drop 117 = dktX1_mixCenters_5 := dk_seg dksX1_mixCenters_4 24 rfl rfl
theorem dksX1_mixCenters_6 : cX1_mixCenters.data.toList.drop 141 = dktX1_mixCenters_6 := dk_seg dksX1_mixCenters_5 24 rfl rfl
theorem dksX1_mixCenters_7 : cX1_mixCenters.data.toList.drop 164 = dktX1_mixCenters_7 := dk_seg dksX1_mixCenters_6 23 rfl rfl
theorem dX1_mixCenters_0 : decode cX1_mixCenters 0 = .ok (.iconst 1, 1) := dk_4 (dk_at dksX1_mixCenters_0 0 rfl rfl)
theorem dX1_mixCenters_1 : decode cX1_mixCenters 1 = .ok (.aload_n 0, 1) := dk_42 (dk_at dksX1_mixCenters_0 1 rfl rfl)
theorem dX1_mixCenters_2 : decode cX1_mixCenters 2 = .ok (.getfield 39, 3) := dk_180 0 39 (dk_at dksX1_mixCenters_0 2 rfl rfl)
theorem dX1_mixCenters_5 : decode cX1_mixCenters 5 = .ok (.invokevirtual 96, 3) := dk_182 0 96 (dk_at dksX1_mixCenters_0 5 rfl rfl)
theorem dX1_mixCenters_8 : decode cX1_mixCenters 8 = .ok (.ishl, 1) := dk_120 (dk_at dksX1_mixCenters_0 8 rfl rfl)
theorem dX1_mixCenters_9 : decode cX1_mixCenters 9 = .ok (.iconst 1, 1) := dk_4 (dk_at dksX1_mixCenters_0 9 rfl rfl)
theorem dX1_mixCenters_10 : decode cX1_mixCenters 10 = .ok (.isub, 1) := dk_100 (dk_at dksX1_mixCenters_0 10 rfl rfl)
theorem dX1_mixCenters_11 : decode cX1_mixCenters 11 = .ok (.istore_n 1, 1) := dk_60 (dk_at dksX1_mixCenters_0 11 rfl rfl)
theorem dX1_mixCenters_12 : decode cX1_mixCenters 12 = .ok (.aload_n 0, 1) := dk_42 (dk_at dksX1_mixCenters_0 12 rfl rfl)
theorem dX1_mixCenters_13 : decode cX1_mixCenters 13 = .ok (.aload_n 0, 1) := dk_42 (dk_at dksX1_mixCenters_0 13 rfl rfl)
theorem dX1_mixCenters_14 : decode cX1_mixCenters 14 = .ok (.getfield 48, 3) := dk_180 0 48 (dk_at dksX1_mixCenters_0 14 rfl rfl)
theorem dX1_mixCenters_17 : decode cX1_mixCenters 17 = .ok (.iload_n 1, 1) := dk_27 (dk_at dksX1_mixCenters_0 17 rfl rfl)
theorem dX1_mixCenters_18 : decode cX1_mixCenters 18 = .ok (.iconst 0, 1) := dk_3 (dk_at dksX1_mixCenters_0 18 rfl rfl)
theorem dX1_mixCenters_19 : decode cX1_mixCenters 19 = .ok (.invokevirtual 274, 3) := dk_182 1 18 (dk_at dksX1_mixCenters_0 19 rfl rfl)
theorem dX1_mixCenters_22 : decode cX1_mixCenters 22 = .ok (.invokevirtual 360, 3) := dk_182 1 104 (dk_at dksX1_mixCenters_1 0 rfl rfl)
theorem dX1_mixCenters_25 : decode cX1_mixCenters 25 = .ok (.aload_n 0, 1) := dk_42 (dk_at dksX1_mixCenters_1 3 rfl rfl)
theorem dX1_mixCenters_26 : decode cX1_mixCenters 26 = .ok (.aload_n 0, 1) := dk_42 (dk_at dksX1_mixCenters_1 4 rfl rfl)
theorem dX1_mixCenters_27 : decode cX1_mixCenters 27 = .ok (.getfield 48, 3) := dk_180 0 48 (dk_at dksX1_mixCenters_1 5 rfl rfl)
theorem dX1_mixCenters_30 : decode cX1_mixCenters 30 = .ok (.iload_n 1, 1) := dk_27 (dk_at dksX1_mixCenters_1 8 rfl rfl)
theorem dX1_mixCenters_31 : decode cX1_mixCenters 31 = .ok (.iconst 1, 1) := dk_4 (dk_at dksX1_mixCenters_1 9 rfl rfl)
theorem dX1_mixCenters_32 : decode cX1_mixCenters 32 = .ok (.invokevirtual 274, 3) := dk_182 1 18 (dk_at dksX1_mixCenters_1 10 rfl rfl)
theorem dX1_mixCenters_35 : decode cX1_mixCenters 35 = .ok (.invokevirtual 360, 3) := dk_182 1 104 (dk_at dksX1_mixCenters_1 13 rfl rfl)
theorem dX1_mixCenters_38 : decode cX1_mixCenters 38 = .ok (.iconst 0, 1) := dk_3 (dk_at dksX1_mixCenters_1 16 rfl rfl)
theorem dX1_mixCenters_39 : decode cX1_mixCenters 39 = .ok (.istore_n 2, 1) := dk_61 (dk_at dksX1_mixCenters_1 17 rfl rfl)
theorem dX1_mixCenters_40 : decode cX1_mixCenters 40 = .ok (.iload_n 2, 1) := dk_28 (dk_at dksX1_mixCenters_1 18 rfl rfl)
theorem dX1_mixCenters_41 : decode cX1_mixCenters 41 = .ok (.iconst 3, 1) := dk_6 (dk_at dksX1_mixCenters_1 19 rfl rfl)
theorem dX1_mixCenters_42 : decode cX1_mixCenters 42 = .ok (.if_icmp .ge 26, 3) := dk_162 0 26 (dk_at dksX1_mixCenters_1 20 rfl rfl)
theorem dX1_mixCenters_45 : decode cX1_mixCenters 45 = .ok (.aload_n 0, 1) := dk_42 (dk_at dksX1_mixCenters_1 23 rfl rfl)
theorem dX1_mixCenters_46 : decode cX1_mixCenters 46 = .ok (.aload_n 0, 1) := dk_42 (dk_at dksX1_mixCenters_2 0 rfl rfl)
theorem dX1_mixCenters_47 : decode cX1_mixCenters 47 = .ok (.aload_n 0, 1) := dk_42 (dk_at dksX1_mixCenters_2 1 rfl rfl)
theorem dX1_mixCenters_48 : decode cX1_mixCenters 48 = .ok (.getfield 48, 3) := dk_180 0 48 (dk_at dksX1_mixCenters_2 2 rfl rfl)
theorem dX1_mixCenters_51 : decode cX1_mixCenters 51 = .ok (.iload_n 1, 1) := dk_27 (dk_at dksX1_mixCenters_2 5 rfl rfl)
theorem dX1_mixCenters_52 : decode cX1_mixCenters 52 = .ok (.invokevirtual 279, 3) := dk_182 1 23 (dk_at dksX1_mixCenters_2 6 rfl rfl)
theorem dX1_mixCenters_55 : decode cX1_mixCenters 55 = .ok (.iload_n 2, 1) := dk_28 (dk_at dksX1_mixCenters_2 9 rfl rfl)
theorem dX1_mixCenters_56 : decode cX1_mixCenters 56 = .ok (.invokevirtual 282, 3) := dk_182 1 26 (dk_at dksX1_mixCenters_2 10 rfl rfl)
theorem dX1_mixCenters_59 : decode cX1_mixCenters 59 = .ok (.invokevirtual 360, 3) := dk_182 1 104 (dk_at dksX1_mixCenters_2 13 rfl rfl)
theorem dX1_mixCenters_62 : decode cX1_mixCenters 62 = .ok (.iinc 2 1, 3) := dk_132 2 1 (dk_at dksX1_mixCenters_2 16 rfl rfl)
theorem dX1_mixCenters_65 : decode cX1_mixCenters 65 = .ok (.goto (-25), 3) := dk_167 255 231 (dk_at dksX1_mixCenters_2 19 rfl rfl)
theorem dX1_mixCenters_68 : decode cX1_mixCenters 68 = .ok (.aload_n 0, 1) := dk_42 (dk_at dksX1_mixCenters_2 22 rfl rfl)
theorem dX1_mixCenters_69 : decode cX1_mixCenters 69 = .ok (.aload_n 0, 1) := dk_42 (dk_at dksX1_mixCenters_2 23 rfl rfl)
theorem dX1_mixCenters_70 : decode cX1_mixCenters 70 = .ok (.getfield 48, 3) := dk_180 0 48 (dk_at dksX1_mixCenters_3 0 rfl rfl)
theorem dX1_mixCenters_73 : decode cX1_mixCenters 73 = .ok (.iload_n 1, 1) := dk_27 (dk_at dksX1_mixCenters_3 3 rfl rfl)
theorem dX1_mixCenters_74 : decode cX1_mixCenters 74 = .ok (.invokevirtual 285, 3) := dk_182 1 29 (dk_at dksX1_mixCenters_3 4 rfl rfl)
theorem dX1_mixCenters_77 : decode cX1_mixCenters 77 = .ok (.invokevirtual 360, 3) := dk_182 1 104 (dk_at dksX1_mixCenters_3 7 rfl rfl)
theorem dX1_mixCenters_80 : decode cX1_mixCenters 80 = .ok (.iconst 0, 1) := dk_3 (dk_at dksX1_mixCenters_3 10 rfl rfl)
theorem dX1_mixCenters_81 : decode cX1_mixCenters 81 = .ok (.istore_n 2, 1) := dk_61 (dk_at dksX1_mixCenters_3 11 rfl rfl)
theorem dX1_mixCenters_82 : decode cX1_mixCenters 82 = .ok (.iload_n 2, 1) := dk_28 (dk_at dksX1_mixCenters_3 12 rfl rfl)
theorem dX1_mixCenters_83 : decode cX1_mixCenters 83 = .ok (.iconst 5, 1) := dk_8 (dk_at dksX1_mixCenters_3 13 rfl rfl)
theorem dX1_mixCenters_84 : decode cX1_mixCenters 84 = .ok (.if_icmp .ge 18, 3) := dk_162 0 18 (dk_at dksX1_mixCenters_3 14 rfl rfl)
theorem dX1_mixCenters_87 : decode cX1_mixCenters 87 = .ok (.aload_n 0, 1) := dk_42 (dk_at dksX1_mixCenters_3 17 rfl rfl)
theorem dX1_mixCenters_88 : decode cX1_mixCenters 88 = .ok (.aload_n 0, 1) := dk_42 (dk_at dksX1_mixCenters_3 18 rfl rfl)
theorem dX1_mixCenters_89 : decode cX1_mixCenters 89 = .ok (.iload_n 2, 1) := dk_28 (dk_at dksX1_mixCenters_3 19 rfl rfl)
theorem dX1_mixCenters_90 : decode cX1_mixCenters 90 = .ok (.invokevirtual 291, 3) := dk_182 1 35 (dk_at dksX1_mixCenters_3 20 rfl rfl)
theorem dX1_mixCenters_93 : decode cX1_mixCenters 93 = .ok (.invokevirtual 360, 3) := dk_182 1 104 (dk_at dksX1_mixCenters_4 0 rfl rfl)
theorem dX1_mixCenters_96 : decode cX1_mixCenters 96 = .ok (.iinc 2 1, 3) := dk_132 2 1 (dk_at dksX1_mixCenters_4 3 rfl rfl)
theorem dX1_mixCenters_99 : decode cX1_mixCenters 99 = .ok (.goto (-17), 3) := dk_167 255 239 (dk_at dksX1_mixCenters_4 6 rfl rfl)
theorem dX1_mixCenters_102 : decode cX1_mixCenters 102 = .ok (.aload_n 0, 1) := dk_42 (dk_at dksX1_mixCenters_4 9 rfl rfl)
theorem dX1_mixCenters_103 : decode cX1_mixCenters 103 = .ok (.getfield 48, 3) := dk_180 0 48 (dk_at dksX1_mixCenters_4 10 rfl rfl)
theorem dX1_mixCenters_106 : decode cX1_mixCenters 106 = .ok (.iconst 2, 1) := dk_5 (dk_at dksX1_mixCenters_4 13 rfl rfl)
theorem dX1_mixCenters_107 : decode cX1_mixCenters 107 = .ok (.invokevirtual 294, 3) := dk_182 1 38 (dk_at dksX1_mixCenters_4 14 rfl rfl)
theorem dX1_mixCenters_110 : decode cX1_mixCenters 110 = .ok (.istore_n 2, 1) := dk_61 (dk_at dksX1_mixCenters_4 17 rfl rfl)
theorem dX1_mixCenters_111 : decode cX1_mixCenters 111 = .ok (.aload_n 0, 1) := dk_42 (dk_at dksX1_mixCenters_4 18 rfl rfl)
theorem dX1_mixCenters_112 : decode cX1_mixCenters 112 = .ok (.aload_n 0, 1) := dk_42 (dk_at dksX1_mixCenters_4 19 rfl rfl)
theorem dX1_mixCenters_113 : decode cX1_mixCenters 113 = .ok (.getfield 48, 3) := dk_180 0 48 (dk_at dksX1_mixCenters_4 20 rfl rfl)
theorem dX1_mixCenters_116 : decode cX1_mixCenters 116 = .ok (.iload_n 2, 1) := dk_28 (dk_at dksX1_mixCenters_4 23 rfl rfl)
theorem dX1_mixCenters_117 : decode cX1_mixCenters 117 = .ok (.iconst 0, 1) := dk_3 (dk_at dksX1_mixCenters_5 0 rfl rfl)
theorem dX1_mixCenters_118 : decode cX1_mixCenters 118 = .ok (.invokevirtual 274, 3) := dk_182 1 18 (dk_at dksX1_mixCenters_5 1 rfl rfl)
theorem dX1_mixCenters_121 : decode cX1_mixCenters 121 = .ok (.invokevirtual 360, 3) := dk_182 1 104 (dk_at dksX1_mixCenters_5 4 rfl rfl)
theorem dX1_mixCenters_124 : decode cX1_mixCenters 124 = .ok (.aload_n 0, 1) := dk_42 (dk_at dksX1_mixCenters_5 7 rfl rfl)
theorem dX1_mixCenters_125 : decode cX1_mixCenters 125 = .ok (.aload_n 0, 1) := dk_42 (dk_at dksX1_mixCenters_5 8 rfl rfl)
theorem dX1_mixCenters_126 : decode cX1_mixCenters 126 = .ok (.getfield 48, 3) := dk_180 0 48 (dk_at dksX1_mixCenters_5 9 rfl rfl)
theorem dX1_mixCenters_129 : decode cX1_mixCenters 129 = .ok (.iload_n 2, 1) := dk_28 (dk_at dksX1_mixCenters_5 12 rfl rfl)
theorem dX1_mixCenters_130 : decode cX1_mixCenters 130 = .ok (.iconst 1, 1) := dk_4 (dk_at dksX1_mixCenters_5 13 rfl rfl)
theorem dX1_mixCenters_131 : decode cX1_mixCenters 131 = .ok (.invokevirtual 274, 3) := dk_182 1 18 (dk_at dksX1_mixCenters_5 14 rfl rfl)
theorem dX1_mixCenters_134 : decode cX1_mixCenters 134 = .ok (.invokevirtual 360, 3) := dk_182 1 104 (dk_at dksX1_mixCenters_5 17 rfl rfl)
theorem dX1_mixCenters_137 : decode cX1_mixCenters 137 = .ok (.iconst 0, 1) := dk_3 (dk_at dksX1_mixCenters_5 20 rfl rfl)
theorem dX1_mixCenters_138 : decode cX1_mixCenters 138 = .ok (.istore_n 3, 1) := dk_62 (dk_at dksX1_mixCenters_5 21 rfl rfl)
theorem dX1_mixCenters_139 : decode cX1_mixCenters 139 = .ok (.iload_n 3, 1) := dk_29 (dk_at dksX1_mixCenters_5 22 rfl rfl)
theorem dX1_mixCenters_140 : decode cX1_mixCenters 140 = .ok (.aload_n 0, 1) := dk_42 (dk_at dksX1_mixCenters_5 23 rfl rfl)
theorem dX1_mixCenters_141 : decode cX1_mixCenters 141 = .ok (.getfield 39, 3) := dk_180 0 39 (dk_at dksX1_mixCenters_6 0 rfl rfl)
theorem dX1_mixCenters_144 : decode cX1_mixCenters 144 = .ok (.getfield 83, 3) := dk_180 0 83 (dk_at dksX1_mixCenters_6 3 rfl rfl)
theorem dX1_mixCenters_147 : decode cX1_mixCenters 147 = .ok (.arraylength, 1) := dk_190 (dk_at dksX1_mixCenters_6 6 rfl rfl)
theorem dX1_mixCenters_148 : decode cX1_mixCenters 148 = .ok (.if_icmp .ge 36, 3) := dk_162 0 36 (dk_at dksX1_mixCenters_6 7 rfl rfl)
theorem dX1_mixCenters_151 : decode cX1_mixCenters 151 = .ok (.iconst 0, 1) := dk_3 (dk_at dksX1_mixCenters_6 10 rfl rfl)
theorem dX1_mixCenters_152 : decode cX1_mixCenters 152 = .ok (.istore 4, 2) := dk_54 4 (dk_at dksX1_mixCenters_6 11 rfl rfl)
theorem dX1_mixCenters_154 : decode cX1_mixCenters 154 = .ok (.iload 4, 2) := dk_21 4 (dk_at dksX1_mixCenters_6 13 rfl rfl)
theorem dX1_mixCenters_156 : decode cX1_mixCenters 156 = .ok (.iconst 4, 1) := dk_7 (dk_at dksX1_mixCenters_6 15 rfl rfl)
theorem dX1_mixCenters_157 : decode cX1_mixCenters 157 = .ok (.if_icmp .ge 21, 3) := dk_162 0 21 (dk_at dksX1_mixCenters_6 16 rfl rfl)
theorem dX1_mixCenters_160 : decode cX1_mixCenters 160 = .ok (.aload_n 0, 1) := dk_42 (dk_at dksX1_mixCenters_6 19 rfl rfl)
theorem dX1_mixCenters_161 : decode cX1_mixCenters 161 = .ok (.aload_n 0, 1) := dk_42 (dk_at dksX1_mixCenters_6 20 rfl rfl)
theorem dX1_mixCenters_162 : decode cX1_mixCenters 162 = .ok (.iload_n 3, 1) := dk_29 (dk_at dksX1_mixCenters_6 21 rfl rfl)
theorem dX1_mixCenters_163 : decode cX1_mixCenters 163 = .ok (.iconst 1, 1) := dk_4 (dk_at dksX1_mixCenters_6 22 rfl rfl)
theorem dX1_mixCenters_164 : decode cX1_mixCenters 164 = .ok (.iload 4, 2) := dk_21 4 (dk_at dksX1_mixCenters_7 0 rfl rfl)
theorem dX1_mixCenters_166 : decode cX1_mixCenters 166 = .ok (.invokevirtual 267, 3) := dk_182 1 11 (dk_at dksX1_mixCenters_7 2 rfl rfl)
theorem dX1_mixCenters_169 : decode cX1_mixCenters 169 = .ok (.invokevirtual 360, 3) := dk_182 1 104 (dk_at dksX1_mixCenters_7 5 rfl rfl)
theorem dX1_mixCenters_172 : decode cX1_mixCenters 172 = .ok (.iinc 4 1, 3) := dk_132 4 1 (dk_at dksX1_mixCenters_7 8 rfl rfl)
theorem dX1_mixCenters_175 : decode cX1_mixCenters 175 = .ok (.goto (-21), 3) := dk_167 255 235 (dk_at dksX1_mixCenters_7 11 rfl rfl)
theorem dX1_mixCenters_178 : decode cX1_mixCenters 178 = .ok (.iinc 3 1, 3) := dk_132 3 1 (dk_at dksX1_mixCenters_7 14 rfl rfl)
theorem dX1_mixCenters_181 : decode cX1_mixCenters 181 = .ok (.goto (-42), 3) := dk_167 255 214 (dk_at dksX1_mixCenters_7 17 rfl rfl)
theorem dX1_mixCenters_184 : decode cX1_mixCenters 184 = .ok (.return_, 1) := dk_177 (dk_at dksX1_mixCenters_7 20 rfl rfl)
abbrev cX1_divisor : ByteArray := prog_1_method_3_code
def yX1_divisor : MethodName := ⟨RX1, "divisor", "(JJ)J"⟩
def dkwX1_divisor_0 : List UInt8 := [32, 9, 148, 154, 0, 10, 30, 184, 0, 1, 167, 0, 10, 32, 30, 32, 113, 184, 0, 7, 173]
abbrev dktX1_divisor_0 : List UInt8 := dkwX1_divisor_0 ++ []
theorem dksX1_divisor_0 : cX1_divisor.data.toList.drop 0 = dktX1_divisor_0 := by decide +kernel
theorem dX1_divisor_0 : decode cX1_divisor 0 = .ok (.lload_n 2, 1) := dk_32 (dk_at dksX1_divisor_0 0 rfl rfl)
theorem dX1_divisor_1 : decode cX1_divisor 1 = .ok (.lconst 0, 1) := dk_9 (dk_at dksX1_divisor_0 1 rfl rfl)
theorem dX1_divisor_2 : decode cX1_divisor 2 = .ok (.lcmp, 1) := dk_148 (dk_at dksX1_divisor_0 2 rfl rfl)
theorem dX1_divisor_3 : decode cX1_divisor 3 = .ok (.ifCond .ne 10, 3) := dk_154 0 10 (dk_at dksX1_divisor_0 3 rfl rfl)
theorem dX1_divisor_6 : decode cX1_divisor 6 = .ok (.lload_n 0, 1) := dk_30 (dk_at dksX1_divisor_0 6 rfl rfl)
theorem dX1_divisor_7 : decode cX1_divisor 7 = .ok (.invokestatic 1, 3) := dk_184 0 1 (dk_at dksX1_divisor_0 7 rfl rfl)
theorem dX1_divisor_10 : decode cX1_divisor 10 = .ok (.goto 10, 3) := dk_167 0 10 (dk_at dksX1_divisor_0 10 rfl rfl)
theorem dX1_divisor_13 : decode cX1_divisor 13 = .ok (.lload_n 2, 1) := dk_32 (dk_at dksX1_divisor_0 13 rfl rfl)
theorem dX1_divisor_14 : decode cX1_divisor 14 = .ok (.lload_n 0, 1) := dk_30 (dk_at dksX1_divisor_0 14 rfl rfl)
theorem dX1_divisor_15 : decode cX1_divisor 15 = .ok (.lload_n 2, 1) := dk_32 (dk_at dksX1_divisor_0 15 rfl rfl)
theorem dX1_divisor_16 : decode cX1_divisor 16 = .ok (.lrem, 1) := dk_113 (dk_at dksX1_divisor_0 16 rfl rfl)
theorem dX1_divisor_17 : decode cX1_divisor 17 = .ok (.invokestatic 7, 3) := dk_184 0 7 (dk_at dksX1_divisor_0 17 rfl rfl)
theorem dX1_divisor_20 : decode cX1_divisor 20 = .ok (.lreturn, 1) := dk_173 (dk_at dksX1_divisor_0 20 rfl rfl)
abbrev cX1_slope : ByteArray := prog_1_method_4_code
def yX1_slope : MethodName := ⟨RX1, "slope", "(LNetworkCenters$Line;)I"⟩
def dkwX1_slope_1 : List UInt8 := [116, 172]
abbrev dktX1_slope_1 : List UInt8 := dkwX1_slope_1 ++ []
def dkwX1_slope_0 : List UInt8 := [42, 193, 0, 13, 153, 0, 13, 42, 192, 0, 13, 180, 0, 15, 167, 0, 11, 42, 192, 0, 19, 180, 0, 21]
abbrev dktX1_slope_0 : List UInt8 := dkwX1_slope_0 ++ dktX1_slope_1
theorem dksX1_slope_0 : cX1_slope.data.toList.drop 0 = dktX1_slope_0 := by decide +kernel
theorem dksX1_slope_1 : cX1_slope.data.toList.drop 24 = dktX1_slope_1 := dk_seg dksX1_slope_0 24 rfl rfl
theorem dX1_slope_0 : decode cX1_slope 0 = .ok (.aload_n 0, 1) := dk_42 (dk_at dksX1_slope_0 0 rfl rfl)
theorem dX1_slope_1 : decode cX1_slope 1 = .ok (.instanceof 13, 3) := dk_193 0 13 (dk_at dksX1_slope_0 1 rfl rfl)
theorem dX1_slope_4 : decode cX1_slope 4 = .ok (.ifCond .eq 13, 3) := dk_153 0 13 (dk_at dksX1_slope_0 4 rfl rfl)
theorem dX1_slope_7 : decode cX1_slope 7 = .ok (.aload_n 0, 1) := dk_42 (dk_at dksX1_slope_0 7 rfl rfl)
theorem dX1_slope_8 : decode cX1_slope 8 = .ok (.checkcast 13, 3) := dk_192 0 13 (dk_at dksX1_slope_0 8 rfl rfl)
theorem dX1_slope_11 : decode cX1_slope 11 = .ok (.getfield 15, 3) := dk_180 0 15 (dk_at dksX1_slope_0 11 rfl rfl)
theorem dX1_slope_14 : decode cX1_slope 14 = .ok (.goto 11, 3) := dk_167 0 11 (dk_at dksX1_slope_0 14 rfl rfl)
theorem dX1_slope_17 : decode cX1_slope 17 = .ok (.aload_n 0, 1) := dk_42 (dk_at dksX1_slope_0 17 rfl rfl)
theorem dX1_slope_18 : decode cX1_slope 18 = .ok (.checkcast 19, 3) := dk_192 0 19 (dk_at dksX1_slope_0 18 rfl rfl)
theorem dX1_slope_21 : decode cX1_slope 21 = .ok (.getfield 21, 3) := dk_180 0 21 (dk_at dksX1_slope_0 21 rfl rfl)
theorem dX1_slope_24 : decode cX1_slope 24 = .ok (.ineg, 1) := dk_116 (dk_at dksX1_slope_1 0 rfl rfl)
theorem dX1_slope_25 : decode cX1_slope 25 = .ok (.ireturn, 1) := dk_172 (dk_at dksX1_slope_1 1 rfl rfl)
abbrev cX1_atFirst : ByteArray := prog_1_method_5_code
def yX1_atFirst : MethodName := ⟨RX1, "atFirst", "(LNetworkCenters$Line;)I"⟩
def dkwX1_atFirst_1 : List UInt8 := [192, 0, 13, 76, 43, 180, 0, 15, 43, 180, 0, 25, 104, 172]
abbrev dktX1_atFirst_1 : List UInt8 := dkwX1_atFirst_1 ++ []
def dkwX1_atFirst_0 : List UInt8 := [42, 193, 0, 19, 153, 0, 18, 42, 192, 0, 19, 76, 43, 180, 0, 21, 43, 180, 0, 22, 104, 172, 42]
abbrev dktX1_atFirst_0 : List UInt8 := dkwX1_atFirst_0 ++ dktX1_atFirst_1
theorem dksX1_atFirst_0 : cX1_atFirst.data.toList.drop 0 = dktX1_atFirst_0 := by decide +kernel
theorem dksX1_atFirst_1 : cX1_atFirst.data.toList.drop 23 = dktX1_atFirst_1 := dk_seg dksX1_atFirst_0 23 rfl rfl
theorem dX1_atFirst_0 : decode cX1_atFirst 0 = .ok (.aload_n 0, 1) := dk_42 (dk_at dksX1_atFirst_0 0 rfl rfl)
theorem dX1_atFirst_1 : decode cX1_atFirst 1 = .ok (.instanceof 19, 3) := dk_193 0 19 (dk_at dksX1_atFirst_0 1 rfl rfl)
theorem dX1_atFirst_4 : decode cX1_atFirst 4 = .ok (.ifCond .eq 18, 3) := dk_153 0 18 (dk_at dksX1_atFirst_0 4 rfl rfl)
theorem dX1_atFirst_7 : decode cX1_atFirst 7 = .ok (.aload_n 0, 1) := dk_42 (dk_at dksX1_atFirst_0 7 rfl rfl)
theorem dX1_atFirst_8 : decode cX1_atFirst 8 = .ok (.checkcast 19, 3) := dk_192 0 19 (dk_at dksX1_atFirst_0 8 rfl rfl)
theorem dX1_atFirst_11 : decode cX1_atFirst 11 = .ok (.astore_n 1, 1) := dk_76 (dk_at dksX1_atFirst_0 11 rfl rfl)
theorem dX1_atFirst_12 : decode cX1_atFirst 12 = .ok (.aload_n 1, 1) := dk_43 (dk_at dksX1_atFirst_0 12 rfl rfl)
theorem dX1_atFirst_13 : decode cX1_atFirst 13 = .ok (.getfield 21, 3) := dk_180 0 21 (dk_at dksX1_atFirst_0 13 rfl rfl)
theorem dX1_atFirst_16 : decode cX1_atFirst 16 = .ok (.aload_n 1, 1) := dk_43 (dk_at dksX1_atFirst_0 16 rfl rfl)
theorem dX1_atFirst_17 : decode cX1_atFirst 17 = .ok (.getfield 22, 3) := dk_180 0 22 (dk_at dksX1_atFirst_0 17 rfl rfl)
theorem dX1_atFirst_20 : decode cX1_atFirst 20 = .ok (.imul, 1) := dk_104 (dk_at dksX1_atFirst_0 20 rfl rfl)
theorem dX1_atFirst_21 : decode cX1_atFirst 21 = .ok (.ireturn, 1) := dk_172 (dk_at dksX1_atFirst_0 21 rfl rfl)
theorem dX1_atFirst_22 : decode cX1_atFirst 22 = .ok (.aload_n 0, 1) := dk_42 (dk_at dksX1_atFirst_0 22 rfl rfl)
theorem dX1_atFirst_23 : decode cX1_atFirst 23 = .ok (.checkcast 13, 3) := dk_192 0 13 (dk_at dksX1_atFirst_1 0 rfl rfl)
theorem dX1_atFirst_26 : decode cX1_atFirst 26 = .ok (.astore_n 1, 1) := dk_76 (dk_at dksX1_atFirst_1 3 rfl rfl)
theorem dX1_atFirst_27 : decode cX1_atFirst 27 = .ok (.aload_n 1, 1) := dk_43 (dk_at dksX1_atFirst_1 4 rfl rfl)
theorem dX1_atFirst_28 : decode cX1_atFirst 28 = .ok (.getfield 15, 3) := dk_180 0 15 (dk_at dksX1_atFirst_1 5 rfl rfl)
theorem dX1_atFirst_31 : decode cX1_atFirst 31 = .ok (.aload_n 1, 1) := dk_43 (dk_at dksX1_atFirst_1 8 rfl rfl)
theorem dX1_atFirst_32 : decode cX1_atFirst 32 = .ok (.getfield 25, 3) := dk_180 0 25 (dk_at dksX1_atFirst_1 9 rfl rfl)
theorem dX1_atFirst_35 : decode cX1_atFirst 35 = .ok (.imul, 1) := dk_104 (dk_at dksX1_atFirst_1 12 rfl rfl)
theorem dX1_atFirst_36 : decode cX1_atFirst 36 = .ok (.ireturn, 1) := dk_172 (dk_at dksX1_atFirst_1 13 rfl rfl)
abbrev cX1_has : ByteArray := prog_1_method_2_code
def yX1_has : MethodName := ⟨RX1, "has", "(II)Z"⟩
def dkwX1_has_0 : List UInt8 := [26, 27, 122, 4, 126, 4, 160, 0, 7, 4, 167, 0, 4, 3, 172]
abbrev dktX1_has_0 : List UInt8 := dkwX1_has_0 ++ []
theorem dksX1_has_0 : cX1_has.data.toList.drop 0 = dktX1_has_0 := by decide +kernel
theorem dX1_has_0 : decode cX1_has 0 = .ok (.iload_n 0, 1) := dk_26 (dk_at dksX1_has_0 0 rfl rfl)
theorem dX1_has_1 : decode cX1_has 1 = .ok (.iload_n 1, 1) := dk_27 (dk_at dksX1_has_0 1 rfl rfl)
theorem dX1_has_2 : decode cX1_has 2 = .ok (.ishr, 1) := dk_122 (dk_at dksX1_has_0 2 rfl rfl)
theorem dX1_has_3 : decode cX1_has 3 = .ok (.iconst 1, 1) := dk_4 (dk_at dksX1_has_0 3 rfl rfl)
theorem dX1_has_4 : decode cX1_has 4 = .ok (.iand, 1) := dk_126 (dk_at dksX1_has_0 4 rfl rfl)
theorem dX1_has_5 : decode cX1_has 5 = .ok (.iconst 1, 1) := dk_4 (dk_at dksX1_has_0 5 rfl rfl)
theorem dX1_has_6 : decode cX1_has 6 = .ok (.if_icmp .ne 7, 3) := dk_160 0 7 (dk_at dksX1_has_0 6 rfl rfl)
theorem dX1_has_9 : decode cX1_has 9 = .ok (.iconst 1, 1) := dk_4 (dk_at dksX1_has_0 9 rfl rfl)
theorem dX1_has_10 : decode cX1_has 10 = .ok (.goto 4, 3) := dk_167 0 4 (dk_at dksX1_has_0 10 rfl rfl)
theorem dX1_has_13 : decode cX1_has 13 = .ok (.iconst 0, 1) := dk_3 (dk_at dksX1_has_0 13 rfl rfl)
theorem dX1_has_14 : decode cX1_has 14 = .ok (.ireturn, 1) := dk_172 (dk_at dksX1_has_0 14 rfl rfl)
abbrev cX1_partOf : ByteArray := prog_1_method_6_code
def yX1_partOf : MethodName := ⟨RX1, "partOf", "(JJI)I"⟩
def dkwX1_partOf_1 : List UInt8 := [172]
abbrev dktX1_partOf_1 : List UInt8 := dkwX1_partOf_1 ++ []
def dkwX1_partOf_0 : List UInt8 := [30, 32, 184, 0, 7, 55, 5, 21, 4, 154, 0, 10, 30, 22, 5, 109, 167, 0, 7, 32, 22, 5, 109, 136]
abbrev dktX1_partOf_0 : List UInt8 := dkwX1_partOf_0 ++ dktX1_partOf_1
theorem dksX1_partOf_0 : cX1_partOf.data.toList.drop 0 = dktX1_partOf_0 := by decide +kernel
theorem dksX1_partOf_1 : cX1_partOf.data.toList.drop 24 = dktX1_partOf_1 := dk_seg dksX1_partOf_0 24 rfl rfl
theorem dX1_partOf_0 : decode cX1_partOf 0 = .ok (.lload_n 0, 1) := dk_30 (dk_at dksX1_partOf_0 0 rfl rfl)
theorem dX1_partOf_1 : decode cX1_partOf 1 = .ok (.lload_n 2, 1) := dk_32 (dk_at dksX1_partOf_0 1 rfl rfl)
theorem dX1_partOf_2 : decode cX1_partOf 2 = .ok (.invokestatic 7, 3) := dk_184 0 7 (dk_at dksX1_partOf_0 2 rfl rfl)
theorem dX1_partOf_5 : decode cX1_partOf 5 = .ok (.lstore 5, 2) := dk_55 5 (dk_at dksX1_partOf_0 5 rfl rfl)
theorem dX1_partOf_7 : decode cX1_partOf 7 = .ok (.iload 4, 2) := dk_21 4 (dk_at dksX1_partOf_0 7 rfl rfl)
theorem dX1_partOf_9 : decode cX1_partOf 9 = .ok (.ifCond .ne 10, 3) := dk_154 0 10 (dk_at dksX1_partOf_0 9 rfl rfl)
theorem dX1_partOf_12 : decode cX1_partOf 12 = .ok (.lload_n 0, 1) := dk_30 (dk_at dksX1_partOf_0 12 rfl rfl)
theorem dX1_partOf_13 : decode cX1_partOf 13 = .ok (.lload 5, 2) := dk_22 5 (dk_at dksX1_partOf_0 13 rfl rfl)
theorem dX1_partOf_15 : decode cX1_partOf 15 = .ok (.ldiv, 1) := dk_109 (dk_at dksX1_partOf_0 15 rfl rfl)
theorem dX1_partOf_16 : decode cX1_partOf 16 = .ok (.goto 7, 3) := dk_167 0 7 (dk_at dksX1_partOf_0 16 rfl rfl)
theorem dX1_partOf_19 : decode cX1_partOf 19 = .ok (.lload_n 2, 1) := dk_32 (dk_at dksX1_partOf_0 19 rfl rfl)
theorem dX1_partOf_20 : decode cX1_partOf 20 = .ok (.lload 5, 2) := dk_22 5 (dk_at dksX1_partOf_0 20 rfl rfl)
theorem dX1_partOf_22 : decode cX1_partOf 22 = .ok (.ldiv, 1) := dk_109 (dk_at dksX1_partOf_0 22 rfl rfl)
theorem dX1_partOf_23 : decode cX1_partOf 23 = .ok (.l2i, 1) := dk_136 (dk_at dksX1_partOf_0 23 rfl rfl)
theorem dX1_partOf_24 : decode cX1_partOf 24 = .ok (.ireturn, 1) := dk_172 (dk_at dksX1_partOf_1 0 rfl rfl)
abbrev cX1_placeOf : ByteArray := prog_1_method_43_code
def yX1_placeOf : MethodName := ⟨RX1, "placeOf", "(II)I"⟩
def dkwX1_placeOf_2 : List UInt8 := [180, 1, 4, 27, 46, 172]
abbrev dktX1_placeOf_2 : List UInt8 := dkwX1_placeOf_2 ++ []
def dkwX1_placeOf_1 : List UInt8 := [42, 180, 0, 48, 180, 0, 251, 180, 0, 255, 27, 46, 167, 0, 15, 42, 180, 0, 48, 180, 0, 251]
abbrev dktX1_placeOf_1 : List UInt8 := dkwX1_placeOf_1 ++ dktX1_placeOf_2
def dkwX1_placeOf_0 : List UInt8 := [28, 154, 0, 18, 42, 180, 0, 48, 180, 0, 251, 180, 1, 21, 27, 46, 167, 0, 35, 28, 4, 160, 0, 18]
abbrev dktX1_placeOf_0 : List UInt8 := dkwX1_placeOf_0 ++ dktX1_placeOf_1
theorem dksX1_placeOf_0 : cX1_placeOf.data.toList.drop 0 = dktX1_placeOf_0 := by decide +kernel
theorem dksX1_placeOf_1 : cX1_placeOf.data.toList.drop 24 = dktX1_placeOf_1 := dk_seg dksX1_placeOf_0 24 rfl rfl
theorem dksX1_placeOf_2 : cX1_placeOf.data.toList.drop 46 = dktX1_placeOf_2 := dk_seg dksX1_placeOf_1 22 rfl rfl
theorem dX1_placeOf_0 : decode cX1_placeOf 0 = .ok (.iload_n 2, 1) := dk_28 (dk_at dksX1_placeOf_0 0 rfl rfl)
theorem dX1_placeOf_1 : decode cX1_placeOf 1 = .ok (.ifCond .ne 18, 3) := dk_154 0 18 (dk_at dksX1_placeOf_0 1 rfl rfl)
theorem dX1_placeOf_4 : decode cX1_placeOf 4 = .ok (.aload_n 0, 1) := dk_42 (dk_at dksX1_placeOf_0 4 rfl rfl)
theorem dX1_placeOf_5 : decode cX1_placeOf 5 = .ok (.getfield 48, 3) := dk_180 0 48 (dk_at dksX1_placeOf_0 5 rfl rfl)
theorem dX1_placeOf_8 : decode cX1_placeOf 8 = .ok (.getfield 251, 3) := dk_180 0 251 (dk_at dksX1_placeOf_0 8 rfl rfl)
theorem dX1_placeOf_11 : decode cX1_placeOf 11 = .ok (.getfield 277, 3) := dk_180 1 21 (dk_at dksX1_placeOf_0 11 rfl rfl)
theorem dX1_placeOf_14 : decode cX1_placeOf 14 = .ok (.iload_n 1, 1) := dk_27 (dk_at dksX1_placeOf_0 14 rfl rfl)
theorem dX1_placeOf_15 : decode cX1_placeOf 15 = .ok (.iaload, 1) := dk_46 (dk_at dksX1_placeOf_0 15 rfl rfl)
theorem dX1_placeOf_16 : decode cX1_placeOf 16 = .ok (.goto 35, 3) := dk_167 0 35 (dk_at dksX1_placeOf_0 16 rfl rfl)
theorem dX1_placeOf_19 : decode cX1_placeOf 19 = .ok (.iload_n 2, 1) := dk_28 (dk_at dksX1_placeOf_0 19 rfl rfl)
theorem dX1_placeOf_20 : decode cX1_placeOf 20 = .ok (.iconst 1, 1) := dk_4 (dk_at dksX1_placeOf_0 20 rfl rfl)
theorem dX1_placeOf_21 : decode cX1_placeOf 21 = .ok (.if_icmp .ne 18, 3) := dk_160 0 18 (dk_at dksX1_placeOf_0 21 rfl rfl)
theorem dX1_placeOf_24 : decode cX1_placeOf 24 = .ok (.aload_n 0, 1) := dk_42 (dk_at dksX1_placeOf_1 0 rfl rfl)
theorem dX1_placeOf_25 : decode cX1_placeOf 25 = .ok (.getfield 48, 3) := dk_180 0 48 (dk_at dksX1_placeOf_1 1 rfl rfl)
theorem dX1_placeOf_28 : decode cX1_placeOf 28 = .ok (.getfield 251, 3) := dk_180 0 251 (dk_at dksX1_placeOf_1 4 rfl rfl)
theorem dX1_placeOf_31 : decode cX1_placeOf 31 = .ok (.getfield 255, 3) := dk_180 0 255 (dk_at dksX1_placeOf_1 7 rfl rfl)
theorem dX1_placeOf_34 : decode cX1_placeOf 34 = .ok (.iload_n 1, 1) := dk_27 (dk_at dksX1_placeOf_1 10 rfl rfl)
theorem dX1_placeOf_35 : decode cX1_placeOf 35 = .ok (.iaload, 1) := dk_46 (dk_at dksX1_placeOf_1 11 rfl rfl)
theorem dX1_placeOf_36 : decode cX1_placeOf 36 = .ok (.goto 15, 3) := dk_167 0 15 (dk_at dksX1_placeOf_1 12 rfl rfl)
theorem dX1_placeOf_39 : decode cX1_placeOf 39 = .ok (.aload_n 0, 1) := dk_42 (dk_at dksX1_placeOf_1 15 rfl rfl)
theorem dX1_placeOf_40 : decode cX1_placeOf 40 = .ok (.getfield 48, 3) := dk_180 0 48 (dk_at dksX1_placeOf_1 16 rfl rfl)
theorem dX1_placeOf_43 : decode cX1_placeOf 43 = .ok (.getfield 251, 3) := dk_180 0 251 (dk_at dksX1_placeOf_1 19 rfl rfl)
theorem dX1_placeOf_46 : decode cX1_placeOf 46 = .ok (.getfield 260, 3) := dk_180 1 4 (dk_at dksX1_placeOf_2 0 rfl rfl)
theorem dX1_placeOf_49 : decode cX1_placeOf 49 = .ok (.iload_n 1, 1) := dk_27 (dk_at dksX1_placeOf_2 3 rfl rfl)
theorem dX1_placeOf_50 : decode cX1_placeOf 50 = .ok (.iaload, 1) := dk_46 (dk_at dksX1_placeOf_2 4 rfl rfl)
theorem dX1_placeOf_51 : decode cX1_placeOf 51 = .ok (.ireturn, 1) := dk_172 (dk_at dksX1_placeOf_2 5 rfl rfl)
abbrev cX1_medianOf : ByteArray := prog_1_method_46_code
def yX1_medianOf : MethodName := ⟨RX1, "medianOf", "(I)I"⟩
def dkwX1_medianOf_2 : List UInt8 := [180, 1, 4, 28, 46, 133, 182, 0, 244, 45, 180, 1, 4, 28, 46, 133, 27, 6, 100, 184, 0, 230, 172]
abbrev dktX1_medianOf_2 : List UInt8 := dkwX1_medianOf_2 ++ []
def dkwX1_medianOf_1 : List UInt8 := [180, 0, 251, 78, 42, 180, 0, 48, 45, 180, 1, 21, 28, 46, 45, 180, 0, 255, 28, 46, 133, 45]
abbrev dktX1_medianOf_1 : List UInt8 := dkwX1_medianOf_1 ++ dktX1_medianOf_2
def dkwX1_medianOf_0 : List UInt8 := [42, 180, 0, 48, 182, 1, 32, 61, 27, 6, 162, 0, 10, 42, 28, 27, 182, 1, 26, 172, 42, 180, 0, 48]
abbrev dktX1_medianOf_0 : List UInt8 := dkwX1_medianOf_0 ++ dktX1_medianOf_1
theorem dksX1_medianOf_0 : cX1_medianOf.data.toList.drop 0 = dktX1_medianOf_0 := by decide +kernel
theorem dksX1_medianOf_1 : cX1_medianOf.data.toList.drop 24 = dktX1_medianOf_1 := dk_seg dksX1_medianOf_0 24 rfl rfl
theorem dksX1_medianOf_2 : cX1_medianOf.data.toList.drop 46 = dktX1_medianOf_2 := dk_seg dksX1_medianOf_1 22 rfl rfl
theorem dX1_medianOf_0 : decode cX1_medianOf 0 = .ok (.aload_n 0, 1) := dk_42 (dk_at dksX1_medianOf_0 0 rfl rfl)
theorem dX1_medianOf_1 : decode cX1_medianOf 1 = .ok (.getfield 48, 3) := dk_180 0 48 (dk_at dksX1_medianOf_0 1 rfl rfl)
theorem dX1_medianOf_4 : decode cX1_medianOf 4 = .ok (.invokevirtual 288, 3) := dk_182 1 32 (dk_at dksX1_medianOf_0 4 rfl rfl)
theorem dX1_medianOf_7 : decode cX1_medianOf 7 = .ok (.istore_n 2, 1) := dk_61 (dk_at dksX1_medianOf_0 7 rfl rfl)
theorem dX1_medianOf_8 : decode cX1_medianOf 8 = .ok (.iload_n 1, 1) := dk_27 (dk_at dksX1_medianOf_0 8 rfl rfl)
theorem dX1_medianOf_9 : decode cX1_medianOf 9 = .ok (.iconst 3, 1) := dk_6 (dk_at dksX1_medianOf_0 9 rfl rfl)
theorem dX1_medianOf_10 : decode cX1_medianOf 10 = .ok (.if_icmp .ge 10, 3) := dk_162 0 10 (dk_at dksX1_medianOf_0 10 rfl rfl)
theorem dX1_medianOf_13 : decode cX1_medianOf 13 = .ok (.aload_n 0, 1) := dk_42 (dk_at dksX1_medianOf_0 13 rfl rfl)
theorem dX1_medianOf_14 : decode cX1_medianOf 14 = .ok (.iload_n 2, 1) := dk_28 (dk_at dksX1_medianOf_0 14 rfl rfl)
theorem dX1_medianOf_15 : decode cX1_medianOf 15 = .ok (.iload_n 1, 1) := dk_27 (dk_at dksX1_medianOf_0 15 rfl rfl)
theorem dX1_medianOf_16 : decode cX1_medianOf 16 = .ok (.invokevirtual 282, 3) := dk_182 1 26 (dk_at dksX1_medianOf_0 16 rfl rfl)
theorem dX1_medianOf_19 : decode cX1_medianOf 19 = .ok (.ireturn, 1) := dk_172 (dk_at dksX1_medianOf_0 19 rfl rfl)
theorem dX1_medianOf_20 : decode cX1_medianOf 20 = .ok (.aload_n 0, 1) := dk_42 (dk_at dksX1_medianOf_0 20 rfl rfl)
theorem dX1_medianOf_21 : decode cX1_medianOf 21 = .ok (.getfield 48, 3) := dk_180 0 48 (dk_at dksX1_medianOf_0 21 rfl rfl)
theorem dX1_medianOf_24 : decode cX1_medianOf 24 = .ok (.getfield 251, 3) := dk_180 0 251 (dk_at dksX1_medianOf_1 0 rfl rfl)
theorem dX1_medianOf_27 : decode cX1_medianOf 27 = .ok (.astore_n 3, 1) := dk_78 (dk_at dksX1_medianOf_1 3 rfl rfl)
theorem dX1_medianOf_28 : decode cX1_medianOf 28 = .ok (.aload_n 0, 1) := dk_42 (dk_at dksX1_medianOf_1 4 rfl rfl)
theorem dX1_medianOf_29 : decode cX1_medianOf 29 = .ok (.getfield 48, 3) := dk_180 0 48 (dk_at dksX1_medianOf_1 5 rfl rfl)
theorem dX1_medianOf_32 : decode cX1_medianOf 32 = .ok (.aload_n 3, 1) := dk_45 (dk_at dksX1_medianOf_1 8 rfl rfl)
theorem dX1_medianOf_33 : decode cX1_medianOf 33 = .ok (.getfield 277, 3) := dk_180 1 21 (dk_at dksX1_medianOf_1 9 rfl rfl)
theorem dX1_medianOf_36 : decode cX1_medianOf 36 = .ok (.iload_n 2, 1) := dk_28 (dk_at dksX1_medianOf_1 12 rfl rfl)
theorem dX1_medianOf_37 : decode cX1_medianOf 37 = .ok (.iaload, 1) := dk_46 (dk_at dksX1_medianOf_1 13 rfl rfl)
theorem dX1_medianOf_38 : decode cX1_medianOf 38 = .ok (.aload_n 3, 1) := dk_45 (dk_at dksX1_medianOf_1 14 rfl rfl)
theorem dX1_medianOf_39 : decode cX1_medianOf 39 = .ok (.getfield 255, 3) := dk_180 0 255 (dk_at dksX1_medianOf_1 15 rfl rfl)
theorem dX1_medianOf_42 : decode cX1_medianOf 42 = .ok (.iload_n 2, 1) := dk_28 (dk_at dksX1_medianOf_1 18 rfl rfl)
theorem dX1_medianOf_43 : decode cX1_medianOf 43 = .ok (.iaload, 1) := dk_46 (dk_at dksX1_medianOf_1 19 rfl rfl)
theorem dX1_medianOf_44 : decode cX1_medianOf 44 = .ok (.i2l, 1) := dk_133 (dk_at dksX1_medianOf_1 20 rfl rfl)
theorem dX1_medianOf_45 : decode cX1_medianOf 45 = .ok (.aload_n 3, 1) := dk_45 (dk_at dksX1_medianOf_1 21 rfl rfl)
theorem dX1_medianOf_46 : decode cX1_medianOf 46 = .ok (.getfield 260, 3) := dk_180 1 4 (dk_at dksX1_medianOf_2 0 rfl rfl)
theorem dX1_medianOf_49 : decode cX1_medianOf 49 = .ok (.iload_n 2, 1) := dk_28 (dk_at dksX1_medianOf_2 3 rfl rfl)
theorem dX1_medianOf_50 : decode cX1_medianOf 50 = .ok (.iaload, 1) := dk_46 (dk_at dksX1_medianOf_2 4 rfl rfl)
theorem dX1_medianOf_51 : decode cX1_medianOf 51 = .ok (.i2l, 1) := dk_133 (dk_at dksX1_medianOf_2 5 rfl rfl)
theorem dX1_medianOf_52 : decode cX1_medianOf 52 = .ok (.invokevirtual 244, 3) := dk_182 0 244 (dk_at dksX1_medianOf_2 6 rfl rfl)
theorem dX1_medianOf_55 : decode cX1_medianOf 55 = .ok (.aload_n 3, 1) := dk_45 (dk_at dksX1_medianOf_2 9 rfl rfl)
theorem dX1_medianOf_56 : decode cX1_medianOf 56 = .ok (.getfield 260, 3) := dk_180 1 4 (dk_at dksX1_medianOf_2 10 rfl rfl)
theorem dX1_medianOf_59 : decode cX1_medianOf 59 = .ok (.iload_n 2, 1) := dk_28 (dk_at dksX1_medianOf_2 13 rfl rfl)
theorem dX1_medianOf_60 : decode cX1_medianOf 60 = .ok (.iaload, 1) := dk_46 (dk_at dksX1_medianOf_2 14 rfl rfl)
theorem dX1_medianOf_61 : decode cX1_medianOf 61 = .ok (.i2l, 1) := dk_133 (dk_at dksX1_medianOf_2 15 rfl rfl)
theorem dX1_medianOf_62 : decode cX1_medianOf 62 = .ok (.iload_n 1, 1) := dk_27 (dk_at dksX1_medianOf_2 16 rfl rfl)
theorem dX1_medianOf_63 : decode cX1_medianOf 63 = .ok (.iconst 3, 1) := dk_6 (dk_at dksX1_medianOf_2 17 rfl rfl)
theorem dX1_medianOf_64 : decode cX1_medianOf 64 = .ok (.isub, 1) := dk_100 (dk_at dksX1_medianOf_2 18 rfl rfl)
theorem dX1_medianOf_65 : decode cX1_medianOf 65 = .ok (.invokestatic 230, 3) := dk_184 0 230 (dk_at dksX1_medianOf_2 19 rfl rfl)
theorem dX1_medianOf_68 : decode cX1_medianOf 68 = .ok (.ireturn, 1) := dk_172 (dk_at dksX1_medianOf_2 22 rfl rfl)
abbrev cX1_cornerOf : ByteArray := prog_1_method_40_code
def yX1_cornerOf : MethodName := ⟨RX1, "cornerOf", "(III)I"⟩
def dkwX1_cornerOf_3 : List UInt8 := [180, 0, 48, 21, 4, 182, 1, 7, 25, 5, 180, 1, 4, 21, 4, 46, 133, 29, 5, 100, 184, 0, 230, 172]
abbrev dktX1_cornerOf_3 : List UInt8 := dkwX1_cornerOf_3 ++ []
def dkwX1_cornerOf_2 : List UInt8 := [21, 4, 46, 167, 0, 43, 29, 4, 160, 0, 14, 25, 5, 180, 1, 4, 21, 4, 46, 167, 0, 27, 42]
abbrev dktX1_cornerOf_2 : List UInt8 := dkwX1_cornerOf_2 ++ dktX1_cornerOf_3
def dkwX1_cornerOf_1 : List UInt8 := [160, 0, 5, 2, 172, 42, 180, 0, 48, 180, 0, 251, 58, 5, 29, 154, 0, 14, 25, 5, 180, 0, 255]
abbrev dktX1_cornerOf_1 : List UInt8 := dkwX1_cornerOf_1 ++ dktX1_cornerOf_2
def dkwX1_cornerOf_0 : List UInt8 := [28, 156, 0, 7, 2, 167, 0, 12, 42, 180, 0, 48, 27, 28, 182, 0, 248, 54, 4, 21, 4, 2]
abbrev dktX1_cornerOf_0 : List UInt8 := dkwX1_cornerOf_0 ++ dktX1_cornerOf_1
theorem dksX1_cornerOf_0 : cX1_cornerOf.data.toList.drop 0 = dktX1_cornerOf_0 := by decide +kernel
theorem dksX1_cornerOf_1 : cX1_cornerOf.data.toList.drop 22 = dktX1_cornerOf_1 := dk_seg dksX1_cornerOf_0 22 rfl rfl
theorem dksX1_cornerOf_2 : cX1_cornerOf.data.toList.drop 45 = dktX1_cornerOf_2 := dk_seg dksX1_cornerOf_1 23 rfl rfl
theorem dksX1_cornerOf_3 : cX1_cornerOf.data.toList.drop 68 = dktX1_cornerOf_3 := dk_seg dksX1_cornerOf_2 23 rfl rfl
theorem dX1_cornerOf_0 : decode cX1_cornerOf 0 = .ok (.iload_n 2, 1) := dk_28 (dk_at dksX1_cornerOf_0 0 rfl rfl)
theorem dX1_cornerOf_1 : decode cX1_cornerOf 1 = .ok (.ifCond .ge 7, 3) := dk_156 0 7 (dk_at dksX1_cornerOf_0 1 rfl rfl)
theorem dX1_cornerOf_4 : decode cX1_cornerOf 4 = .ok (.iconst (-1), 1) := dk_2 (dk_at dksX1_cornerOf_0 4 rfl rfl)
theorem dX1_cornerOf_5 : decode cX1_cornerOf 5 = .ok (.goto 12, 3) := dk_167 0 12 (dk_at dksX1_cornerOf_0 5 rfl rfl)
theorem dX1_cornerOf_8 : decode cX1_cornerOf 8 = .ok (.aload_n 0, 1) := dk_42 (dk_at dksX1_cornerOf_0 8 rfl rfl)
theorem dX1_cornerOf_9 : decode cX1_cornerOf 9 = .ok (.getfield 48, 3) := dk_180 0 48 (dk_at dksX1_cornerOf_0 9 rfl rfl)
theorem dX1_cornerOf_12 : decode cX1_cornerOf 12 = .ok (.iload_n 1, 1) := dk_27 (dk_at dksX1_cornerOf_0 12 rfl rfl)
theorem dX1_cornerOf_13 : decode cX1_cornerOf 13 = .ok (.iload_n 2, 1) := dk_28 (dk_at dksX1_cornerOf_0 13 rfl rfl)
theorem dX1_cornerOf_14 : decode cX1_cornerOf 14 = .ok (.invokevirtual 248, 3) := dk_182 0 248 (dk_at dksX1_cornerOf_0 14 rfl rfl)
theorem dX1_cornerOf_17 : decode cX1_cornerOf 17 = .ok (.istore 4, 2) := dk_54 4 (dk_at dksX1_cornerOf_0 17 rfl rfl)
theorem dX1_cornerOf_19 : decode cX1_cornerOf 19 = .ok (.iload 4, 2) := dk_21 4 (dk_at dksX1_cornerOf_0 19 rfl rfl)
theorem dX1_cornerOf_21 : decode cX1_cornerOf 21 = .ok (.iconst (-1), 1) := dk_2 (dk_at dksX1_cornerOf_0 21 rfl rfl)
theorem dX1_cornerOf_22 : decode cX1_cornerOf 22 = .ok (.if_icmp .ne 5, 3) := dk_160 0 5 (dk_at dksX1_cornerOf_1 0 rfl rfl)
theorem dX1_cornerOf_25 : decode cX1_cornerOf 25 = .ok (.iconst (-1), 1) := dk_2 (dk_at dksX1_cornerOf_1 3 rfl rfl)
theorem dX1_cornerOf_26 : decode cX1_cornerOf 26 = .ok (.ireturn, 1) := dk_172 (dk_at dksX1_cornerOf_1 4 rfl rfl)
theorem dX1_cornerOf_27 : decode cX1_cornerOf 27 = .ok (.aload_n 0, 1) := dk_42 (dk_at dksX1_cornerOf_1 5 rfl rfl)
theorem dX1_cornerOf_28 : decode cX1_cornerOf 28 = .ok (.getfield 48, 3) := dk_180 0 48 (dk_at dksX1_cornerOf_1 6 rfl rfl)
theorem dX1_cornerOf_31 : decode cX1_cornerOf 31 = .ok (.getfield 251, 3) := dk_180 0 251 (dk_at dksX1_cornerOf_1 9 rfl rfl)
theorem dX1_cornerOf_34 : decode cX1_cornerOf 34 = .ok (.astore 5, 2) := dk_58 5 (dk_at dksX1_cornerOf_1 12 rfl rfl)
theorem dX1_cornerOf_36 : decode cX1_cornerOf 36 = .ok (.iload_n 3, 1) := dk_29 (dk_at dksX1_cornerOf_1 14 rfl rfl)
theorem dX1_cornerOf_37 : decode cX1_cornerOf 37 = .ok (.ifCond .ne 14, 3) := dk_154 0 14 (dk_at dksX1_cornerOf_1 15 rfl rfl)
theorem dX1_cornerOf_40 : decode cX1_cornerOf 40 = .ok (.aload 5, 2) := dk_25 5 (dk_at dksX1_cornerOf_1 18 rfl rfl)
theorem dX1_cornerOf_42 : decode cX1_cornerOf 42 = .ok (.getfield 255, 3) := dk_180 0 255 (dk_at dksX1_cornerOf_1 20 rfl rfl)
theorem dX1_cornerOf_45 : decode cX1_cornerOf 45 = .ok (.iload 4, 2) := dk_21 4 (dk_at dksX1_cornerOf_2 0 rfl rfl)
theorem dX1_cornerOf_47 : decode cX1_cornerOf 47 = .ok (.iaload, 1) := dk_46 (dk_at dksX1_cornerOf_2 2 rfl rfl)
theorem dX1_cornerOf_48 : decode cX1_cornerOf 48 = .ok (.goto 43, 3) := dk_167 0 43 (dk_at dksX1_cornerOf_2 3 rfl rfl)
theorem dX1_cornerOf_51 : decode cX1_cornerOf 51 = .ok (.iload_n 3, 1) := dk_29 (dk_at dksX1_cornerOf_2 6 rfl rfl)
theorem dX1_cornerOf_52 : decode cX1_cornerOf 52 = .ok (.iconst 1, 1) := dk_4 (dk_at dksX1_cornerOf_2 7 rfl rfl)
theorem dX1_cornerOf_53 : decode cX1_cornerOf 53 = .ok (.if_icmp .ne 14, 3) := dk_160 0 14 (dk_at dksX1_cornerOf_2 8 rfl rfl)
theorem dX1_cornerOf_56 : decode cX1_cornerOf 56 = .ok (.aload 5, 2) := dk_25 5 (dk_at dksX1_cornerOf_2 11 rfl rfl)
theorem dX1_cornerOf_58 : decode cX1_cornerOf 58 = .ok (.getfield 260, 3) := dk_180 1 4 (dk_at dksX1_cornerOf_2 13 rfl rfl)
theorem dX1_cornerOf_61 : decode cX1_cornerOf 61 = .ok (.iload 4, 2) := dk_21 4 (dk_at dksX1_cornerOf_2 16 rfl rfl)
theorem dX1_cornerOf_63 : decode cX1_cornerOf 63 = .ok (.iaload, 1) := dk_46 (dk_at dksX1_cornerOf_2 18 rfl rfl)
theorem dX1_cornerOf_64 : decode cX1_cornerOf 64 = .ok (.goto 27, 3) := dk_167 0 27 (dk_at dksX1_cornerOf_2 19 rfl rfl)
theorem dX1_cornerOf_67 : decode cX1_cornerOf 67 = .ok (.aload_n 0, 1) := dk_42 (dk_at dksX1_cornerOf_2 22 rfl rfl)
theorem dX1_cornerOf_68 : decode cX1_cornerOf 68 = .ok (.getfield 48, 3) := dk_180 0 48 (dk_at dksX1_cornerOf_3 0 rfl rfl)
theorem dX1_cornerOf_71 : decode cX1_cornerOf 71 = .ok (.iload 4, 2) := dk_21 4 (dk_at dksX1_cornerOf_3 3 rfl rfl)
theorem dX1_cornerOf_73 : decode cX1_cornerOf 73 = .ok (.invokevirtual 263, 3) := dk_182 1 7 (dk_at dksX1_cornerOf_3 5 rfl rfl)
theorem dX1_cornerOf_76 : decode cX1_cornerOf 76 = .ok (.aload 5, 2) := dk_25 5 (dk_at dksX1_cornerOf_3 8 rfl rfl)
theorem dX1_cornerOf_78 : decode cX1_cornerOf 78 = .ok (.getfield 260, 3) := dk_180 1 4 (dk_at dksX1_cornerOf_3 10 rfl rfl)
theorem dX1_cornerOf_81 : decode cX1_cornerOf 81 = .ok (.iload 4, 2) := dk_21 4 (dk_at dksX1_cornerOf_3 13 rfl rfl)
theorem dX1_cornerOf_83 : decode cX1_cornerOf 83 = .ok (.iaload, 1) := dk_46 (dk_at dksX1_cornerOf_3 15 rfl rfl)
theorem dX1_cornerOf_84 : decode cX1_cornerOf 84 = .ok (.i2l, 1) := dk_133 (dk_at dksX1_cornerOf_3 16 rfl rfl)
theorem dX1_cornerOf_85 : decode cX1_cornerOf 85 = .ok (.iload_n 3, 1) := dk_29 (dk_at dksX1_cornerOf_3 17 rfl rfl)
theorem dX1_cornerOf_86 : decode cX1_cornerOf 86 = .ok (.iconst 2, 1) := dk_5 (dk_at dksX1_cornerOf_3 18 rfl rfl)
theorem dX1_cornerOf_87 : decode cX1_cornerOf 87 = .ok (.isub, 1) := dk_100 (dk_at dksX1_cornerOf_3 19 rfl rfl)
theorem dX1_cornerOf_88 : decode cX1_cornerOf 88 = .ok (.invokestatic 230, 3) := dk_184 0 230 (dk_at dksX1_cornerOf_3 20 rfl rfl)
theorem dX1_cornerOf_91 : decode cX1_cornerOf 91 = .ok (.ireturn, 1) := dk_172 (dk_at dksX1_cornerOf_3 23 rfl rfl)
abbrev cX1_reset : ByteArray := prog_1_method_19_code
def yX1_reset : MethodName := ⟨RX1, "reset", "(I)I"⟩
def dkwX1_reset_1 : List UInt8 := [183, 0, 36, 182, 0, 118, 28, 172]
abbrev dktX1_reset_1 : List UInt8 := dkwX1_reset_1 ++ []
def dkwX1_reset_0 : List UInt8 := [27, 4, 16, 8, 184, 0, 87, 184, 0, 115, 42, 180, 0, 39, 182, 0, 96, 61, 42, 187, 0, 34, 89, 27]
abbrev dktX1_reset_0 : List UInt8 := dkwX1_reset_0 ++ dktX1_reset_1
theorem dksX1_reset_0 : cX1_reset.data.toList.drop 0 = dktX1_reset_0 := by decide +kernel
theorem dksX1_reset_1 : cX1_reset.data.toList.drop 24 = dktX1_reset_1 := dk_seg dksX1_reset_0 24 rfl rfl
theorem dX1_reset_0 : decode cX1_reset 0 = .ok (.iload_n 1, 1) := dk_27 (dk_at dksX1_reset_0 0 rfl rfl)
theorem dX1_reset_1 : decode cX1_reset 1 = .ok (.iconst 1, 1) := dk_4 (dk_at dksX1_reset_0 1 rfl rfl)
theorem dX1_reset_2 : decode cX1_reset 2 = .ok (.bipush 8, 2) := dk_16 8 (dk_at dksX1_reset_0 2 rfl rfl)
theorem dX1_reset_4 : decode cX1_reset 4 = .ok (.invokestatic 87, 3) := dk_184 0 87 (dk_at dksX1_reset_0 4 rfl rfl)
theorem dX1_reset_7 : decode cX1_reset 7 = .ok (.invokestatic 115, 3) := dk_184 0 115 (dk_at dksX1_reset_0 7 rfl rfl)
theorem dX1_reset_10 : decode cX1_reset 10 = .ok (.aload_n 0, 1) := dk_42 (dk_at dksX1_reset_0 10 rfl rfl)
theorem dX1_reset_11 : decode cX1_reset 11 = .ok (.getfield 39, 3) := dk_180 0 39 (dk_at dksX1_reset_0 11 rfl rfl)
theorem dX1_reset_14 : decode cX1_reset 14 = .ok (.invokevirtual 96, 3) := dk_182 0 96 (dk_at dksX1_reset_0 14 rfl rfl)
theorem dX1_reset_17 : decode cX1_reset 17 = .ok (.istore_n 2, 1) := dk_61 (dk_at dksX1_reset_0 17 rfl rfl)
theorem dX1_reset_18 : decode cX1_reset 18 = .ok (.aload_n 0, 1) := dk_42 (dk_at dksX1_reset_0 18 rfl rfl)
theorem dX1_reset_19 : decode cX1_reset 19 = .ok (.new 34, 3) := dk_187 0 34 (dk_at dksX1_reset_0 19 rfl rfl)
theorem dX1_reset_22 : decode cX1_reset 22 = .ok (.dup, 1) := dk_89 (dk_at dksX1_reset_0 22 rfl rfl)
theorem dX1_reset_23 : decode cX1_reset 23 = .ok (.iload_n 1, 1) := dk_27 (dk_at dksX1_reset_0 23 rfl rfl)
theorem dX1_reset_24 : decode cX1_reset 24 = .ok (.invokespecial 36, 3) := dk_183 0 36 (dk_at dksX1_reset_1 0 rfl rfl)
theorem dX1_reset_27 : decode cX1_reset 27 = .ok (.invokevirtual 118, 3) := dk_182 0 118 (dk_at dksX1_reset_1 3 rfl rfl)
theorem dX1_reset_30 : decode cX1_reset 30 = .ok (.iload_n 2, 1) := dk_28 (dk_at dksX1_reset_1 6 rfl rfl)
theorem dX1_reset_31 : decode cX1_reset 31 = .ok (.ireturn, 1) := dk_172 (dk_at dksX1_reset_1 7 rfl rfl)
abbrev cX1_checkThat : ByteArray := prog_1_method_9_code
def yX1_checkThat : MethodName := ⟨RX1, "checkThat", "(Z)V"⟩
def dkwX1_checkThat_0 : List UInt8 := [26, 154, 0, 11, 187, 0, 69, 89, 183, 0, 71, 191, 177]
abbrev dktX1_checkThat_0 : List UInt8 := dkwX1_checkThat_0 ++ []
theorem dksX1_checkThat_0 : cX1_checkThat.data.toList.drop 0 = dktX1_checkThat_0 := by decide +kernel
theorem dX1_checkThat_0 : decode cX1_checkThat 0 = .ok (.iload_n 0, 1) := dk_26 (dk_at dksX1_checkThat_0 0 rfl rfl)
theorem dX1_checkThat_1 : decode cX1_checkThat 1 = .ok (.ifCond .ne 11, 3) := dk_154 0 11 (dk_at dksX1_checkThat_0 1 rfl rfl)
theorem dX1_checkThat_4 : decode cX1_checkThat 4 = .ok (.new 69, 3) := dk_187 0 69 (dk_at dksX1_checkThat_0 4 rfl rfl)
theorem dX1_checkThat_7 : decode cX1_checkThat 7 = .ok (.dup, 1) := dk_89 (dk_at dksX1_checkThat_0 7 rfl rfl)
theorem dX1_checkThat_8 : decode cX1_checkThat 8 = .ok (.invokespecial 71, 3) := dk_183 0 71 (dk_at dksX1_checkThat_0 8 rfl rfl)
theorem dX1_checkThat_11 : decode cX1_checkThat 11 = .ok (.athrow, 1) := dk_191 (dk_at dksX1_checkThat_0 11 rfl rfl)
theorem dX1_checkThat_12 : decode cX1_checkThat 12 = .ok (.return_, 1) := dk_177 (dk_at dksX1_checkThat_0 12 rfl rfl)
abbrev cX1_become : ByteArray := prog_1_method_18_code
def yX1_become : MethodName := ⟨RX1, "become", "(LNetworkCenters$Network;)V"⟩
def dkwX1_become_0 : List UInt8 := [42, 182, 0, 109, 42, 43, 182, 0, 112, 177]
abbrev dktX1_become_0 : List UInt8 := dkwX1_become_0 ++ []
theorem dksX1_become_0 : cX1_become.data.toList.drop 0 = dktX1_become_0 := by decide +kernel
theorem dX1_become_0 : decode cX1_become 0 = .ok (.aload_n 0, 1) := dk_42 (dk_at dksX1_become_0 0 rfl rfl)
theorem dX1_become_1 : decode cX1_become 1 = .ok (.invokevirtual 109, 3) := dk_182 0 109 (dk_at dksX1_become_0 1 rfl rfl)
theorem dX1_become_4 : decode cX1_become 4 = .ok (.aload_n 0, 1) := dk_42 (dk_at dksX1_become_0 4 rfl rfl)
theorem dX1_become_5 : decode cX1_become 5 = .ok (.aload_n 1, 1) := dk_43 (dk_at dksX1_become_0 5 rfl rfl)
theorem dX1_become_6 : decode cX1_become 6 = .ok (.invokevirtual 112, 3) := dk_182 0 112 (dk_at dksX1_become_0 6 rfl rfl)
theorem dX1_become_9 : decode cX1_become 9 = .ok (.return_, 1) := dk_177 (dk_at dksX1_become_0 9 rfl rfl)
abbrev cX1_save : ByteArray := prog_1_method_17_code
def yX1_save : MethodName := ⟨RX1, "save", "()V"⟩
def dkwX1_save_1 : List UInt8 := [42, 180, 0, 39, 182, 0, 105, 177]
abbrev dktX1_save_1 : List UInt8 := dkwX1_save_1 ++ []
def dkwX1_save_0 : List UInt8 := [42, 180, 0, 55, 182, 0, 100, 16, 6, 160, 0, 11, 42, 180, 0, 55, 182, 0, 101, 87, 42, 180, 0, 55]
abbrev dktX1_save_0 : List UInt8 := dkwX1_save_0 ++ dktX1_save_1
theorem dksX1_save_0 : cX1_save.data.toList.drop 0 = dktX1_save_0 := by decide +kernel
theorem dksX1_save_1 : cX1_save.data.toList.drop 24 = dktX1_save_1 := dk_seg dksX1_save_0 24 rfl rfl
theorem dX1_save_0 : decode cX1_save 0 = .ok (.aload_n 0, 1) := dk_42 (dk_at dksX1_save_0 0 rfl rfl)
theorem dX1_save_1 : decode cX1_save 1 = .ok (.getfield 55, 3) := dk_180 0 55 (dk_at dksX1_save_0 1 rfl rfl)
theorem dX1_save_4 : decode cX1_save 4 = .ok (.invokevirtual 100, 3) := dk_182 0 100 (dk_at dksX1_save_0 4 rfl rfl)
theorem dX1_save_7 : decode cX1_save 7 = .ok (.bipush 6, 2) := dk_16 6 (dk_at dksX1_save_0 7 rfl rfl)
theorem dX1_save_9 : decode cX1_save 9 = .ok (.if_icmp .ne 11, 3) := dk_160 0 11 (dk_at dksX1_save_0 9 rfl rfl)
theorem dX1_save_12 : decode cX1_save 12 = .ok (.aload_n 0, 1) := dk_42 (dk_at dksX1_save_0 12 rfl rfl)
theorem dX1_save_13 : decode cX1_save 13 = .ok (.getfield 55, 3) := dk_180 0 55 (dk_at dksX1_save_0 13 rfl rfl)
theorem dX1_save_16 : decode cX1_save 16 = .ok (.invokevirtual 101, 3) := dk_182 0 101 (dk_at dksX1_save_0 16 rfl rfl)
theorem dX1_save_19 : decode cX1_save 19 = .ok (.pop, 1) := dk_87 (dk_at dksX1_save_0 19 rfl rfl)
theorem dX1_save_20 : decode cX1_save 20 = .ok (.aload_n 0, 1) := dk_42 (dk_at dksX1_save_0 20 rfl rfl)
theorem dX1_save_21 : decode cX1_save 21 = .ok (.getfield 55, 3) := dk_180 0 55 (dk_at dksX1_save_0 21 rfl rfl)
theorem dX1_save_24 : decode cX1_save 24 = .ok (.aload_n 0, 1) := dk_42 (dk_at dksX1_save_1 0 rfl rfl)
theorem dX1_save_25 : decode cX1_save 25 = .ok (.getfield 39, 3) := dk_180 0 39 (dk_at dksX1_save_1 1 rfl rfl)
theorem dX1_save_28 : decode cX1_save 28 = .ok (.invokevirtual 105, 3) := dk_182 0 105 (dk_at dksX1_save_1 4 rfl rfl)
theorem dX1_save_31 : decode cX1_save 31 = .ok (.return_, 1) := dk_177 (dk_at dksX1_save_1 7 rfl rfl)
abbrev cX1_stand : ByteArray := prog_1_method_16_code
def yX1_stand : MethodName := ⟨RX1, "stand", "(LNetworkCenters$Network;)V"⟩
def dkwX1_stand_0 : List UInt8 := [42, 43, 181, 0, 39, 42, 187, 0, 43, 89, 43, 183, 0, 45, 181, 0, 48, 177]
abbrev dktX1_stand_0 : List UInt8 := dkwX1_stand_0 ++ []
theorem dksX1_stand_0 : cX1_stand.data.toList.drop 0 = dktX1_stand_0 := by decide +kernel
theorem dX1_stand_0 : decode cX1_stand 0 = .ok (.aload_n 0, 1) := dk_42 (dk_at dksX1_stand_0 0 rfl rfl)
theorem dX1_stand_1 : decode cX1_stand 1 = .ok (.aload_n 1, 1) := dk_43 (dk_at dksX1_stand_0 1 rfl rfl)
theorem dX1_stand_2 : decode cX1_stand 2 = .ok (.putfield 39, 3) := dk_181 0 39 (dk_at dksX1_stand_0 2 rfl rfl)
theorem dX1_stand_5 : decode cX1_stand 5 = .ok (.aload_n 0, 1) := dk_42 (dk_at dksX1_stand_0 5 rfl rfl)
theorem dX1_stand_6 : decode cX1_stand 6 = .ok (.new 43, 3) := dk_187 0 43 (dk_at dksX1_stand_0 6 rfl rfl)
theorem dX1_stand_9 : decode cX1_stand 9 = .ok (.dup, 1) := dk_89 (dk_at dksX1_stand_0 9 rfl rfl)
theorem dX1_stand_10 : decode cX1_stand 10 = .ok (.aload_n 1, 1) := dk_43 (dk_at dksX1_stand_0 10 rfl rfl)
theorem dX1_stand_11 : decode cX1_stand 11 = .ok (.invokespecial 45, 3) := dk_183 0 45 (dk_at dksX1_stand_0 11 rfl rfl)
theorem dX1_stand_14 : decode cX1_stand 14 = .ok (.putfield 48, 3) := dk_181 0 48 (dk_at dksX1_stand_0 14 rfl rfl)
theorem dX1_stand_17 : decode cX1_stand 17 = .ok (.return_, 1) := dk_177 (dk_at dksX1_stand_0 17 rfl rfl)
abbrev cX1_connect : ByteArray := prog_1_method_20_code
def yX1_connect : MethodName := ⟨RX1, "connect", "(III)I"⟩
def dkwX1_connect_2 : List UInt8 := [183, 0, 134, 182, 0, 137, 182, 0, 118, 42, 180, 0, 39, 180, 0, 83, 190, 4, 100, 172]
abbrev dktX1_connect_2 : List UInt8 := dkwX1_connect_2 ++ []
def dkwX1_connect_1 : List UInt8 := [180, 0, 39, 27, 28, 182, 0, 127, 184, 0, 131, 42, 42, 180, 0, 39, 187, 0, 92, 89, 27, 28, 29]
abbrev dktX1_connect_1 : List UInt8 := dkwX1_connect_1 ++ dktX1_connect_2
def dkwX1_connect_0 : List UInt8 := [42, 27, 182, 0, 121, 42, 28, 182, 0, 121, 42, 180, 0, 39, 27, 28, 29, 182, 0, 124, 184, 0, 115, 42]
abbrev dktX1_connect_0 : List UInt8 := dkwX1_connect_0 ++ dktX1_connect_1
theorem dksX1_connect_0 : cX1_connect.data.toList.drop 0 = dktX1_connect_0 := by decide +kernel
theorem dksX1_connect_1 : cX1_connect.data.toList.drop 24 = dktX1_connect_1 := dk_seg dksX1_connect_0 24 rfl rfl
theorem dksX1_connect_2 : cX1_connect.data.toList.drop 47 = dktX1_connect_2 := dk_seg dksX1_connect_1 23 rfl rfl
theorem dX1_connect_0 : decode cX1_connect 0 = .ok (.aload_n 0, 1) := dk_42 (dk_at dksX1_connect_0 0 rfl rfl)
theorem dX1_connect_1 : decode cX1_connect 1 = .ok (.iload_n 1, 1) := dk_27 (dk_at dksX1_connect_0 1 rfl rfl)
theorem dX1_connect_2 : decode cX1_connect 2 = .ok (.invokevirtual 121, 3) := dk_182 0 121 (dk_at dksX1_connect_0 2 rfl rfl)
theorem dX1_connect_5 : decode cX1_connect 5 = .ok (.aload_n 0, 1) := dk_42 (dk_at dksX1_connect_0 5 rfl rfl)
theorem dX1_connect_6 : decode cX1_connect 6 = .ok (.iload_n 2, 1) := dk_28 (dk_at dksX1_connect_0 6 rfl rfl)
theorem dX1_connect_7 : decode cX1_connect 7 = .ok (.invokevirtual 121, 3) := dk_182 0 121 (dk_at dksX1_connect_0 7 rfl rfl)
theorem dX1_connect_10 : decode cX1_connect 10 = .ok (.aload_n 0, 1) := dk_42 (dk_at dksX1_connect_0 10 rfl rfl)
theorem dX1_connect_11 : decode cX1_connect 11 = .ok (.getfield 39, 3) := dk_180 0 39 (dk_at dksX1_connect_0 11 rfl rfl)
theorem dX1_connect_14 : decode cX1_connect 14 = .ok (.iload_n 1, 1) := dk_27 (dk_at dksX1_connect_0 14 rfl rfl)
theorem dX1_connect_15 : decode cX1_connect 15 = .ok (.iload_n 2, 1) := dk_28 (dk_at dksX1_connect_0 15 rfl rfl)
theorem dX1_connect_16 : decode cX1_connect 16 = .ok (.iload_n 3, 1) := dk_29 (dk_at dksX1_connect_0 16 rfl rfl)
theorem dX1_connect_17 : decode cX1_connect 17 = .ok (.invokevirtual 124, 3) := dk_182 0 124 (dk_at dksX1_connect_0 17 rfl rfl)
theorem dX1_connect_20 : decode cX1_connect 20 = .ok (.invokestatic 115, 3) := dk_184 0 115 (dk_at dksX1_connect_0 20 rfl rfl)
theorem dX1_connect_23 : decode cX1_connect 23 = .ok (.aload_n 0, 1) := dk_42 (dk_at dksX1_connect_0 23 rfl rfl)
theorem dX1_connect_24 : decode cX1_connect 24 = .ok (.getfield 39, 3) := dk_180 0 39 (dk_at dksX1_connect_1 0 rfl rfl)
theorem dX1_connect_27 : decode cX1_connect 27 = .ok (.iload_n 1, 1) := dk_27 (dk_at dksX1_connect_1 3 rfl rfl)
theorem dX1_connect_28 : decode cX1_connect 28 = .ok (.iload_n 2, 1) := dk_28 (dk_at dksX1_connect_1 4 rfl rfl)
theorem dX1_connect_29 : decode cX1_connect 29 = .ok (.invokevirtual 127, 3) := dk_182 0 127 (dk_at dksX1_connect_1 5 rfl rfl)
theorem dX1_connect_32 : decode cX1_connect 32 = .ok (.invokestatic 131, 3) := dk_184 0 131 (dk_at dksX1_connect_1 8 rfl rfl)
theorem dX1_connect_35 : decode cX1_connect 35 = .ok (.aload_n 0, 1) := dk_42 (dk_at dksX1_connect_1 11 rfl rfl)
theorem dX1_connect_36 : decode cX1_connect 36 = .ok (.aload_n 0, 1) := dk_42 (dk_at dksX1_connect_1 12 rfl rfl)
theorem dX1_connect_37 : decode cX1_connect 37 = .ok (.getfield 39, 3) := dk_180 0 39 (dk_at dksX1_connect_1 13 rfl rfl)
theorem dX1_connect_40 : decode cX1_connect 40 = .ok (.new 92, 3) := dk_187 0 92 (dk_at dksX1_connect_1 16 rfl rfl)
theorem dX1_connect_43 : decode cX1_connect 43 = .ok (.dup, 1) := dk_89 (dk_at dksX1_connect_1 19 rfl rfl)
theorem dX1_connect_44 : decode cX1_connect 44 = .ok (.iload_n 1, 1) := dk_27 (dk_at dksX1_connect_1 20 rfl rfl)
theorem dX1_connect_45 : decode cX1_connect 45 = .ok (.iload_n 2, 1) := dk_28 (dk_at dksX1_connect_1 21 rfl rfl)
theorem dX1_connect_46 : decode cX1_connect 46 = .ok (.iload_n 3, 1) := dk_29 (dk_at dksX1_connect_1 22 rfl rfl)
theorem dX1_connect_47 : decode cX1_connect 47 = .ok (.invokespecial 134, 3) := dk_183 0 134 (dk_at dksX1_connect_2 0 rfl rfl)
theorem dX1_connect_50 : decode cX1_connect 50 = .ok (.invokevirtual 137, 3) := dk_182 0 137 (dk_at dksX1_connect_2 3 rfl rfl)
theorem dX1_connect_53 : decode cX1_connect 53 = .ok (.invokevirtual 118, 3) := dk_182 0 118 (dk_at dksX1_connect_2 6 rfl rfl)
theorem dX1_connect_56 : decode cX1_connect 56 = .ok (.aload_n 0, 1) := dk_42 (dk_at dksX1_connect_2 9 rfl rfl)
theorem dX1_connect_57 : decode cX1_connect 57 = .ok (.getfield 39, 3) := dk_180 0 39 (dk_at dksX1_connect_2 10 rfl rfl)
theorem dX1_connect_60 : decode cX1_connect 60 = .ok (.getfield 83, 3) := dk_180 0 83 (dk_at dksX1_connect_2 13 rfl rfl)
theorem dX1_connect_63 : decode cX1_connect 63 = .ok (.arraylength, 1) := dk_190 (dk_at dksX1_connect_2 16 rfl rfl)
theorem dX1_connect_64 : decode cX1_connect 64 = .ok (.iconst 1, 1) := dk_4 (dk_at dksX1_connect_2 17 rfl rfl)
theorem dX1_connect_65 : decode cX1_connect 65 = .ok (.isub, 1) := dk_100 (dk_at dksX1_connect_2 18 rfl rfl)
theorem dX1_connect_66 : decode cX1_connect 66 = .ok (.ireturn, 1) := dk_172 (dk_at dksX1_connect_2 19 rfl rfl)
abbrev cX1_checkNode : ByteArray := prog_1_method_11_code
def yX1_checkNode : MethodName := ⟨RX1, "checkNode", "(I)V"⟩
def dkwX1_checkNode_0 : List UInt8 := [42, 180, 0, 39, 27, 182, 0, 75, 184, 0, 79, 177]
abbrev dktX1_checkNode_0 : List UInt8 := dkwX1_checkNode_0 ++ []
theorem dksX1_checkNode_0 : cX1_checkNode.data.toList.drop 0 = dktX1_checkNode_0 := by decide +kernel
theorem dX1_checkNode_0 : decode cX1_checkNode 0 = .ok (.aload_n 0, 1) := dk_42 (dk_at dksX1_checkNode_0 0 rfl rfl)
theorem dX1_checkNode_1 : decode cX1_checkNode 1 = .ok (.getfield 39, 3) := dk_180 0 39 (dk_at dksX1_checkNode_0 1 rfl rfl)
theorem dX1_checkNode_4 : decode cX1_checkNode 4 = .ok (.iload_n 1, 1) := dk_27 (dk_at dksX1_checkNode_0 4 rfl rfl)
theorem dX1_checkNode_5 : decode cX1_checkNode 5 = .ok (.invokevirtual 75, 3) := dk_182 0 75 (dk_at dksX1_checkNode_0 5 rfl rfl)
theorem dX1_checkNode_8 : decode cX1_checkNode 8 = .ok (.invokestatic 79, 3) := dk_184 0 79 (dk_at dksX1_checkNode_0 8 rfl rfl)
theorem dX1_checkNode_11 : decode cX1_checkNode 11 = .ok (.return_, 1) := dk_177 (dk_at dksX1_checkNode_0 11 rfl rfl)
abbrev cX1_checkIndex : ByteArray := prog_1_method_8_code
def yX1_checkIndex : MethodName := ⟨RX1, "checkIndex", "(Z)V"⟩
def dkwX1_checkIndex_0 : List UInt8 := [26, 154, 0, 11, 187, 0, 66, 89, 183, 0, 68, 191, 177]
abbrev dktX1_checkIndex_0 : List UInt8 := dkwX1_checkIndex_0 ++ []
theorem dksX1_checkIndex_0 : cX1_checkIndex.data.toList.drop 0 = dktX1_checkIndex_0 := by decide +kernel
theorem dX1_checkIndex_0 : decode cX1_checkIndex 0 = .ok (.iload_n 0, 1) := dk_26 (dk_at dksX1_checkIndex_0 0 rfl rfl)
theorem dX1_checkIndex_1 : decode cX1_checkIndex 1 = .ok (.ifCond .ne 11, 3) := dk_154 0 11 (dk_at dksX1_checkIndex_0 1 rfl rfl)
theorem dX1_checkIndex_4 : decode cX1_checkIndex 4 = .ok (.new 66, 3) := dk_187 0 66 (dk_at dksX1_checkIndex_0 4 rfl rfl)
theorem dX1_checkIndex_7 : decode cX1_checkIndex 7 = .ok (.dup, 1) := dk_89 (dk_at dksX1_checkIndex_0 7 rfl rfl)
theorem dX1_checkIndex_8 : decode cX1_checkIndex 8 = .ok (.invokespecial 68, 3) := dk_183 0 68 (dk_at dksX1_checkIndex_0 8 rfl rfl)
theorem dX1_checkIndex_11 : decode cX1_checkIndex 11 = .ok (.athrow, 1) := dk_191 (dk_at dksX1_checkIndex_0 11 rfl rfl)
theorem dX1_checkIndex_12 : decode cX1_checkIndex 12 = .ok (.return_, 1) := dk_177 (dk_at dksX1_checkIndex_0 12 rfl rfl)
abbrev cX1_checkState : ByteArray := prog_1_method_10_code
def yX1_checkState : MethodName := ⟨RX1, "checkState", "(Z)V"⟩
def dkwX1_checkState_0 : List UInt8 := [26, 154, 0, 11, 187, 0, 72, 89, 183, 0, 74, 191, 177]
abbrev dktX1_checkState_0 : List UInt8 := dkwX1_checkState_0 ++ []
theorem dksX1_checkState_0 : cX1_checkState.data.toList.drop 0 = dktX1_checkState_0 := by decide +kernel
theorem dX1_checkState_0 : decode cX1_checkState 0 = .ok (.iload_n 0, 1) := dk_26 (dk_at dksX1_checkState_0 0 rfl rfl)
theorem dX1_checkState_1 : decode cX1_checkState 1 = .ok (.ifCond .ne 11, 3) := dk_154 0 11 (dk_at dksX1_checkState_0 1 rfl rfl)
theorem dX1_checkState_4 : decode cX1_checkState 4 = .ok (.new 72, 3) := dk_187 0 72 (dk_at dksX1_checkState_0 4 rfl rfl)
theorem dX1_checkState_7 : decode cX1_checkState 7 = .ok (.dup, 1) := dk_89 (dk_at dksX1_checkState_0 7 rfl rfl)
theorem dX1_checkState_8 : decode cX1_checkState 8 = .ok (.invokespecial 74, 3) := dk_183 0 74 (dk_at dksX1_checkState_0 8 rfl rfl)
theorem dX1_checkState_11 : decode cX1_checkState 11 = .ok (.athrow, 1) := dk_191 (dk_at dksX1_checkState_0 11 rfl rfl)
theorem dX1_checkState_12 : decode cX1_checkState 12 = .ok (.return_, 1) := dk_177 (dk_at dksX1_checkState_0 12 rfl rfl)
abbrev cX1_disconnect : ByteArray := prog_1_method_21_code
def yX1_disconnect : MethodName := ⟨RX1, "disconnect", "(I)I"⟩
def dkwX1_disconnect_1 : List UInt8 := [182, 0, 118, 28, 42, 180, 0, 39, 180, 0, 144, 190, 100, 172]
abbrev dktX1_disconnect_1 : List UInt8 := dkwX1_disconnect_1 ++ []
def dkwX1_disconnect_0 : List UInt8 := [42, 27, 182, 0, 141, 42, 180, 0, 39, 180, 0, 144, 190, 61, 42, 42, 180, 0, 39, 27, 182, 0, 148]
abbrev dktX1_disconnect_0 : List UInt8 := dkwX1_disconnect_0 ++ dktX1_disconnect_1
theorem dksX1_disconnect_0 : cX1_disconnect.data.toList.drop 0 = dktX1_disconnect_0 := by decide +kernel
theorem dksX1_disconnect_1 : cX1_disconnect.data.toList.drop 23 = dktX1_disconnect_1 := dk_seg dksX1_disconnect_0 23 rfl rfl
theorem dX1_disconnect_0 : decode cX1_disconnect 0 = .ok (.aload_n 0, 1) := dk_42 (dk_at dksX1_disconnect_0 0 rfl rfl)
theorem dX1_disconnect_1 : decode cX1_disconnect 1 = .ok (.iload_n 1, 1) := dk_27 (dk_at dksX1_disconnect_0 1 rfl rfl)
theorem dX1_disconnect_2 : decode cX1_disconnect 2 = .ok (.invokevirtual 141, 3) := dk_182 0 141 (dk_at dksX1_disconnect_0 2 rfl rfl)
theorem dX1_disconnect_5 : decode cX1_disconnect 5 = .ok (.aload_n 0, 1) := dk_42 (dk_at dksX1_disconnect_0 5 rfl rfl)
theorem dX1_disconnect_6 : decode cX1_disconnect 6 = .ok (.getfield 39, 3) := dk_180 0 39 (dk_at dksX1_disconnect_0 6 rfl rfl)
theorem dX1_disconnect_9 : decode cX1_disconnect 9 = .ok (.getfield 144, 3) := dk_180 0 144 (dk_at dksX1_disconnect_0 9 rfl rfl)
theorem dX1_disconnect_12 : decode cX1_disconnect 12 = .ok (.arraylength, 1) := dk_190 (dk_at dksX1_disconnect_0 12 rfl rfl)
theorem dX1_disconnect_13 : decode cX1_disconnect 13 = .ok (.istore_n 2, 1) := dk_61 (dk_at dksX1_disconnect_0 13 rfl rfl)
theorem dX1_disconnect_14 : decode cX1_disconnect 14 = .ok (.aload_n 0, 1) := dk_42 (dk_at dksX1_disconnect_0 14 rfl rfl)
theorem dX1_disconnect_15 : decode cX1_disconnect 15 = .ok (.aload_n 0, 1) := dk_42 (dk_at dksX1_disconnect_0 15 rfl rfl)
theorem dX1_disconnect_16 : decode cX1_disconnect 16 = .ok (.getfield 39, 3) := dk_180 0 39 (dk_at dksX1_disconnect_0 16 rfl rfl)
theorem dX1_disconnect_19 : decode cX1_disconnect 19 = .ok (.iload_n 1, 1) := dk_27 (dk_at dksX1_disconnect_0 19 rfl rfl)
theorem dX1_disconnect_20 : decode cX1_disconnect 20 = .ok (.invokevirtual 148, 3) := dk_182 0 148 (dk_at dksX1_disconnect_0 20 rfl rfl)
theorem dX1_disconnect_23 : decode cX1_disconnect 23 = .ok (.invokevirtual 118, 3) := dk_182 0 118 (dk_at dksX1_disconnect_1 0 rfl rfl)
theorem dX1_disconnect_26 : decode cX1_disconnect 26 = .ok (.iload_n 2, 1) := dk_28 (dk_at dksX1_disconnect_1 3 rfl rfl)
theorem dX1_disconnect_27 : decode cX1_disconnect 27 = .ok (.aload_n 0, 1) := dk_42 (dk_at dksX1_disconnect_1 4 rfl rfl)
theorem dX1_disconnect_28 : decode cX1_disconnect 28 = .ok (.getfield 39, 3) := dk_180 0 39 (dk_at dksX1_disconnect_1 5 rfl rfl)
theorem dX1_disconnect_31 : decode cX1_disconnect 31 = .ok (.getfield 144, 3) := dk_180 0 144 (dk_at dksX1_disconnect_1 8 rfl rfl)
theorem dX1_disconnect_34 : decode cX1_disconnect 34 = .ok (.arraylength, 1) := dk_190 (dk_at dksX1_disconnect_1 11 rfl rfl)
theorem dX1_disconnect_35 : decode cX1_disconnect 35 = .ok (.isub, 1) := dk_100 (dk_at dksX1_disconnect_1 12 rfl rfl)
theorem dX1_disconnect_36 : decode cX1_disconnect 36 = .ok (.ireturn, 1) := dk_172 (dk_at dksX1_disconnect_1 13 rfl rfl)
abbrev cX1_checkEdge : ByteArray := prog_1_method_12_code
def yX1_checkEdge : MethodName := ⟨RX1, "checkEdge", "(I)V"⟩
def dkwX1_checkEdge_0 : List UInt8 := [27, 3, 42, 180, 0, 39, 180, 0, 83, 190, 4, 100, 184, 0, 87, 184, 0, 79, 177]
abbrev dktX1_checkEdge_0 : List UInt8 := dkwX1_checkEdge_0 ++ []
theorem dksX1_checkEdge_0 : cX1_checkEdge.data.toList.drop 0 = dktX1_checkEdge_0 := by decide +kernel
theorem dX1_checkEdge_0 : decode cX1_checkEdge 0 = .ok (.iload_n 1, 1) := dk_27 (dk_at dksX1_checkEdge_0 0 rfl rfl)
theorem dX1_checkEdge_1 : decode cX1_checkEdge 1 = .ok (.iconst 0, 1) := dk_3 (dk_at dksX1_checkEdge_0 1 rfl rfl)
theorem dX1_checkEdge_2 : decode cX1_checkEdge 2 = .ok (.aload_n 0, 1) := dk_42 (dk_at dksX1_checkEdge_0 2 rfl rfl)
theorem dX1_checkEdge_3 : decode cX1_checkEdge 3 = .ok (.getfield 39, 3) := dk_180 0 39 (dk_at dksX1_checkEdge_0 3 rfl rfl)
theorem dX1_checkEdge_6 : decode cX1_checkEdge 6 = .ok (.getfield 83, 3) := dk_180 0 83 (dk_at dksX1_checkEdge_0 6 rfl rfl)
theorem dX1_checkEdge_9 : decode cX1_checkEdge 9 = .ok (.arraylength, 1) := dk_190 (dk_at dksX1_checkEdge_0 9 rfl rfl)
theorem dX1_checkEdge_10 : decode cX1_checkEdge 10 = .ok (.iconst 1, 1) := dk_4 (dk_at dksX1_checkEdge_0 10 rfl rfl)
theorem dX1_checkEdge_11 : decode cX1_checkEdge 11 = .ok (.isub, 1) := dk_100 (dk_at dksX1_checkEdge_0 11 rfl rfl)
theorem dX1_checkEdge_12 : decode cX1_checkEdge 12 = .ok (.invokestatic 87, 3) := dk_184 0 87 (dk_at dksX1_checkEdge_0 12 rfl rfl)
theorem dX1_checkEdge_15 : decode cX1_checkEdge 15 = .ok (.invokestatic 79, 3) := dk_184 0 79 (dk_at dksX1_checkEdge_0 15 rfl rfl)
theorem dX1_checkEdge_18 : decode cX1_checkEdge 18 = .ok (.return_, 1) := dk_177 (dk_at dksX1_checkEdge_0 18 rfl rfl)
abbrev cX1_setWeight : ByteArray := prog_1_method_22_code
def yX1_setWeight : MethodName := ⟨RX1, "setWeight", "(II)I"⟩
def dkwX1_setWeight_1 : List UInt8 := [62, 42, 42, 180, 0, 39, 27, 28, 182, 0, 156, 182, 0, 118, 29, 172]
abbrev dktX1_setWeight_1 : List UInt8 := dkwX1_setWeight_1 ++ []
def dkwX1_setWeight_0 : List UInt8 := [42, 27, 182, 0, 121, 28, 3, 16, 9, 184, 0, 87, 184, 0, 115, 42, 180, 0, 39, 180, 0, 152, 27, 46]
abbrev dktX1_setWeight_0 : List UInt8 := dkwX1_setWeight_0 ++ dktX1_setWeight_1
theorem dksX1_setWeight_0 : cX1_setWeight.data.toList.drop 0 = dktX1_setWeight_0 := by decide +kernel
theorem dksX1_setWeight_1 : cX1_setWeight.data.toList.drop 24 = dktX1_setWeight_1 := dk_seg dksX1_setWeight_0 24 rfl rfl
theorem dX1_setWeight_0 : decode cX1_setWeight 0 = .ok (.aload_n 0, 1) := dk_42 (dk_at dksX1_setWeight_0 0 rfl rfl)
theorem dX1_setWeight_1 : decode cX1_setWeight 1 = .ok (.iload_n 1, 1) := dk_27 (dk_at dksX1_setWeight_0 1 rfl rfl)
theorem dX1_setWeight_2 : decode cX1_setWeight 2 = .ok (.invokevirtual 121, 3) := dk_182 0 121 (dk_at dksX1_setWeight_0 2 rfl rfl)
theorem dX1_setWeight_5 : decode cX1_setWeight 5 = .ok (.iload_n 2, 1) := dk_28 (dk_at dksX1_setWeight_0 5 rfl rfl)
theorem dX1_setWeight_6 : decode cX1_setWeight 6 = .ok (.iconst 0, 1) := dk_3 (dk_at dksX1_setWeight_0 6 rfl rfl)
theorem dX1_setWeight_7 : decode cX1_setWeight 7 = .ok (.bipush 9, 2) := dk_16 9 (dk_at dksX1_setWeight_0 7 rfl rfl)
theorem dX1_setWeight_9 : decode cX1_setWeight 9 = .ok (.invokestatic 87, 3) := dk_184 0 87 (dk_at dksX1_setWeight_0 9 rfl rfl)
theorem dX1_setWeight_12 : decode cX1_setWeight 12 = .ok (.invokestatic 115, 3) := dk_184 0 115 (dk_at dksX1_setWeight_0 12 rfl rfl)
theorem dX1_setWeight_15 : decode cX1_setWeight 15 = .ok (.aload_n 0, 1) := dk_42 (dk_at dksX1_setWeight_0 15 rfl rfl)
theorem dX1_setWeight_16 : decode cX1_setWeight 16 = .ok (.getfield 39, 3) := dk_180 0 39 (dk_at dksX1_setWeight_0 16 rfl rfl)
theorem dX1_setWeight_19 : decode cX1_setWeight 19 = .ok (.getfield 152, 3) := dk_180 0 152 (dk_at dksX1_setWeight_0 19 rfl rfl)
theorem dX1_setWeight_22 : decode cX1_setWeight 22 = .ok (.iload_n 1, 1) := dk_27 (dk_at dksX1_setWeight_0 22 rfl rfl)
theorem dX1_setWeight_23 : decode cX1_setWeight 23 = .ok (.iaload, 1) := dk_46 (dk_at dksX1_setWeight_0 23 rfl rfl)
theorem dX1_setWeight_24 : decode cX1_setWeight 24 = .ok (.istore_n 3, 1) := dk_62 (dk_at dksX1_setWeight_1 0 rfl rfl)
theorem dX1_setWeight_25 : decode cX1_setWeight 25 = .ok (.aload_n 0, 1) := dk_42 (dk_at dksX1_setWeight_1 1 rfl rfl)
theorem dX1_setWeight_26 : decode cX1_setWeight 26 = .ok (.aload_n 0, 1) := dk_42 (dk_at dksX1_setWeight_1 2 rfl rfl)
theorem dX1_setWeight_27 : decode cX1_setWeight 27 = .ok (.getfield 39, 3) := dk_180 0 39 (dk_at dksX1_setWeight_1 3 rfl rfl)
theorem dX1_setWeight_30 : decode cX1_setWeight 30 = .ok (.iload_n 1, 1) := dk_27 (dk_at dksX1_setWeight_1 6 rfl rfl)
theorem dX1_setWeight_31 : decode cX1_setWeight 31 = .ok (.iload_n 2, 1) := dk_28 (dk_at dksX1_setWeight_1 7 rfl rfl)
theorem dX1_setWeight_32 : decode cX1_setWeight 32 = .ok (.invokevirtual 156, 3) := dk_182 0 156 (dk_at dksX1_setWeight_1 8 rfl rfl)
theorem dX1_setWeight_35 : decode cX1_setWeight 35 = .ok (.invokevirtual 118, 3) := dk_182 0 118 (dk_at dksX1_setWeight_1 11 rfl rfl)
theorem dX1_setWeight_38 : decode cX1_setWeight 38 = .ok (.iload_n 3, 1) := dk_29 (dk_at dksX1_setWeight_1 14 rfl rfl)
theorem dX1_setWeight_39 : decode cX1_setWeight 39 = .ok (.ireturn, 1) := dk_172 (dk_at dksX1_setWeight_1 15 rfl rfl)
abbrev cX1_setTrend : ByteArray := prog_1_method_23_code
def yX1_setTrend : MethodName := ⟨RX1, "setTrend", "(II)I"⟩
def dkwX1_setTrend_1 : List UInt8 := [62, 42, 42, 180, 0, 39, 27, 28, 182, 0, 163, 182, 0, 118, 29, 172]
abbrev dktX1_setTrend_1 : List UInt8 := dkwX1_setTrend_1 ++ []
def dkwX1_setTrend_0 : List UInt8 := [42, 27, 182, 0, 121, 28, 3, 16, 9, 184, 0, 87, 184, 0, 115, 42, 180, 0, 39, 180, 0, 160, 27, 46]
abbrev dktX1_setTrend_0 : List UInt8 := dkwX1_setTrend_0 ++ dktX1_setTrend_1
theorem dksX1_setTrend_0 : cX1_setTrend.data.toList.drop 0 = dktX1_setTrend_0 := by decide +kernel
theorem dksX1_setTrend_1 : cX1_setTrend.data.toList.drop 24 = dktX1_setTrend_1 := dk_seg dksX1_setTrend_0 24 rfl rfl
theorem dX1_setTrend_0 : decode cX1_setTrend 0 = .ok (.aload_n 0, 1) := dk_42 (dk_at dksX1_setTrend_0 0 rfl rfl)
theorem dX1_setTrend_1 : decode cX1_setTrend 1 = .ok (.iload_n 1, 1) := dk_27 (dk_at dksX1_setTrend_0 1 rfl rfl)
theorem dX1_setTrend_2 : decode cX1_setTrend 2 = .ok (.invokevirtual 121, 3) := dk_182 0 121 (dk_at dksX1_setTrend_0 2 rfl rfl)
theorem dX1_setTrend_5 : decode cX1_setTrend 5 = .ok (.iload_n 2, 1) := dk_28 (dk_at dksX1_setTrend_0 5 rfl rfl)
theorem dX1_setTrend_6 : decode cX1_setTrend 6 = .ok (.iconst 0, 1) := dk_3 (dk_at dksX1_setTrend_0 6 rfl rfl)
theorem dX1_setTrend_7 : decode cX1_setTrend 7 = .ok (.bipush 9, 2) := dk_16 9 (dk_at dksX1_setTrend_0 7 rfl rfl)
theorem dX1_setTrend_9 : decode cX1_setTrend 9 = .ok (.invokestatic 87, 3) := dk_184 0 87 (dk_at dksX1_setTrend_0 9 rfl rfl)
theorem dX1_setTrend_12 : decode cX1_setTrend 12 = .ok (.invokestatic 115, 3) := dk_184 0 115 (dk_at dksX1_setTrend_0 12 rfl rfl)
theorem dX1_setTrend_15 : decode cX1_setTrend 15 = .ok (.aload_n 0, 1) := dk_42 (dk_at dksX1_setTrend_0 15 rfl rfl)
theorem dX1_setTrend_16 : decode cX1_setTrend 16 = .ok (.getfield 39, 3) := dk_180 0 39 (dk_at dksX1_setTrend_0 16 rfl rfl)
theorem dX1_setTrend_19 : decode cX1_setTrend 19 = .ok (.getfield 160, 3) := dk_180 0 160 (dk_at dksX1_setTrend_0 19 rfl rfl)
theorem dX1_setTrend_22 : decode cX1_setTrend 22 = .ok (.iload_n 1, 1) := dk_27 (dk_at dksX1_setTrend_0 22 rfl rfl)
theorem dX1_setTrend_23 : decode cX1_setTrend 23 = .ok (.iaload, 1) := dk_46 (dk_at dksX1_setTrend_0 23 rfl rfl)
theorem dX1_setTrend_24 : decode cX1_setTrend 24 = .ok (.istore_n 3, 1) := dk_62 (dk_at dksX1_setTrend_1 0 rfl rfl)
theorem dX1_setTrend_25 : decode cX1_setTrend 25 = .ok (.aload_n 0, 1) := dk_42 (dk_at dksX1_setTrend_1 1 rfl rfl)
theorem dX1_setTrend_26 : decode cX1_setTrend 26 = .ok (.aload_n 0, 1) := dk_42 (dk_at dksX1_setTrend_1 2 rfl rfl)
theorem dX1_setTrend_27 : decode cX1_setTrend 27 = .ok (.getfield 39, 3) := dk_180 0 39 (dk_at dksX1_setTrend_1 3 rfl rfl)
theorem dX1_setTrend_30 : decode cX1_setTrend 30 = .ok (.iload_n 1, 1) := dk_27 (dk_at dksX1_setTrend_1 6 rfl rfl)
theorem dX1_setTrend_31 : decode cX1_setTrend 31 = .ok (.iload_n 2, 1) := dk_28 (dk_at dksX1_setTrend_1 7 rfl rfl)
theorem dX1_setTrend_32 : decode cX1_setTrend 32 = .ok (.invokevirtual 163, 3) := dk_182 0 163 (dk_at dksX1_setTrend_1 8 rfl rfl)
theorem dX1_setTrend_35 : decode cX1_setTrend 35 = .ok (.invokevirtual 118, 3) := dk_182 0 118 (dk_at dksX1_setTrend_1 11 rfl rfl)
theorem dX1_setTrend_38 : decode cX1_setTrend 38 = .ok (.iload_n 3, 1) := dk_29 (dk_at dksX1_setTrend_1 14 rfl rfl)
theorem dX1_setTrend_39 : decode cX1_setTrend 39 = .ok (.ireturn, 1) := dk_172 (dk_at dksX1_setTrend_1 15 rfl rfl)
abbrev cX1_forbid : ByteArray := prog_1_method_24_code
def yX1_forbid : MethodName := ⟨RX1, "forbid", "(III)I"⟩
def dkwX1_forbid_3 : List UInt8 := [4, 100, 172]
abbrev dktX1_forbid_3 : List UInt8 := dkwX1_forbid_3 ++ []
def dkwX1_forbid_2 : List UInt8 := [187, 0, 169, 89, 27, 28, 29, 183, 0, 171, 182, 0, 172, 182, 0, 118, 42, 180, 0, 39, 180, 0, 144, 190]
abbrev dktX1_forbid_2 : List UInt8 := dkwX1_forbid_2 ++ dktX1_forbid_3
def dkwX1_forbid_1 : List UInt8 := [180, 0, 144, 190, 16, 6, 162, 0, 7, 4, 167, 0, 4, 3, 184, 0, 131, 42, 42, 180, 0, 39]
abbrev dktX1_forbid_1 : List UInt8 := dkwX1_forbid_1 ++ dktX1_forbid_2
def dkwX1_forbid_0 : List UInt8 := [42, 27, 182, 0, 141, 42, 180, 0, 39, 27, 28, 29, 182, 0, 166, 184, 0, 115, 42, 180, 0, 39]
abbrev dktX1_forbid_0 : List UInt8 := dkwX1_forbid_0 ++ dktX1_forbid_1
theorem dksX1_forbid_0 : cX1_forbid.data.toList.drop 0 = dktX1_forbid_0 := by decide +kernel
theorem dksX1_forbid_1 : cX1_forbid.data.toList.drop 22 = dktX1_forbid_1 := dk_seg dksX1_forbid_0 22 rfl rfl
theorem dksX1_forbid_2 : cX1_forbid.data.toList.drop 44 = dktX1_forbid_2 := dk_seg dksX1_forbid_1 22 rfl rfl
theorem dksX1_forbid_3 : cX1_forbid.data.toList.drop 68 = dktX1_forbid_3 := dk_seg dksX1_forbid_2 24 rfl rfl
theorem dX1_forbid_0 : decode cX1_forbid 0 = .ok (.aload_n 0, 1) := dk_42 (dk_at dksX1_forbid_0 0 rfl rfl)
theorem dX1_forbid_1 : decode cX1_forbid 1 = .ok (.iload_n 1, 1) := dk_27 (dk_at dksX1_forbid_0 1 rfl rfl)
theorem dX1_forbid_2 : decode cX1_forbid 2 = .ok (.invokevirtual 141, 3) := dk_182 0 141 (dk_at dksX1_forbid_0 2 rfl rfl)
theorem dX1_forbid_5 : decode cX1_forbid 5 = .ok (.aload_n 0, 1) := dk_42 (dk_at dksX1_forbid_0 5 rfl rfl)
theorem dX1_forbid_6 : decode cX1_forbid 6 = .ok (.getfield 39, 3) := dk_180 0 39 (dk_at dksX1_forbid_0 6 rfl rfl)
theorem dX1_forbid_9 : decode cX1_forbid 9 = .ok (.iload_n 1, 1) := dk_27 (dk_at dksX1_forbid_0 9 rfl rfl)
theorem dX1_forbid_10 : decode cX1_forbid 10 = .ok (.iload_n 2, 1) := dk_28 (dk_at dksX1_forbid_0 10 rfl rfl)
theorem dX1_forbid_11 : decode cX1_forbid 11 = .ok (.iload_n 3, 1) := dk_29 (dk_at dksX1_forbid_0 11 rfl rfl)
theorem dX1_forbid_12 : decode cX1_forbid 12 = .ok (.invokevirtual 166, 3) := dk_182 0 166 (dk_at dksX1_forbid_0 12 rfl rfl)
theorem dX1_forbid_15 : decode cX1_forbid 15 = .ok (.invokestatic 115, 3) := dk_184 0 115 (dk_at dksX1_forbid_0 15 rfl rfl)
theorem dX1_forbid_18 : decode cX1_forbid 18 = .ok (.aload_n 0, 1) := dk_42 (dk_at dksX1_forbid_0 18 rfl rfl)
theorem dX1_forbid_19 : decode cX1_forbid 19 = .ok (.getfield 39, 3) := dk_180 0 39 (dk_at dksX1_forbid_0 19 rfl rfl)
theorem dX1_forbid_22 : decode cX1_forbid 22 = .ok (.getfield 144, 3) := dk_180 0 144 (dk_at dksX1_forbid_1 0 rfl rfl)
theorem dX1_forbid_25 : decode cX1_forbid 25 = .ok (.arraylength, 1) := dk_190 (dk_at dksX1_forbid_1 3 rfl rfl)
theorem dX1_forbid_26 : decode cX1_forbid 26 = .ok (.bipush 6, 2) := dk_16 6 (dk_at dksX1_forbid_1 4 rfl rfl)
theorem dX1_forbid_28 : decode cX1_forbid 28 = .ok (.if_icmp .ge 7, 3) := dk_162 0 7 (dk_at dksX1_forbid_1 6 rfl rfl)
theorem dX1_forbid_31 : decode cX1_forbid 31 = .ok (.iconst 1, 1) := dk_4 (dk_at dksX1_forbid_1 9 rfl rfl)
theorem dX1_forbid_32 : decode cX1_forbid 32 = .ok (.goto 4, 3) := dk_167 0 4 (dk_at dksX1_forbid_1 10 rfl rfl)
theorem dX1_forbid_35 : decode cX1_forbid 35 = .ok (.iconst 0, 1) := dk_3 (dk_at dksX1_forbid_1 13 rfl rfl)
theorem dX1_forbid_36 : decode cX1_forbid 36 = .ok (.invokestatic 131, 3) := dk_184 0 131 (dk_at dksX1_forbid_1 14 rfl rfl)
theorem dX1_forbid_39 : decode cX1_forbid 39 = .ok (.aload_n 0, 1) := dk_42 (dk_at dksX1_forbid_1 17 rfl rfl)
theorem dX1_forbid_40 : decode cX1_forbid 40 = .ok (.aload_n 0, 1) := dk_42 (dk_at dksX1_forbid_1 18 rfl rfl)
theorem dX1_forbid_41 : decode cX1_forbid 41 = .ok (.getfield 39, 3) := dk_180 0 39 (dk_at dksX1_forbid_1 19 rfl rfl)
theorem dX1_forbid_44 : decode cX1_forbid 44 = .ok (.new 169, 3) := dk_187 0 169 (dk_at dksX1_forbid_2 0 rfl rfl)
theorem dX1_forbid_47 : decode cX1_forbid 47 = .ok (.dup, 1) := dk_89 (dk_at dksX1_forbid_2 3 rfl rfl)
theorem dX1_forbid_48 : decode cX1_forbid 48 = .ok (.iload_n 1, 1) := dk_27 (dk_at dksX1_forbid_2 4 rfl rfl)
theorem dX1_forbid_49 : decode cX1_forbid 49 = .ok (.iload_n 2, 1) := dk_28 (dk_at dksX1_forbid_2 5 rfl rfl)
theorem dX1_forbid_50 : decode cX1_forbid 50 = .ok (.iload_n 3, 1) := dk_29 (dk_at dksX1_forbid_2 6 rfl rfl)
theorem dX1_forbid_51 : decode cX1_forbid 51 = .ok (.invokespecial 171, 3) := dk_183 0 171 (dk_at dksX1_forbid_2 7 rfl rfl)
theorem dX1_forbid_54 : decode cX1_forbid 54 = .ok (.invokevirtual 172, 3) := dk_182 0 172 (dk_at dksX1_forbid_2 10 rfl rfl)
theorem dX1_forbid_57 : decode cX1_forbid 57 = .ok (.invokevirtual 118, 3) := dk_182 0 118 (dk_at dksX1_forbid_2 13 rfl rfl)
theorem dX1_forbid_60 : decode cX1_forbid 60 = .ok (.aload_n 0, 1) := dk_42 (dk_at dksX1_forbid_2 16 rfl rfl)
theorem dX1_forbid_61 : decode cX1_forbid 61 = .ok (.getfield 39, 3) := dk_180 0 39 (dk_at dksX1_forbid_2 17 rfl rfl)
theorem dX1_forbid_64 : decode cX1_forbid 64 = .ok (.getfield 144, 3) := dk_180 0 144 (dk_at dksX1_forbid_2 20 rfl rfl)
theorem dX1_forbid_67 : decode cX1_forbid 67 = .ok (.arraylength, 1) := dk_190 (dk_at dksX1_forbid_2 23 rfl rfl)
theorem dX1_forbid_68 : decode cX1_forbid 68 = .ok (.iconst 1, 1) := dk_4 (dk_at dksX1_forbid_3 0 rfl rfl)
theorem dX1_forbid_69 : decode cX1_forbid 69 = .ok (.isub, 1) := dk_100 (dk_at dksX1_forbid_3 1 rfl rfl)
theorem dX1_forbid_70 : decode cX1_forbid 70 = .ok (.ireturn, 1) := dk_172 (dk_at dksX1_forbid_3 2 rfl rfl)
abbrev cX1_allow : ByteArray := prog_1_method_26_code
def yX1_allow : MethodName := ⟨RX1, "allow", "(I)I"⟩
def dkwX1_allow_1 : List UInt8 := [182, 0, 182, 182, 0, 118, 28, 172]
abbrev dktX1_allow_1 : List UInt8 := dkwX1_allow_1 ++ []
def dkwX1_allow_0 : List UInt8 := [42, 27, 182, 0, 176, 42, 180, 0, 39, 180, 0, 144, 27, 50, 180, 0, 179, 61, 42, 42, 180, 0, 39, 27]
abbrev dktX1_allow_0 : List UInt8 := dkwX1_allow_0 ++ dktX1_allow_1
theorem dksX1_allow_0 : cX1_allow.data.toList.drop 0 = dktX1_allow_0 := by decide +kernel
theorem dksX1_allow_1 : cX1_allow.data.toList.drop 24 = dktX1_allow_1 := dk_seg dksX1_allow_0 24 rfl rfl
theorem dX1_allow_0 : decode cX1_allow 0 = .ok (.aload_n 0, 1) := dk_42 (dk_at dksX1_allow_0 0 rfl rfl)
theorem dX1_allow_1 : decode cX1_allow 1 = .ok (.iload_n 1, 1) := dk_27 (dk_at dksX1_allow_0 1 rfl rfl)
theorem dX1_allow_2 : decode cX1_allow 2 = .ok (.invokevirtual 176, 3) := dk_182 0 176 (dk_at dksX1_allow_0 2 rfl rfl)
theorem dX1_allow_5 : decode cX1_allow 5 = .ok (.aload_n 0, 1) := dk_42 (dk_at dksX1_allow_0 5 rfl rfl)
theorem dX1_allow_6 : decode cX1_allow 6 = .ok (.getfield 39, 3) := dk_180 0 39 (dk_at dksX1_allow_0 6 rfl rfl)
theorem dX1_allow_9 : decode cX1_allow 9 = .ok (.getfield 144, 3) := dk_180 0 144 (dk_at dksX1_allow_0 9 rfl rfl)
theorem dX1_allow_12 : decode cX1_allow 12 = .ok (.iload_n 1, 1) := dk_27 (dk_at dksX1_allow_0 12 rfl rfl)
theorem dX1_allow_13 : decode cX1_allow 13 = .ok (.aaload, 1) := dk_50 (dk_at dksX1_allow_0 13 rfl rfl)
theorem dX1_allow_14 : decode cX1_allow 14 = .ok (.getfield 179, 3) := dk_180 0 179 (dk_at dksX1_allow_0 14 rfl rfl)
theorem dX1_allow_17 : decode cX1_allow 17 = .ok (.istore_n 2, 1) := dk_61 (dk_at dksX1_allow_0 17 rfl rfl)
theorem dX1_allow_18 : decode cX1_allow 18 = .ok (.aload_n 0, 1) := dk_42 (dk_at dksX1_allow_0 18 rfl rfl)
theorem dX1_allow_19 : decode cX1_allow 19 = .ok (.aload_n 0, 1) := dk_42 (dk_at dksX1_allow_0 19 rfl rfl)
theorem dX1_allow_20 : decode cX1_allow 20 = .ok (.getfield 39, 3) := dk_180 0 39 (dk_at dksX1_allow_0 20 rfl rfl)
theorem dX1_allow_23 : decode cX1_allow 23 = .ok (.iload_n 1, 1) := dk_27 (dk_at dksX1_allow_0 23 rfl rfl)
theorem dX1_allow_24 : decode cX1_allow 24 = .ok (.invokevirtual 182, 3) := dk_182 0 182 (dk_at dksX1_allow_1 0 rfl rfl)
theorem dX1_allow_27 : decode cX1_allow 27 = .ok (.invokevirtual 118, 3) := dk_182 0 118 (dk_at dksX1_allow_1 3 rfl rfl)
theorem dX1_allow_30 : decode cX1_allow 30 = .ok (.iload_n 2, 1) := dk_28 (dk_at dksX1_allow_1 6 rfl rfl)
theorem dX1_allow_31 : decode cX1_allow 31 = .ok (.ireturn, 1) := dk_172 (dk_at dksX1_allow_1 7 rfl rfl)
abbrev cX1_checkStretch : ByteArray := prog_1_method_25_code
def yX1_checkStretch : MethodName := ⟨RX1, "checkStretch", "(I)V"⟩
def dkwX1_checkStretch_0 : List UInt8 := [27, 3, 42, 180, 0, 39, 180, 0, 144, 190, 4, 100, 184, 0, 87, 184, 0, 79, 177]
abbrev dktX1_checkStretch_0 : List UInt8 := dkwX1_checkStretch_0 ++ []
theorem dksX1_checkStretch_0 : cX1_checkStretch.data.toList.drop 0 = dktX1_checkStretch_0 := by decide +kernel
theorem dX1_checkStretch_0 : decode cX1_checkStretch 0 = .ok (.iload_n 1, 1) := dk_27 (dk_at dksX1_checkStretch_0 0 rfl rfl)
theorem dX1_checkStretch_1 : decode cX1_checkStretch 1 = .ok (.iconst 0, 1) := dk_3 (dk_at dksX1_checkStretch_0 1 rfl rfl)
theorem dX1_checkStretch_2 : decode cX1_checkStretch 2 = .ok (.aload_n 0, 1) := dk_42 (dk_at dksX1_checkStretch_0 2 rfl rfl)
theorem dX1_checkStretch_3 : decode cX1_checkStretch 3 = .ok (.getfield 39, 3) := dk_180 0 39 (dk_at dksX1_checkStretch_0 3 rfl rfl)
theorem dX1_checkStretch_6 : decode cX1_checkStretch 6 = .ok (.getfield 144, 3) := dk_180 0 144 (dk_at dksX1_checkStretch_0 6 rfl rfl)
theorem dX1_checkStretch_9 : decode cX1_checkStretch 9 = .ok (.arraylength, 1) := dk_190 (dk_at dksX1_checkStretch_0 9 rfl rfl)
theorem dX1_checkStretch_10 : decode cX1_checkStretch 10 = .ok (.iconst 1, 1) := dk_4 (dk_at dksX1_checkStretch_0 10 rfl rfl)
theorem dX1_checkStretch_11 : decode cX1_checkStretch 11 = .ok (.isub, 1) := dk_100 (dk_at dksX1_checkStretch_0 11 rfl rfl)
theorem dX1_checkStretch_12 : decode cX1_checkStretch 12 = .ok (.invokestatic 87, 3) := dk_184 0 87 (dk_at dksX1_checkStretch_0 12 rfl rfl)
theorem dX1_checkStretch_15 : decode cX1_checkStretch 15 = .ok (.invokestatic 79, 3) := dk_184 0 79 (dk_at dksX1_checkStretch_0 15 rfl rfl)
theorem dX1_checkStretch_18 : decode cX1_checkStretch 18 = .ok (.return_, 1) := dk_177 (dk_at dksX1_checkStretch_0 18 rfl rfl)
abbrev cX1_count : ByteArray := prog_1_method_28_code
def yX1_count : MethodName := ⟨RX1, "count", "(I)I"⟩
def dkwX1_count_0 : List UInt8 := [27, 3, 6, 184, 0, 87, 184, 0, 115, 42, 27, 182, 0, 189, 172]
abbrev dktX1_count_0 : List UInt8 := dkwX1_count_0 ++ []
theorem dksX1_count_0 : cX1_count.data.toList.drop 0 = dktX1_count_0 := by decide +kernel
theorem dX1_count_0 : decode cX1_count 0 = .ok (.iload_n 1, 1) := dk_27 (dk_at dksX1_count_0 0 rfl rfl)
theorem dX1_count_1 : decode cX1_count 1 = .ok (.iconst 0, 1) := dk_3 (dk_at dksX1_count_0 1 rfl rfl)
theorem dX1_count_2 : decode cX1_count 2 = .ok (.iconst 3, 1) := dk_6 (dk_at dksX1_count_0 2 rfl rfl)
theorem dX1_count_3 : decode cX1_count 3 = .ok (.invokestatic 87, 3) := dk_184 0 87 (dk_at dksX1_count_0 3 rfl rfl)
theorem dX1_count_6 : decode cX1_count 6 = .ok (.invokestatic 115, 3) := dk_184 0 115 (dk_at dksX1_count_0 6 rfl rfl)
theorem dX1_count_9 : decode cX1_count 9 = .ok (.aload_n 0, 1) := dk_42 (dk_at dksX1_count_0 9 rfl rfl)
theorem dX1_count_10 : decode cX1_count 10 = .ok (.iload_n 1, 1) := dk_27 (dk_at dksX1_count_0 10 rfl rfl)
theorem dX1_count_11 : decode cX1_count 11 = .ok (.invokevirtual 189, 3) := dk_182 0 189 (dk_at dksX1_count_0 11 rfl rfl)
theorem dX1_count_14 : decode cX1_count 14 = .ok (.ireturn, 1) := dk_172 (dk_at dksX1_count_0 14 rfl rfl)
abbrev cX1_edge : ByteArray := prog_1_method_29_code
def yX1_edge : MethodName := ⟨RX1, "edge", "(II)I"⟩
def dkwX1_edge_1 : List UInt8 := [182, 0, 193, 172]
abbrev dktX1_edge_1 : List UInt8 := dkwX1_edge_1 ++ []
def dkwX1_edge_0 : List UInt8 := [42, 27, 182, 0, 141, 28, 3, 5, 184, 0, 87, 184, 0, 115, 42, 180, 0, 39, 180, 0, 83, 27, 50, 28]
abbrev dktX1_edge_0 : List UInt8 := dkwX1_edge_0 ++ dktX1_edge_1
theorem dksX1_edge_0 : cX1_edge.data.toList.drop 0 = dktX1_edge_0 := by decide +kernel
theorem dksX1_edge_1 : cX1_edge.data.toList.drop 24 = dktX1_edge_1 := dk_seg dksX1_edge_0 24 rfl rfl
theorem dX1_edge_0 : decode cX1_edge 0 = .ok (.aload_n 0, 1) := dk_42 (dk_at dksX1_edge_0 0 rfl rfl)
theorem dX1_edge_1 : decode cX1_edge 1 = .ok (.iload_n 1, 1) := dk_27 (dk_at dksX1_edge_0 1 rfl rfl)
theorem dX1_edge_2 : decode cX1_edge 2 = .ok (.invokevirtual 141, 3) := dk_182 0 141 (dk_at dksX1_edge_0 2 rfl rfl)
theorem dX1_edge_5 : decode cX1_edge 5 = .ok (.iload_n 2, 1) := dk_28 (dk_at dksX1_edge_0 5 rfl rfl)
theorem dX1_edge_6 : decode cX1_edge 6 = .ok (.iconst 0, 1) := dk_3 (dk_at dksX1_edge_0 6 rfl rfl)
theorem dX1_edge_7 : decode cX1_edge 7 = .ok (.iconst 2, 1) := dk_5 (dk_at dksX1_edge_0 7 rfl rfl)
theorem dX1_edge_8 : decode cX1_edge 8 = .ok (.invokestatic 87, 3) := dk_184 0 87 (dk_at dksX1_edge_0 8 rfl rfl)
theorem dX1_edge_11 : decode cX1_edge 11 = .ok (.invokestatic 115, 3) := dk_184 0 115 (dk_at dksX1_edge_0 11 rfl rfl)
theorem dX1_edge_14 : decode cX1_edge 14 = .ok (.aload_n 0, 1) := dk_42 (dk_at dksX1_edge_0 14 rfl rfl)
theorem dX1_edge_15 : decode cX1_edge 15 = .ok (.getfield 39, 3) := dk_180 0 39 (dk_at dksX1_edge_0 15 rfl rfl)
theorem dX1_edge_18 : decode cX1_edge 18 = .ok (.getfield 83, 3) := dk_180 0 83 (dk_at dksX1_edge_0 18 rfl rfl)
theorem dX1_edge_21 : decode cX1_edge 21 = .ok (.iload_n 1, 1) := dk_27 (dk_at dksX1_edge_0 21 rfl rfl)
theorem dX1_edge_22 : decode cX1_edge 22 = .ok (.aaload, 1) := dk_50 (dk_at dksX1_edge_0 22 rfl rfl)
theorem dX1_edge_23 : decode cX1_edge 23 = .ok (.iload_n 2, 1) := dk_28 (dk_at dksX1_edge_0 23 rfl rfl)
theorem dX1_edge_24 : decode cX1_edge 24 = .ok (.invokevirtual 193, 3) := dk_182 0 193 (dk_at dksX1_edge_1 0 rfl rfl)
theorem dX1_edge_27 : decode cX1_edge 27 = .ok (.ireturn, 1) := dk_172 (dk_at dksX1_edge_1 3 rfl rfl)
abbrev cX1_node : ByteArray := prog_1_method_31_code
def yX1_node : MethodName := ⟨RX1, "node", "(II)I"⟩
def dkwX1_node_0 : List UInt8 := [42, 27, 182, 0, 121, 28, 3, 5, 184, 0, 87, 184, 0, 115, 42, 27, 28, 182, 0, 199, 172]
abbrev dktX1_node_0 : List UInt8 := dkwX1_node_0 ++ []
theorem dksX1_node_0 : cX1_node.data.toList.drop 0 = dktX1_node_0 := by decide +kernel
theorem dX1_node_0 : decode cX1_node 0 = .ok (.aload_n 0, 1) := dk_42 (dk_at dksX1_node_0 0 rfl rfl)
theorem dX1_node_1 : decode cX1_node 1 = .ok (.iload_n 1, 1) := dk_27 (dk_at dksX1_node_0 1 rfl rfl)
theorem dX1_node_2 : decode cX1_node 2 = .ok (.invokevirtual 121, 3) := dk_182 0 121 (dk_at dksX1_node_0 2 rfl rfl)
theorem dX1_node_5 : decode cX1_node 5 = .ok (.iload_n 2, 1) := dk_28 (dk_at dksX1_node_0 5 rfl rfl)
theorem dX1_node_6 : decode cX1_node 6 = .ok (.iconst 0, 1) := dk_3 (dk_at dksX1_node_0 6 rfl rfl)
theorem dX1_node_7 : decode cX1_node 7 = .ok (.iconst 2, 1) := dk_5 (dk_at dksX1_node_0 7 rfl rfl)
theorem dX1_node_8 : decode cX1_node 8 = .ok (.invokestatic 87, 3) := dk_184 0 87 (dk_at dksX1_node_0 8 rfl rfl)
theorem dX1_node_11 : decode cX1_node 11 = .ok (.invokestatic 115, 3) := dk_184 0 115 (dk_at dksX1_node_0 11 rfl rfl)
theorem dX1_node_14 : decode cX1_node 14 = .ok (.aload_n 0, 1) := dk_42 (dk_at dksX1_node_0 14 rfl rfl)
theorem dX1_node_15 : decode cX1_node 15 = .ok (.iload_n 1, 1) := dk_27 (dk_at dksX1_node_0 15 rfl rfl)
theorem dX1_node_16 : decode cX1_node 16 = .ok (.iload_n 2, 1) := dk_28 (dk_at dksX1_node_0 16 rfl rfl)
theorem dX1_node_17 : decode cX1_node 17 = .ok (.invokevirtual 199, 3) := dk_182 0 199 (dk_at dksX1_node_0 17 rfl rfl)
theorem dX1_node_20 : decode cX1_node 20 = .ok (.ireturn, 1) := dk_172 (dk_at dksX1_node_0 20 rfl rfl)
abbrev cX1_stretch : ByteArray := prog_1_method_32_code
def yX1_stretch : MethodName := ⟨RX1, "stretch", "(II)I"⟩
def dkwX1_stretch_1 : List UInt8 := [182, 0, 203, 172]
abbrev dktX1_stretch_1 : List UInt8 := dkwX1_stretch_1 ++ []
def dkwX1_stretch_0 : List UInt8 := [42, 27, 182, 0, 176, 28, 3, 5, 184, 0, 87, 184, 0, 115, 42, 180, 0, 39, 180, 0, 144, 27, 50, 28]
abbrev dktX1_stretch_0 : List UInt8 := dkwX1_stretch_0 ++ dktX1_stretch_1
theorem dksX1_stretch_0 : cX1_stretch.data.toList.drop 0 = dktX1_stretch_0 := by decide +kernel
theorem dksX1_stretch_1 : cX1_stretch.data.toList.drop 24 = dktX1_stretch_1 := dk_seg dksX1_stretch_0 24 rfl rfl
theorem dX1_stretch_0 : decode cX1_stretch 0 = .ok (.aload_n 0, 1) := dk_42 (dk_at dksX1_stretch_0 0 rfl rfl)
theorem dX1_stretch_1 : decode cX1_stretch 1 = .ok (.iload_n 1, 1) := dk_27 (dk_at dksX1_stretch_0 1 rfl rfl)
theorem dX1_stretch_2 : decode cX1_stretch 2 = .ok (.invokevirtual 176, 3) := dk_182 0 176 (dk_at dksX1_stretch_0 2 rfl rfl)
theorem dX1_stretch_5 : decode cX1_stretch 5 = .ok (.iload_n 2, 1) := dk_28 (dk_at dksX1_stretch_0 5 rfl rfl)
theorem dX1_stretch_6 : decode cX1_stretch 6 = .ok (.iconst 0, 1) := dk_3 (dk_at dksX1_stretch_0 6 rfl rfl)
theorem dX1_stretch_7 : decode cX1_stretch 7 = .ok (.iconst 2, 1) := dk_5 (dk_at dksX1_stretch_0 7 rfl rfl)
theorem dX1_stretch_8 : decode cX1_stretch 8 = .ok (.invokestatic 87, 3) := dk_184 0 87 (dk_at dksX1_stretch_0 8 rfl rfl)
theorem dX1_stretch_11 : decode cX1_stretch 11 = .ok (.invokestatic 115, 3) := dk_184 0 115 (dk_at dksX1_stretch_0 11 rfl rfl)
theorem dX1_stretch_14 : decode cX1_stretch 14 = .ok (.aload_n 0, 1) := dk_42 (dk_at dksX1_stretch_0 14 rfl rfl)
theorem dX1_stretch_15 : decode cX1_stretch 15 = .ok (.getfield 39, 3) := dk_180 0 39 (dk_at dksX1_stretch_0 15 rfl rfl)
theorem dX1_stretch_18 : decode cX1_stretch 18 = .ok (.getfield 144, 3) := dk_180 0 144 (dk_at dksX1_stretch_0 18 rfl rfl)
theorem dX1_stretch_21 : decode cX1_stretch 21 = .ok (.iload_n 1, 1) := dk_27 (dk_at dksX1_stretch_0 21 rfl rfl)
theorem dX1_stretch_22 : decode cX1_stretch 22 = .ok (.aaload, 1) := dk_50 (dk_at dksX1_stretch_0 22 rfl rfl)
theorem dX1_stretch_23 : decode cX1_stretch 23 = .ok (.iload_n 2, 1) := dk_28 (dk_at dksX1_stretch_0 23 rfl rfl)
theorem dX1_stretch_24 : decode cX1_stretch 24 = .ok (.invokevirtual 203, 3) := dk_182 0 203 (dk_at dksX1_stretch_1 0 rfl rfl)
theorem dX1_stretch_27 : decode cX1_stretch 27 = .ok (.ireturn, 1) := dk_172 (dk_at dksX1_stretch_1 3 rfl rfl)
abbrev cX1_distance : ByteArray := prog_1_method_33_code
def yX1_distance : MethodName := ⟨RX1, "distance", "(II)I"⟩
def dkwX1_distance_1 : List UInt8 := [42, 180, 0, 48, 27, 28, 182, 0, 204, 167, 0, 4, 2, 172]
abbrev dktX1_distance_1 : List UInt8 := dkwX1_distance_1 ++ []
def dkwX1_distance_0 : List UInt8 := [42, 27, 182, 0, 121, 42, 28, 182, 0, 121, 42, 180, 0, 48, 27, 28, 182, 0, 204, 18, 207, 162, 0, 15]
abbrev dktX1_distance_0 : List UInt8 := dkwX1_distance_0 ++ dktX1_distance_1
theorem dksX1_distance_0 : cX1_distance.data.toList.drop 0 = dktX1_distance_0 := by decide +kernel
theorem dksX1_distance_1 : cX1_distance.data.toList.drop 24 = dktX1_distance_1 := dk_seg dksX1_distance_0 24 rfl rfl
theorem dX1_distance_0 : decode cX1_distance 0 = .ok (.aload_n 0, 1) := dk_42 (dk_at dksX1_distance_0 0 rfl rfl)
theorem dX1_distance_1 : decode cX1_distance 1 = .ok (.iload_n 1, 1) := dk_27 (dk_at dksX1_distance_0 1 rfl rfl)
theorem dX1_distance_2 : decode cX1_distance 2 = .ok (.invokevirtual 121, 3) := dk_182 0 121 (dk_at dksX1_distance_0 2 rfl rfl)
theorem dX1_distance_5 : decode cX1_distance 5 = .ok (.aload_n 0, 1) := dk_42 (dk_at dksX1_distance_0 5 rfl rfl)
theorem dX1_distance_6 : decode cX1_distance 6 = .ok (.iload_n 2, 1) := dk_28 (dk_at dksX1_distance_0 6 rfl rfl)
theorem dX1_distance_7 : decode cX1_distance 7 = .ok (.invokevirtual 121, 3) := dk_182 0 121 (dk_at dksX1_distance_0 7 rfl rfl)
theorem dX1_distance_10 : decode cX1_distance 10 = .ok (.aload_n 0, 1) := dk_42 (dk_at dksX1_distance_0 10 rfl rfl)
theorem dX1_distance_11 : decode cX1_distance 11 = .ok (.getfield 48, 3) := dk_180 0 48 (dk_at dksX1_distance_0 11 rfl rfl)
theorem dX1_distance_14 : decode cX1_distance 14 = .ok (.iload_n 1, 1) := dk_27 (dk_at dksX1_distance_0 14 rfl rfl)
theorem dX1_distance_15 : decode cX1_distance 15 = .ok (.iload_n 2, 1) := dk_28 (dk_at dksX1_distance_0 15 rfl rfl)
theorem dX1_distance_16 : decode cX1_distance 16 = .ok (.invokevirtual 204, 3) := dk_182 0 204 (dk_at dksX1_distance_0 16 rfl rfl)
theorem dX1_distance_19 : decode cX1_distance 19 = .ok (.ldc 207, 2) := dk_18 207 (dk_at dksX1_distance_0 19 rfl rfl)
theorem dX1_distance_21 : decode cX1_distance 21 = .ok (.if_icmp .ge 15, 3) := dk_162 0 15 (dk_at dksX1_distance_0 21 rfl rfl)
theorem dX1_distance_24 : decode cX1_distance 24 = .ok (.aload_n 0, 1) := dk_42 (dk_at dksX1_distance_1 0 rfl rfl)
theorem dX1_distance_25 : decode cX1_distance 25 = .ok (.getfield 48, 3) := dk_180 0 48 (dk_at dksX1_distance_1 1 rfl rfl)
theorem dX1_distance_28 : decode cX1_distance 28 = .ok (.iload_n 1, 1) := dk_27 (dk_at dksX1_distance_1 4 rfl rfl)
theorem dX1_distance_29 : decode cX1_distance 29 = .ok (.iload_n 2, 1) := dk_28 (dk_at dksX1_distance_1 5 rfl rfl)
theorem dX1_distance_30 : decode cX1_distance 30 = .ok (.invokevirtual 204, 3) := dk_182 0 204 (dk_at dksX1_distance_1 6 rfl rfl)
theorem dX1_distance_33 : decode cX1_distance 33 = .ok (.goto 4, 3) := dk_167 0 4 (dk_at dksX1_distance_1 9 rfl rfl)
theorem dX1_distance_36 : decode cX1_distance 36 = .ok (.iconst (-1), 1) := dk_2 (dk_at dksX1_distance_1 12 rfl rfl)
theorem dX1_distance_37 : decode cX1_distance 37 = .ok (.ireturn, 1) := dk_172 (dk_at dksX1_distance_1 13 rfl rfl)
abbrev cX1_next : ByteArray := prog_1_method_34_code
def yX1_next : MethodName := ⟨RX1, "next", "(II)I"⟩
def dkwX1_next_7 : List UInt8 := [29, 172]
abbrev dktX1_next_7 : List UInt8 := dkwX1_next_7 ++ []
def dkwX1_next_6 : List UInt8 := [29, 2, 159, 0, 9, 21, 6, 29, 162, 0, 8, 21, 6, 167, 0, 4, 29, 62, 132, 4, 1, 167, 255, 108]
abbrev dktX1_next_6 : List UInt8 := dkwX1_next_6 ++ dktX1_next_7
def dkwX1_next_5 : List UInt8 := [42, 180, 0, 48, 27, 28, 182, 0, 204, 160, 0, 7, 4, 167, 0, 4, 3, 54, 7, 21, 7, 153, 0, 19]
abbrev dktX1_next_5 : List UInt8 := dkwX1_next_5 ++ dktX1_next_6
def dkwX1_next_4 : List UInt8 := [54, 6, 21, 6, 2, 159, 0, 35, 25, 5, 180, 0, 91, 42, 180, 0, 48, 21, 6, 28, 182, 0, 204, 96]
abbrev dktX1_next_4 : List UInt8 := dkwX1_next_4 ++ dktX1_next_5
def dkwX1_next_3 : List UInt8 := [180, 0, 211, 167, 0, 21, 25, 5, 180, 0, 211, 27, 160, 0, 11, 25, 5, 180, 0, 208, 167, 0, 4, 2]
abbrev dktX1_next_3 : List UInt8 := dkwX1_next_3 ++ dktX1_next_4
def dkwX1_next_2 : List UInt8 := [180, 0, 39, 180, 0, 83, 21, 4, 50, 58, 5, 25, 5, 180, 0, 208, 27, 160, 0, 11, 25, 5]
abbrev dktX1_next_2 : List UInt8 := dkwX1_next_2 ++ dktX1_next_3
def dkwX1_next_1 : List UInt8 := [190, 162, 0, 141, 27, 28, 159, 0, 136, 42, 180, 0, 48, 27, 28, 182, 0, 204, 18, 207, 162, 0, 122, 42]
abbrev dktX1_next_1 : List UInt8 := dkwX1_next_1 ++ dktX1_next_2
def dkwX1_next_0 : List UInt8 := [42, 27, 182, 0, 121, 42, 28, 182, 0, 121, 2, 62, 3, 54, 4, 21, 4, 42, 180, 0, 39, 180, 0, 83]
abbrev dktX1_next_0 : List UInt8 := dkwX1_next_0 ++ dktX1_next_1
theorem dksX1_next_0 : cX1_next.data.toList.drop 0 = dktX1_next_0 := by decide +kernel
theorem dksX1_next_1 : cX1_next.data.toList.drop 24 = dktX1_next_1 := dk_seg dksX1_next_0 24 rfl rfl
theorem dksX1_next_2 : cX1_next.data.toList.drop 48 = dktX1_next_2 := dk_seg dksX1_next_1 24 rfl rfl
theorem dksX1_next_3 : cX1_next.data.toList.drop 70 = dktX1_next_3 := dk_seg dksX1_next_2 22 rfl rfl
theorem dksX1_next_4 : cX1_next.data.toList.drop 94 = dktX1_next_4 := dk_seg dksX1_next_3 24 rfl rfl
theorem dksX1_next_5 : cX1_next.data.toList.drop 118 = dktX1_next_5 := dk_seg dksX1_next_4 24 rfl rfl
theorem dksX1_next_6 : cX1_next.data.toList.drop 142 = dktX1_next_6 := dk_seg dksX1_next_5 24 rfl rfl
theorem dksX1_next_7 : cX1_next.data.toList.drop 166 = dktX1_next_7 := dk_seg dksX1_next_6 24 rfl rfl
theorem dX1_next_0 : decode cX1_next 0 = .ok (.aload_n 0, 1) := dk_42 (dk_at dksX1_next_0 0 rfl rfl)
theorem dX1_next_1 : decode cX1_next 1 = .ok (.iload_n 1, 1) := dk_27 (dk_at dksX1_next_0 1 rfl rfl)
theorem dX1_next_2 : decode cX1_next 2 = .ok (.invokevirtual 121, 3) := dk_182 0 121 (dk_at dksX1_next_0 2 rfl rfl)
theorem dX1_next_5 : decode cX1_next 5 = .ok (.aload_n 0, 1) := dk_42 (dk_at dksX1_next_0 5 rfl rfl)
theorem dX1_next_6 : decode cX1_next 6 = .ok (.iload_n 2, 1) := dk_28 (dk_at dksX1_next_0 6 rfl rfl)
theorem dX1_next_7 : decode cX1_next 7 = .ok (.invokevirtual 121, 3) := dk_182 0 121 (dk_at dksX1_next_0 7 rfl rfl)
theorem dX1_next_10 : decode cX1_next 10 = .ok (.iconst (-1), 1) := dk_2 (dk_at dksX1_next_0 10 rfl rfl)
theorem dX1_next_11 : decode cX1_next 11 = .ok (.istore_n 3, 1) := dk_62 (dk_at dksX1_next_0 11 rfl rfl)
theorem dX1_next_12 : decode cX1_next 12 = .ok (.iconst 0, 1) := dk_3 (dk_at dksX1_next_0 12 rfl rfl)
theorem dX1_next_13 : decode cX1_next 13 = .ok (.istore 4, 2) := dk_54 4 (dk_at dksX1_next_0 13 rfl rfl)
theorem dX1_next_15 : decode cX1_next 15 = .ok (.iload 4, 2) := dk_21 4 (dk_at dksX1_next_0 15 rfl rfl)
theorem dX1_next_17 : decode cX1_next 17 = .ok (.aload_n 0, 1) := dk_42 (dk_at dksX1_next_0 17 rfl rfl)
theorem dX1_next_18 : decode cX1_next 18 = .ok (.getfield 39, 3) := dk_180 0 39 (dk_at dksX1_next_0 18 rfl rfl)
theorem dX1_next_21 : decode cX1_next 21 = .ok (.getfield 83, 3) := dk_180 0 83 (dk_at dksX1_next_0 21 rfl rfl)
theorem dX1_next_24 : decode cX1_next 24 = .ok (.arraylength, 1) := dk_190 (dk_at dksX1_next_1 0 rfl rfl)
theorem dX1_next_25 : decode cX1_next 25 = .ok (.if_icmp .ge 141, 3) := dk_162 0 141 (dk_at dksX1_next_1 1 rfl rfl)
theorem dX1_next_28 : decode cX1_next 28 = .ok (.iload_n 1, 1) := dk_27 (dk_at dksX1_next_1 4 rfl rfl)
theorem dX1_next_29 : decode cX1_next 29 = .ok (.iload_n 2, 1) := dk_28 (dk_at dksX1_next_1 5 rfl rfl)
theorem dX1_next_30 : decode cX1_next 30 = .ok (.if_icmp .eq 136, 3) := dk_159 0 136 (dk_at dksX1_next_1 6 rfl rfl)
theorem dX1_next_33 : decode cX1_next 33 = .ok (.aload_n 0, 1) := dk_42 (dk_at dksX1_next_1 9 rfl rfl)
theorem dX1_next_34 : decode cX1_next 34 = .ok (.getfield 48, 3) := dk_180 0 48 (dk_at dksX1_next_1 10 rfl rfl)
theorem dX1_next_37 : decode cX1_next 37 = .ok (.iload_n 1, 1) := dk_27 (dk_at dksX1_next_1 13 rfl rfl)
theorem dX1_next_38 : decode cX1_next 38 = .ok (.iload_n 2, 1) := dk_28 (dk_at dksX1_next_1 14 rfl rfl)
theorem dX1_next_39 : decode cX1_next 39 = .ok (.invokevirtual 204, 3) := dk_182 0 204 (dk_at dksX1_next_1 15 rfl rfl)
theorem dX1_next_42 : decode cX1_next 42 = .ok (.ldc 207, 2) := dk_18 207 (dk_at dksX1_next_1 18 rfl rfl)
theorem dX1_next_44 : decode cX1_next 44 = .ok (.if_icmp .ge 122, 3) := dk_162 0 122 (dk_at dksX1_next_1 20 rfl rfl)
theorem dX1_next_47 : decode cX1_next 47 = .ok (.aload_n 0, 1) := dk_42 (dk_at dksX1_next_1 23 rfl rfl)
theorem dX1_next_48 : decode cX1_next 48 = .ok (.getfield 39, 3) := dk_180 0 39 (dk_at dksX1_next_2 0 rfl rfl)
theorem dX1_next_51 : decode cX1_next 51 = .ok (.getfield 83, 3) := dk_180 0 83 (dk_at dksX1_next_2 3 rfl rfl)
theorem dX1_next_54 : decode cX1_next 54 = .ok (.iload 4, 2) := dk_21 4 (dk_at dksX1_next_2 6 rfl rfl)
theorem dX1_next_56 : decode cX1_next 56 = .ok (.aaload, 1) := dk_50 (dk_at dksX1_next_2 8 rfl rfl)
theorem dX1_next_57 : decode cX1_next 57 = .ok (.astore 5, 2) := dk_58 5 (dk_at dksX1_next_2 9 rfl rfl)
theorem dX1_next_59 : decode cX1_next 59 = .ok (.aload 5, 2) := dk_25 5 (dk_at dksX1_next_2 11 rfl rfl)
theorem dX1_next_61 : decode cX1_next 61 = .ok (.getfield 208, 3) := dk_180 0 208 (dk_at dksX1_next_2 13 rfl rfl)
theorem dX1_next_64 : decode cX1_next 64 = .ok (.iload_n 1, 1) := dk_27 (dk_at dksX1_next_2 16 rfl rfl)
theorem dX1_next_65 : decode cX1_next 65 = .ok (.if_icmp .ne 11, 3) := dk_160 0 11 (dk_at dksX1_next_2 17 rfl rfl)
theorem dX1_next_68 : decode cX1_next 68 = .ok (.aload 5, 2) := dk_25 5 (dk_at dksX1_next_2 20 rfl rfl)
theorem dX1_next_70 : decode cX1_next 70 = .ok (.getfield 211, 3) := dk_180 0 211 (dk_at dksX1_next_3 0 rfl rfl)
theorem dX1_next_73 : decode cX1_next 73 = .ok (.goto 21, 3) := dk_167 0 21 (dk_at dksX1_next_3 3 rfl rfl)
theorem dX1_next_76 : decode cX1_next 76 = .ok (.aload 5, 2) := dk_25 5 (dk_at dksX1_next_3 6 rfl rfl)
theorem dX1_next_78 : decode cX1_next 78 = .ok (.getfield 211, 3) := dk_180 0 211 (dk_at dksX1_next_3 8 rfl rfl)
theorem dX1_next_81 : decode cX1_next 81 = .ok (.iload_n 1, 1) := dk_27 (dk_at dksX1_next_3 11 rfl rfl)
theorem dX1_next_82 : decode cX1_next 82 = .ok (.if_icmp .ne 11, 3) := dk_160 0 11 (dk_at dksX1_next_3 12 rfl rfl)
theorem dX1_next_85 : decode cX1_next 85 = .ok (.aload 5, 2) := dk_25 5 (dk_at dksX1_next_3 15 rfl rfl)
theorem dX1_next_87 : decode cX1_next 87 = .ok (.getfield 208, 3) := dk_180 0 208 (dk_at dksX1_next_3 17 rfl rfl)
theorem dX1_next_90 : decode cX1_next 90 = .ok (.goto 4, 3) := dk_167 0 4 (dk_at dksX1_next_3 20 rfl rfl)
theorem dX1_next_93 : decode cX1_next 93 = .ok (.iconst (-1), 1) := dk_2 (dk_at dksX1_next_3 23 rfl rfl)
theorem dX1_next_94 : decode cX1_next 94 = .ok (.istore 6, 2) := dk_54 6 (dk_at dksX1_next_4 0 rfl rfl)
theorem dX1_next_96 : decode cX1_next 96 = .ok (.iload 6, 2) := dk_21 6 (dk_at dksX1_next_4 2 rfl rfl)
theorem dX1_next_98 : decode cX1_next 98 = .ok (.iconst (-1), 1) := dk_2 (dk_at dksX1_next_4 4 rfl rfl)
theorem dX1_next_99 : decode cX1_next 99 = .ok (.if_icmp .eq 35, 3) := dk_159 0 35 (dk_at dksX1_next_4 5 rfl rfl)
theorem dX1_next_102 : decode cX1_next 102 = .ok (.aload 5, 2) := dk_25 5 (dk_at dksX1_next_4 8 rfl rfl)
theorem dX1_next_104 : decode cX1_next 104 = .ok (.getfield 91, 3) := dk_180 0 91 (dk_at dksX1_next_4 10 rfl rfl)
theorem dX1_next_107 : decode cX1_next 107 = .ok (.aload_n 0, 1) := dk_42 (dk_at dksX1_next_4 13 rfl rfl)
theorem dX1_next_108 : decode cX1_next 108 = .ok (.getfield 48, 3) := dk_180 0 48 (dk_at dksX1_next_4 14 rfl rfl)
theorem dX1_next_111 : decode cX1_next 111 = .ok (.iload 6, 2) := dk_21 6 (dk_at dksX1_next_4 17 rfl rfl)
theorem dX1_next_113 : decode cX1_next 113 = .ok (.iload_n 2, 1) := dk_28 (dk_at dksX1_next_4 19 rfl rfl)
theorem dX1_next_114 : decode cX1_next 114 = .ok (.invokevirtual 204, 3) := dk_182 0 204 (dk_at dksX1_next_4 20 rfl rfl)
theorem dX1_next_117 : decode cX1_next 117 = .ok (.iadd, 1) := dk_96 (dk_at dksX1_next_4 23 rfl rfl)
theorem dX1_next_118 : decode cX1_next 118 = .ok (.aload_n 0, 1) := dk_42 (dk_at dksX1_next_5 0 rfl rfl)
theorem dX1_next_119 : decode cX1_next 119 = .ok (.getfield 48, 3) := dk_180 0 48 (dk_at dksX1_next_5 1 rfl rfl)
theorem dX1_next_122 : decode cX1_next 122 = .ok (.iload_n 1, 1) := dk_27 (dk_at dksX1_next_5 4 rfl rfl)
theorem dX1_next_123 : decode cX1_next 123 = .ok (.iload_n 2, 1) := dk_28 (dk_at dksX1_next_5 5 rfl rfl)
theorem dX1_next_124 : decode cX1_next 124 = .ok (.invokevirtual 204, 3) := dk_182 0 204 (dk_at dksX1_next_5 6 rfl rfl)
theorem dX1_next_127 : decode cX1_next 127 = .ok (.if_icmp .ne 7, 3) := dk_160 0 7 (dk_at dksX1_next_5 9 rfl rfl)
theorem dX1_next_130 : decode cX1_next 130 = .ok (.iconst 1, 1) := dk_4 (dk_at dksX1_next_5 12 rfl rfl)
theorem dX1_next_131 : decode cX1_next 131 = .ok (.goto 4, 3) := dk_167 0 4 (dk_at dksX1_next_5 13 rfl rfl)
theorem dX1_next_134 : decode cX1_next 134 = .ok (.iconst 0, 1) := dk_3 (dk_at dksX1_next_5 16 rfl rfl)
theorem dX1_next_135 : decode cX1_next 135 = .ok (.istore 7, 2) := dk_54 7 (dk_at dksX1_next_5 17 rfl rfl)
theorem dX1_next_137 : decode cX1_next 137 = .ok (.iload 7, 2) := dk_21 7 (dk_at dksX1_next_5 19 rfl rfl)
theorem dX1_next_139 : decode cX1_next 139 = .ok (.ifCond .eq 19, 3) := dk_153 0 19 (dk_at dksX1_next_5 21 rfl rfl)
theorem dX1_next_142 : decode cX1_next 142 = .ok (.iload_n 3, 1) := dk_29 (dk_at dksX1_next_6 0 rfl rfl)
theorem dX1_next_143 : decode cX1_next 143 = .ok (.iconst (-1), 1) := dk_2 (dk_at dksX1_next_6 1 rfl rfl)
theorem dX1_next_144 : decode cX1_next 144 = .ok (.if_icmp .eq 9, 3) := dk_159 0 9 (dk_at dksX1_next_6 2 rfl rfl)
theorem dX1_next_147 : decode cX1_next 147 = .ok (.iload 6, 2) := dk_21 6 (dk_at dksX1_next_6 5 rfl rfl)
theorem dX1_next_149 : decode cX1_next 149 = .ok (.iload_n 3, 1) := dk_29 (dk_at dksX1_next_6 7 rfl rfl)
theorem dX1_next_150 : decode cX1_next 150 = .ok (.if_icmp .ge 8, 3) := dk_162 0 8 (dk_at dksX1_next_6 8 rfl rfl)
theorem dX1_next_153 : decode cX1_next 153 = .ok (.iload 6, 2) := dk_21 6 (dk_at dksX1_next_6 11 rfl rfl)
theorem dX1_next_155 : decode cX1_next 155 = .ok (.goto 4, 3) := dk_167 0 4 (dk_at dksX1_next_6 13 rfl rfl)
theorem dX1_next_158 : decode cX1_next 158 = .ok (.iload_n 3, 1) := dk_29 (dk_at dksX1_next_6 16 rfl rfl)
theorem dX1_next_159 : decode cX1_next 159 = .ok (.istore_n 3, 1) := dk_62 (dk_at dksX1_next_6 17 rfl rfl)
theorem dX1_next_160 : decode cX1_next 160 = .ok (.iinc 4 1, 3) := dk_132 4 1 (dk_at dksX1_next_6 18 rfl rfl)
theorem dX1_next_163 : decode cX1_next 163 = .ok (.goto (-148), 3) := dk_167 255 108 (dk_at dksX1_next_6 21 rfl rfl)
theorem dX1_next_166 : decode cX1_next 166 = .ok (.iload_n 3, 1) := dk_29 (dk_at dksX1_next_7 0 rfl rfl)
theorem dX1_next_167 : decode cX1_next 167 = .ok (.ireturn, 1) := dk_172 (dk_at dksX1_next_7 1 rfl rfl)
abbrev cX1_distanceTo : ByteArray := prog_1_method_36_code
def yX1_distanceTo : MethodName := ⟨RX1, "distanceTo", "(IIIII)I"⟩
def dkwX1_distanceTo_3 : List UInt8 := [42, 180, 0, 48, 27, 28, 29, 133, 21, 4, 133, 182, 0, 226, 21, 4, 133, 21, 5, 184, 0, 230, 172]
abbrev dktX1_distanceTo_3 : List UInt8 := dkwX1_distanceTo_3 ++ []
def dkwX1_distanceTo_2 : List UInt8 := [180, 0, 83, 28, 50, 180, 0, 208, 182, 0, 204, 18, 207, 162, 0, 7, 4, 167, 0, 4, 3, 184, 0, 131]
abbrev dktX1_distanceTo_2 : List UInt8 := dkwX1_distanceTo_2 ++ dktX1_distanceTo_3
def dkwX1_distanceTo_1 : List UInt8 := [184, 0, 223, 153, 0, 7, 4, 167, 0, 4, 3, 184, 0, 115, 42, 180, 0, 48, 27, 42, 180, 0, 39]
abbrev dktX1_distanceTo_1 : List UInt8 := dkwX1_distanceTo_1 ++ dktX1_distanceTo_2
def dkwX1_distanceTo_0 : List UInt8 := [42, 27, 182, 0, 121, 42, 28, 182, 0, 141, 42, 28, 29, 21, 4, 182, 0, 220, 153, 0, 15, 21, 5]
abbrev dktX1_distanceTo_0 : List UInt8 := dkwX1_distanceTo_0 ++ dktX1_distanceTo_1
theorem dksX1_distanceTo_0 : cX1_distanceTo.data.toList.drop 0 = dktX1_distanceTo_0 := by decide +kernel
theorem dksX1_distanceTo_1 : cX1_distanceTo.data.toList.drop 23 = dktX1_distanceTo_1 := dk_seg dksX1_distanceTo_0 23 rfl rfl
theorem dksX1_distanceTo_2 : cX1_distanceTo.data.toList.drop 46 = dktX1_distanceTo_2 := dk_seg dksX1_distanceTo_1 23 rfl rfl
theorem dksX1_distanceTo_3 : cX1_distanceTo.data.toList.drop 70 = dktX1_distanceTo_3 := dk_seg dksX1_distanceTo_2 24 rfl rfl
theorem dX1_distanceTo_0 : decode cX1_distanceTo 0 = .ok (.aload_n 0, 1) := dk_42 (dk_at dksX1_distanceTo_0 0 rfl rfl)
theorem dX1_distanceTo_1 : decode cX1_distanceTo 1 = .ok (.iload_n 1, 1) := dk_27 (dk_at dksX1_distanceTo_0 1 rfl rfl)
theorem dX1_distanceTo_2 : decode cX1_distanceTo 2 = .ok (.invokevirtual 121, 3) := dk_182 0 121 (dk_at dksX1_distanceTo_0 2 rfl rfl)
theorem dX1_distanceTo_5 : decode cX1_distanceTo 5 = .ok (.aload_n 0, 1) := dk_42 (dk_at dksX1_distanceTo_0 5 rfl rfl)
theorem dX1_distanceTo_6 : decode cX1_distanceTo 6 = .ok (.iload_n 2, 1) := dk_28 (dk_at dksX1_distanceTo_0 6 rfl rfl)
theorem dX1_distanceTo_7 : decode cX1_distanceTo 7 = .ok (.invokevirtual 141, 3) := dk_182 0 141 (dk_at dksX1_distanceTo_0 7 rfl rfl)
theorem dX1_distanceTo_10 : decode cX1_distanceTo 10 = .ok (.aload_n 0, 1) := dk_42 (dk_at dksX1_distanceTo_0 10 rfl rfl)
theorem dX1_distanceTo_11 : decode cX1_distanceTo 11 = .ok (.iload_n 2, 1) := dk_28 (dk_at dksX1_distanceTo_0 11 rfl rfl)
theorem dX1_distanceTo_12 : decode cX1_distanceTo 12 = .ok (.iload_n 3, 1) := dk_29 (dk_at dksX1_distanceTo_0 12 rfl rfl)
theorem dX1_distanceTo_13 : decode cX1_distanceTo 13 = .ok (.iload 4, 2) := dk_21 4 (dk_at dksX1_distanceTo_0 13 rfl rfl)
theorem dX1_distanceTo_15 : decode cX1_distanceTo 15 = .ok (.invokevirtual 220, 3) := dk_182 0 220 (dk_at dksX1_distanceTo_0 15 rfl rfl)
theorem dX1_distanceTo_18 : decode cX1_distanceTo 18 = .ok (.ifCond .eq 15, 3) := dk_153 0 15 (dk_at dksX1_distanceTo_0 18 rfl rfl)
theorem dX1_distanceTo_21 : decode cX1_distanceTo 21 = .ok (.iload 5, 2) := dk_21 5 (dk_at dksX1_distanceTo_0 21 rfl rfl)
theorem dX1_distanceTo_23 : decode cX1_distanceTo 23 = .ok (.invokestatic 223, 3) := dk_184 0 223 (dk_at dksX1_distanceTo_1 0 rfl rfl)
theorem dX1_distanceTo_26 : decode cX1_distanceTo 26 = .ok (.ifCond .eq 7, 3) := dk_153 0 7 (dk_at dksX1_distanceTo_1 3 rfl rfl)
theorem dX1_distanceTo_29 : decode cX1_distanceTo 29 = .ok (.iconst 1, 1) := dk_4 (dk_at dksX1_distanceTo_1 6 rfl rfl)
theorem dX1_distanceTo_30 : decode cX1_distanceTo 30 = .ok (.goto 4, 3) := dk_167 0 4 (dk_at dksX1_distanceTo_1 7 rfl rfl)
theorem dX1_distanceTo_33 : decode cX1_distanceTo 33 = .ok (.iconst 0, 1) := dk_3 (dk_at dksX1_distanceTo_1 10 rfl rfl)
theorem dX1_distanceTo_34 : decode cX1_distanceTo 34 = .ok (.invokestatic 115, 3) := dk_184 0 115 (dk_at dksX1_distanceTo_1 11 rfl rfl)
theorem dX1_distanceTo_37 : decode cX1_distanceTo 37 = .ok (.aload_n 0, 1) := dk_42 (dk_at dksX1_distanceTo_1 14 rfl rfl)
theorem dX1_distanceTo_38 : decode cX1_distanceTo 38 = .ok (.getfield 48, 3) := dk_180 0 48 (dk_at dksX1_distanceTo_1 15 rfl rfl)
theorem dX1_distanceTo_41 : decode cX1_distanceTo 41 = .ok (.iload_n 1, 1) := dk_27 (dk_at dksX1_distanceTo_1 18 rfl rfl)
theorem dX1_distanceTo_42 : decode cX1_distanceTo 42 = .ok (.aload_n 0, 1) := dk_42 (dk_at dksX1_distanceTo_1 19 rfl rfl)
theorem dX1_distanceTo_43 : decode cX1_distanceTo 43 = .ok (.getfield 39, 3) := dk_180 0 39 (dk_at dksX1_distanceTo_1 20 rfl rfl)
theorem dX1_distanceTo_46 : decode cX1_distanceTo 46 = .ok (.getfield 83, 3) := dk_180 0 83 (dk_at dksX1_distanceTo_2 0 rfl rfl)
theorem dX1_distanceTo_49 : decode cX1_distanceTo 49 = .ok (.iload_n 2, 1) := dk_28 (dk_at dksX1_distanceTo_2 3 rfl rfl)
theorem dX1_distanceTo_50 : decode cX1_distanceTo 50 = .ok (.aaload, 1) := dk_50 (dk_at dksX1_distanceTo_2 4 rfl rfl)
theorem dX1_distanceTo_51 : decode cX1_distanceTo 51 = .ok (.getfield 208, 3) := dk_180 0 208 (dk_at dksX1_distanceTo_2 5 rfl rfl)
theorem dX1_distanceTo_54 : decode cX1_distanceTo 54 = .ok (.invokevirtual 204, 3) := dk_182 0 204 (dk_at dksX1_distanceTo_2 8 rfl rfl)
theorem dX1_distanceTo_57 : decode cX1_distanceTo 57 = .ok (.ldc 207, 2) := dk_18 207 (dk_at dksX1_distanceTo_2 11 rfl rfl)
theorem dX1_distanceTo_59 : decode cX1_distanceTo 59 = .ok (.if_icmp .ge 7, 3) := dk_162 0 7 (dk_at dksX1_distanceTo_2 13 rfl rfl)
theorem dX1_distanceTo_62 : decode cX1_distanceTo 62 = .ok (.iconst 1, 1) := dk_4 (dk_at dksX1_distanceTo_2 16 rfl rfl)
theorem dX1_distanceTo_63 : decode cX1_distanceTo 63 = .ok (.goto 4, 3) := dk_167 0 4 (dk_at dksX1_distanceTo_2 17 rfl rfl)
theorem dX1_distanceTo_66 : decode cX1_distanceTo 66 = .ok (.iconst 0, 1) := dk_3 (dk_at dksX1_distanceTo_2 20 rfl rfl)
theorem dX1_distanceTo_67 : decode cX1_distanceTo 67 = .ok (.invokestatic 131, 3) := dk_184 0 131 (dk_at dksX1_distanceTo_2 21 rfl rfl)
theorem dX1_distanceTo_70 : decode cX1_distanceTo 70 = .ok (.aload_n 0, 1) := dk_42 (dk_at dksX1_distanceTo_3 0 rfl rfl)
theorem dX1_distanceTo_71 : decode cX1_distanceTo 71 = .ok (.getfield 48, 3) := dk_180 0 48 (dk_at dksX1_distanceTo_3 1 rfl rfl)
theorem dX1_distanceTo_74 : decode cX1_distanceTo 74 = .ok (.iload_n 1, 1) := dk_27 (dk_at dksX1_distanceTo_3 4 rfl rfl)
theorem dX1_distanceTo_75 : decode cX1_distanceTo 75 = .ok (.iload_n 2, 1) := dk_28 (dk_at dksX1_distanceTo_3 5 rfl rfl)
theorem dX1_distanceTo_76 : decode cX1_distanceTo 76 = .ok (.iload_n 3, 1) := dk_29 (dk_at dksX1_distanceTo_3 6 rfl rfl)
theorem dX1_distanceTo_77 : decode cX1_distanceTo 77 = .ok (.i2l, 1) := dk_133 (dk_at dksX1_distanceTo_3 7 rfl rfl)
theorem dX1_distanceTo_78 : decode cX1_distanceTo 78 = .ok (.iload 4, 2) := dk_21 4 (dk_at dksX1_distanceTo_3 8 rfl rfl)
theorem dX1_distanceTo_80 : decode cX1_distanceTo 80 = .ok (.i2l, 1) := dk_133 (dk_at dksX1_distanceTo_3 10 rfl rfl)
theorem dX1_distanceTo_81 : decode cX1_distanceTo 81 = .ok (.invokevirtual 226, 3) := dk_182 0 226 (dk_at dksX1_distanceTo_3 11 rfl rfl)
theorem dX1_distanceTo_84 : decode cX1_distanceTo 84 = .ok (.iload 4, 2) := dk_21 4 (dk_at dksX1_distanceTo_3 14 rfl rfl)
theorem dX1_distanceTo_86 : decode cX1_distanceTo 86 = .ok (.i2l, 1) := dk_133 (dk_at dksX1_distanceTo_3 16 rfl rfl)
theorem dX1_distanceTo_87 : decode cX1_distanceTo 87 = .ok (.iload 5, 2) := dk_21 5 (dk_at dksX1_distanceTo_3 17 rfl rfl)
theorem dX1_distanceTo_89 : decode cX1_distanceTo 89 = .ok (.invokestatic 230, 3) := dk_184 0 230 (dk_at dksX1_distanceTo_3 19 rfl rfl)
theorem dX1_distanceTo_92 : decode cX1_distanceTo 92 = .ok (.ireturn, 1) := dk_172 (dk_at dksX1_distanceTo_3 22 rfl rfl)
abbrev cX1_isPoint : ByteArray := prog_1_method_13_code
def yX1_isPoint : MethodName := ⟨RX1, "isPoint", "(III)Z"⟩
def dkwX1_isPoint_1 : List UInt8 := [27, 50, 180, 0, 91, 133, 29, 133, 105, 148, 157, 0, 7, 4, 167, 0, 4, 3, 172]
abbrev dktX1_isPoint_1 : List UInt8 := dkwX1_isPoint_1 ++ []
def dkwX1_isPoint_0 : List UInt8 := [29, 4, 17, 3, 232, 184, 0, 87, 153, 0, 33, 28, 155, 0, 29, 28, 133, 42, 180, 0, 39, 180, 0, 83]
abbrev dktX1_isPoint_0 : List UInt8 := dkwX1_isPoint_0 ++ dktX1_isPoint_1
theorem dksX1_isPoint_0 : cX1_isPoint.data.toList.drop 0 = dktX1_isPoint_0 := by decide +kernel
theorem dksX1_isPoint_1 : cX1_isPoint.data.toList.drop 24 = dktX1_isPoint_1 := dk_seg dksX1_isPoint_0 24 rfl rfl
theorem dX1_isPoint_0 : decode cX1_isPoint 0 = .ok (.iload_n 3, 1) := dk_29 (dk_at dksX1_isPoint_0 0 rfl rfl)
theorem dX1_isPoint_1 : decode cX1_isPoint 1 = .ok (.iconst 1, 1) := dk_4 (dk_at dksX1_isPoint_0 1 rfl rfl)
theorem dX1_isPoint_2 : decode cX1_isPoint 2 = .ok (.sipush 1000, 3) := dk_17 3 232 (dk_at dksX1_isPoint_0 2 rfl rfl)
theorem dX1_isPoint_5 : decode cX1_isPoint 5 = .ok (.invokestatic 87, 3) := dk_184 0 87 (dk_at dksX1_isPoint_0 5 rfl rfl)
theorem dX1_isPoint_8 : decode cX1_isPoint 8 = .ok (.ifCond .eq 33, 3) := dk_153 0 33 (dk_at dksX1_isPoint_0 8 rfl rfl)
theorem dX1_isPoint_11 : decode cX1_isPoint 11 = .ok (.iload_n 2, 1) := dk_28 (dk_at dksX1_isPoint_0 11 rfl rfl)
theorem dX1_isPoint_12 : decode cX1_isPoint 12 = .ok (.ifCond .lt 29, 3) := dk_155 0 29 (dk_at dksX1_isPoint_0 12 rfl rfl)
theorem dX1_isPoint_15 : decode cX1_isPoint 15 = .ok (.iload_n 2, 1) := dk_28 (dk_at dksX1_isPoint_0 15 rfl rfl)
theorem dX1_isPoint_16 : decode cX1_isPoint 16 = .ok (.i2l, 1) := dk_133 (dk_at dksX1_isPoint_0 16 rfl rfl)
theorem dX1_isPoint_17 : decode cX1_isPoint 17 = .ok (.aload_n 0, 1) := dk_42 (dk_at dksX1_isPoint_0 17 rfl rfl)
theorem dX1_isPoint_18 : decode cX1_isPoint 18 = .ok (.getfield 39, 3) := dk_180 0 39 (dk_at dksX1_isPoint_0 18 rfl rfl)
theorem dX1_isPoint_21 : decode cX1_isPoint 21 = .ok (.getfield 83, 3) := dk_180 0 83 (dk_at dksX1_isPoint_0 21 rfl rfl)
theorem dX1_isPoint_24 : decode cX1_isPoint 24 = .ok (.iload_n 1, 1) := dk_27 (dk_at dksX1_isPoint_1 0 rfl rfl)
theorem dX1_isPoint_25 : decode cX1_isPoint 25 = .ok (.aaload, 1) := dk_50 (dk_at dksX1_isPoint_1 1 rfl rfl)
theorem dX1_isPoint_26 : decode cX1_isPoint 26 = .ok (.getfield 91, 3) := dk_180 0 91 (dk_at dksX1_isPoint_1 2 rfl rfl)
theorem dX1_isPoint_29 : decode cX1_isPoint 29 = .ok (.i2l, 1) := dk_133 (dk_at dksX1_isPoint_1 5 rfl rfl)
theorem dX1_isPoint_30 : decode cX1_isPoint 30 = .ok (.iload_n 3, 1) := dk_29 (dk_at dksX1_isPoint_1 6 rfl rfl)
theorem dX1_isPoint_31 : decode cX1_isPoint 31 = .ok (.i2l, 1) := dk_133 (dk_at dksX1_isPoint_1 7 rfl rfl)
theorem dX1_isPoint_32 : decode cX1_isPoint 32 = .ok (.lmul, 1) := dk_105 (dk_at dksX1_isPoint_1 8 rfl rfl)
theorem dX1_isPoint_33 : decode cX1_isPoint 33 = .ok (.lcmp, 1) := dk_148 (dk_at dksX1_isPoint_1 9 rfl rfl)
theorem dX1_isPoint_34 : decode cX1_isPoint 34 = .ok (.ifCond .gt 7, 3) := dk_157 0 7 (dk_at dksX1_isPoint_1 10 rfl rfl)
theorem dX1_isPoint_37 : decode cX1_isPoint 37 = .ok (.iconst 1, 1) := dk_4 (dk_at dksX1_isPoint_1 13 rfl rfl)
theorem dX1_isPoint_38 : decode cX1_isPoint 38 = .ok (.goto 4, 3) := dk_167 0 4 (dk_at dksX1_isPoint_1 14 rfl rfl)
theorem dX1_isPoint_41 : decode cX1_isPoint 41 = .ok (.iconst 0, 1) := dk_3 (dk_at dksX1_isPoint_1 17 rfl rfl)
theorem dX1_isPoint_42 : decode cX1_isPoint 42 = .ok (.ireturn, 1) := dk_172 (dk_at dksX1_isPoint_1 18 rfl rfl)
abbrev cX1_isPart : ByteArray := prog_1_method_15_code
def yX1_isPart : MethodName := ⟨RX1, "isPart", "(I)Z"⟩
def dkwX1_isPart_0 : List UInt8 := [26, 3, 4, 184, 0, 87, 172]
abbrev dktX1_isPart_0 : List UInt8 := dkwX1_isPart_0 ++ []
theorem dksX1_isPart_0 : cX1_isPart.data.toList.drop 0 = dktX1_isPart_0 := by decide +kernel
theorem dX1_isPart_0 : decode cX1_isPart 0 = .ok (.iload_n 0, 1) := dk_26 (dk_at dksX1_isPart_0 0 rfl rfl)
theorem dX1_isPart_1 : decode cX1_isPart 1 = .ok (.iconst 0, 1) := dk_3 (dk_at dksX1_isPart_0 1 rfl rfl)
theorem dX1_isPart_2 : decode cX1_isPart 2 = .ok (.iconst 1, 1) := dk_4 (dk_at dksX1_isPart_0 2 rfl rfl)
theorem dX1_isPart_3 : decode cX1_isPart 3 = .ok (.invokestatic 87, 3) := dk_184 0 87 (dk_at dksX1_isPart_0 3 rfl rfl)
theorem dX1_isPart_6 : decode cX1_isPart 6 = .ok (.ireturn, 1) := dk_172 (dk_at dksX1_isPart_0 6 rfl rfl)
abbrev cX1_isAllowed : ByteArray := prog_1_method_37_code
def yX1_isAllowed : MethodName := ⟨RX1, "isAllowed", "(III)Z"⟩
def dkwX1_isAllowed_1 : List UInt8 := [182, 0, 234, 172]
abbrev dktX1_isAllowed_1 : List UInt8 := dkwX1_isAllowed_1 ++ []
def dkwX1_isAllowed_0 : List UInt8 := [42, 27, 182, 0, 141, 42, 27, 28, 29, 182, 0, 220, 184, 0, 115, 42, 180, 0, 39, 27, 28, 133, 29, 133]
abbrev dktX1_isAllowed_0 : List UInt8 := dkwX1_isAllowed_0 ++ dktX1_isAllowed_1
theorem dksX1_isAllowed_0 : cX1_isAllowed.data.toList.drop 0 = dktX1_isAllowed_0 := by decide +kernel
theorem dksX1_isAllowed_1 : cX1_isAllowed.data.toList.drop 24 = dktX1_isAllowed_1 := dk_seg dksX1_isAllowed_0 24 rfl rfl
theorem dX1_isAllowed_0 : decode cX1_isAllowed 0 = .ok (.aload_n 0, 1) := dk_42 (dk_at dksX1_isAllowed_0 0 rfl rfl)
theorem dX1_isAllowed_1 : decode cX1_isAllowed 1 = .ok (.iload_n 1, 1) := dk_27 (dk_at dksX1_isAllowed_0 1 rfl rfl)
theorem dX1_isAllowed_2 : decode cX1_isAllowed 2 = .ok (.invokevirtual 141, 3) := dk_182 0 141 (dk_at dksX1_isAllowed_0 2 rfl rfl)
theorem dX1_isAllowed_5 : decode cX1_isAllowed 5 = .ok (.aload_n 0, 1) := dk_42 (dk_at dksX1_isAllowed_0 5 rfl rfl)
theorem dX1_isAllowed_6 : decode cX1_isAllowed 6 = .ok (.iload_n 1, 1) := dk_27 (dk_at dksX1_isAllowed_0 6 rfl rfl)
theorem dX1_isAllowed_7 : decode cX1_isAllowed 7 = .ok (.iload_n 2, 1) := dk_28 (dk_at dksX1_isAllowed_0 7 rfl rfl)
theorem dX1_isAllowed_8 : decode cX1_isAllowed 8 = .ok (.iload_n 3, 1) := dk_29 (dk_at dksX1_isAllowed_0 8 rfl rfl)
theorem dX1_isAllowed_9 : decode cX1_isAllowed 9 = .ok (.invokevirtual 220, 3) := dk_182 0 220 (dk_at dksX1_isAllowed_0 9 rfl rfl)
theorem dX1_isAllowed_12 : decode cX1_isAllowed 12 = .ok (.invokestatic 115, 3) := dk_184 0 115 (dk_at dksX1_isAllowed_0 12 rfl rfl)
theorem dX1_isAllowed_15 : decode cX1_isAllowed 15 = .ok (.aload_n 0, 1) := dk_42 (dk_at dksX1_isAllowed_0 15 rfl rfl)
theorem dX1_isAllowed_16 : decode cX1_isAllowed 16 = .ok (.getfield 39, 3) := dk_180 0 39 (dk_at dksX1_isAllowed_0 16 rfl rfl)
theorem dX1_isAllowed_19 : decode cX1_isAllowed 19 = .ok (.iload_n 1, 1) := dk_27 (dk_at dksX1_isAllowed_0 19 rfl rfl)
theorem dX1_isAllowed_20 : decode cX1_isAllowed 20 = .ok (.iload_n 2, 1) := dk_28 (dk_at dksX1_isAllowed_0 20 rfl rfl)
theorem dX1_isAllowed_21 : decode cX1_isAllowed 21 = .ok (.i2l, 1) := dk_133 (dk_at dksX1_isAllowed_0 21 rfl rfl)
theorem dX1_isAllowed_22 : decode cX1_isAllowed 22 = .ok (.iload_n 3, 1) := dk_29 (dk_at dksX1_isAllowed_0 22 rfl rfl)
theorem dX1_isAllowed_23 : decode cX1_isAllowed 23 = .ok (.i2l, 1) := dk_133 (dk_at dksX1_isAllowed_0 23 rfl rfl)
theorem dX1_isAllowed_24 : decode cX1_isAllowed 24 = .ok (.invokevirtual 234, 3) := dk_182 0 234 (dk_at dksX1_isAllowed_1 0 rfl rfl)
theorem dX1_isAllowed_27 : decode cX1_isAllowed 27 = .ok (.ireturn, 1) := dk_172 (dk_at dksX1_isAllowed_1 3 rfl rfl)
abbrev cX1_height : ByteArray := prog_1_method_38_code
def yX1_height : MethodName := ⟨RX1, "height", "(IIIII)I"⟩
def dkwX1_height_3 : List UInt8 := [184, 0, 230, 172]
abbrev dktX1_height_3 : List UInt8 := dkwX1_height_3 ++ []
def dkwX1_height_2 : List UInt8 := [184, 0, 131, 42, 180, 0, 48, 27, 28, 29, 133, 21, 4, 133, 182, 0, 241, 21, 4, 133, 21, 5]
abbrev dktX1_height_2 : List UInt8 := dkwX1_height_2 ++ dktX1_height_3
def dkwX1_height_1 : List UInt8 := [21, 5, 184, 0, 223, 153, 0, 7, 4, 167, 0, 4, 3, 184, 0, 115, 42, 180, 0, 48, 182, 0, 185]
abbrev dktX1_height_1 : List UInt8 := dkwX1_height_1 ++ dktX1_height_2
def dkwX1_height_0 : List UInt8 := [42, 28, 182, 0, 141, 42, 27, 182, 0, 238, 153, 0, 26, 42, 28, 29, 21, 4, 182, 0, 220, 153, 0, 15]
abbrev dktX1_height_0 : List UInt8 := dkwX1_height_0 ++ dktX1_height_1
theorem dksX1_height_0 : cX1_height.data.toList.drop 0 = dktX1_height_0 := by decide +kernel
theorem dksX1_height_1 : cX1_height.data.toList.drop 24 = dktX1_height_1 := dk_seg dksX1_height_0 24 rfl rfl
theorem dksX1_height_2 : cX1_height.data.toList.drop 47 = dktX1_height_2 := dk_seg dksX1_height_1 23 rfl rfl
theorem dksX1_height_3 : cX1_height.data.toList.drop 69 = dktX1_height_3 := dk_seg dksX1_height_2 22 rfl rfl
theorem dX1_height_0 : decode cX1_height 0 = .ok (.aload_n 0, 1) := dk_42 (dk_at dksX1_height_0 0 rfl rfl)
theorem dX1_height_1 : decode cX1_height 1 = .ok (.iload_n 2, 1) := dk_28 (dk_at dksX1_height_0 1 rfl rfl)
theorem dX1_height_2 : decode cX1_height 2 = .ok (.invokevirtual 141, 3) := dk_182 0 141 (dk_at dksX1_height_0 2 rfl rfl)
theorem dX1_height_5 : decode cX1_height 5 = .ok (.aload_n 0, 1) := dk_42 (dk_at dksX1_height_0 5 rfl rfl)
theorem dX1_height_6 : decode cX1_height 6 = .ok (.iload_n 1, 1) := dk_27 (dk_at dksX1_height_0 6 rfl rfl)
theorem dX1_height_7 : decode cX1_height 7 = .ok (.invokevirtual 238, 3) := dk_182 0 238 (dk_at dksX1_height_0 7 rfl rfl)
theorem dX1_height_10 : decode cX1_height 10 = .ok (.ifCond .eq 26, 3) := dk_153 0 26 (dk_at dksX1_height_0 10 rfl rfl)
theorem dX1_height_13 : decode cX1_height 13 = .ok (.aload_n 0, 1) := dk_42 (dk_at dksX1_height_0 13 rfl rfl)
theorem dX1_height_14 : decode cX1_height 14 = .ok (.iload_n 2, 1) := dk_28 (dk_at dksX1_height_0 14 rfl rfl)
theorem dX1_height_15 : decode cX1_height 15 = .ok (.iload_n 3, 1) := dk_29 (dk_at dksX1_height_0 15 rfl rfl)
theorem dX1_height_16 : decode cX1_height 16 = .ok (.iload 4, 2) := dk_21 4 (dk_at dksX1_height_0 16 rfl rfl)
theorem dX1_height_18 : decode cX1_height 18 = .ok (.invokevirtual 220, 3) := dk_182 0 220 (dk_at dksX1_height_0 18 rfl rfl)
theorem dX1_height_21 : decode cX1_height 21 = .ok (.ifCond .eq 15, 3) := dk_153 0 15 (dk_at dksX1_height_0 21 rfl rfl)
theorem dX1_height_24 : decode cX1_height 24 = .ok (.iload 5, 2) := dk_21 5 (dk_at dksX1_height_1 0 rfl rfl)
theorem dX1_height_26 : decode cX1_height 26 = .ok (.invokestatic 223, 3) := dk_184 0 223 (dk_at dksX1_height_1 2 rfl rfl)
theorem dX1_height_29 : decode cX1_height 29 = .ok (.ifCond .eq 7, 3) := dk_153 0 7 (dk_at dksX1_height_1 5 rfl rfl)
theorem dX1_height_32 : decode cX1_height 32 = .ok (.iconst 1, 1) := dk_4 (dk_at dksX1_height_1 8 rfl rfl)
theorem dX1_height_33 : decode cX1_height 33 = .ok (.goto 4, 3) := dk_167 0 4 (dk_at dksX1_height_1 9 rfl rfl)
theorem dX1_height_36 : decode cX1_height 36 = .ok (.iconst 0, 1) := dk_3 (dk_at dksX1_height_1 12 rfl rfl)
theorem dX1_height_37 : decode cX1_height 37 = .ok (.invokestatic 115, 3) := dk_184 0 115 (dk_at dksX1_height_1 13 rfl rfl)
theorem dX1_height_40 : decode cX1_height 40 = .ok (.aload_n 0, 1) := dk_42 (dk_at dksX1_height_1 16 rfl rfl)
theorem dX1_height_41 : decode cX1_height 41 = .ok (.getfield 48, 3) := dk_180 0 48 (dk_at dksX1_height_1 17 rfl rfl)
theorem dX1_height_44 : decode cX1_height 44 = .ok (.invokevirtual 185, 3) := dk_182 0 185 (dk_at dksX1_height_1 20 rfl rfl)
theorem dX1_height_47 : decode cX1_height 47 = .ok (.invokestatic 131, 3) := dk_184 0 131 (dk_at dksX1_height_2 0 rfl rfl)
theorem dX1_height_50 : decode cX1_height 50 = .ok (.aload_n 0, 1) := dk_42 (dk_at dksX1_height_2 3 rfl rfl)
theorem dX1_height_51 : decode cX1_height 51 = .ok (.getfield 48, 3) := dk_180 0 48 (dk_at dksX1_height_2 4 rfl rfl)
theorem dX1_height_54 : decode cX1_height 54 = .ok (.iload_n 1, 1) := dk_27 (dk_at dksX1_height_2 7 rfl rfl)
theorem dX1_height_55 : decode cX1_height 55 = .ok (.iload_n 2, 1) := dk_28 (dk_at dksX1_height_2 8 rfl rfl)
theorem dX1_height_56 : decode cX1_height 56 = .ok (.iload_n 3, 1) := dk_29 (dk_at dksX1_height_2 9 rfl rfl)
theorem dX1_height_57 : decode cX1_height 57 = .ok (.i2l, 1) := dk_133 (dk_at dksX1_height_2 10 rfl rfl)
theorem dX1_height_58 : decode cX1_height 58 = .ok (.iload 4, 2) := dk_21 4 (dk_at dksX1_height_2 11 rfl rfl)
theorem dX1_height_60 : decode cX1_height 60 = .ok (.i2l, 1) := dk_133 (dk_at dksX1_height_2 13 rfl rfl)
theorem dX1_height_61 : decode cX1_height 61 = .ok (.invokevirtual 241, 3) := dk_182 0 241 (dk_at dksX1_height_2 14 rfl rfl)
theorem dX1_height_64 : decode cX1_height 64 = .ok (.iload 4, 2) := dk_21 4 (dk_at dksX1_height_2 17 rfl rfl)
theorem dX1_height_66 : decode cX1_height 66 = .ok (.i2l, 1) := dk_133 (dk_at dksX1_height_2 19 rfl rfl)
theorem dX1_height_67 : decode cX1_height 67 = .ok (.iload 5, 2) := dk_21 5 (dk_at dksX1_height_2 20 rfl rfl)
theorem dX1_height_69 : decode cX1_height 69 = .ok (.invokestatic 230, 3) := dk_184 0 230 (dk_at dksX1_height_3 0 rfl rfl)
theorem dX1_height_72 : decode cX1_height 72 = .ok (.ireturn, 1) := dk_172 (dk_at dksX1_height_3 3 rfl rfl)
abbrev cX1_isSet : ByteArray := prog_1_method_14_code
def yX1_isSet : MethodName := ⟨RX1, "isSet", "(I)Z"⟩
def dkwX1_isSet_0 : List UInt8 := [27, 3, 4, 42, 180, 0, 39, 182, 0, 96, 120, 4, 100, 184, 0, 87, 172]
abbrev dktX1_isSet_0 : List UInt8 := dkwX1_isSet_0 ++ []
theorem dksX1_isSet_0 : cX1_isSet.data.toList.drop 0 = dktX1_isSet_0 := by decide +kernel
theorem dX1_isSet_0 : decode cX1_isSet 0 = .ok (.iload_n 1, 1) := dk_27 (dk_at dksX1_isSet_0 0 rfl rfl)
theorem dX1_isSet_1 : decode cX1_isSet 1 = .ok (.iconst 0, 1) := dk_3 (dk_at dksX1_isSet_0 1 rfl rfl)
theorem dX1_isSet_2 : decode cX1_isSet 2 = .ok (.iconst 1, 1) := dk_4 (dk_at dksX1_isSet_0 2 rfl rfl)
theorem dX1_isSet_3 : decode cX1_isSet 3 = .ok (.aload_n 0, 1) := dk_42 (dk_at dksX1_isSet_0 3 rfl rfl)
theorem dX1_isSet_4 : decode cX1_isSet 4 = .ok (.getfield 39, 3) := dk_180 0 39 (dk_at dksX1_isSet_0 4 rfl rfl)
theorem dX1_isSet_7 : decode cX1_isSet 7 = .ok (.invokevirtual 96, 3) := dk_182 0 96 (dk_at dksX1_isSet_0 7 rfl rfl)
theorem dX1_isSet_10 : decode cX1_isSet 10 = .ok (.ishl, 1) := dk_120 (dk_at dksX1_isSet_0 10 rfl rfl)
theorem dX1_isSet_11 : decode cX1_isSet 11 = .ok (.iconst 1, 1) := dk_4 (dk_at dksX1_isSet_0 11 rfl rfl)
theorem dX1_isSet_12 : decode cX1_isSet 12 = .ok (.isub, 1) := dk_100 (dk_at dksX1_isSet_0 12 rfl rfl)
theorem dX1_isSet_13 : decode cX1_isSet 13 = .ok (.invokestatic 87, 3) := dk_184 0 87 (dk_at dksX1_isSet_0 13 rfl rfl)
theorem dX1_isSet_16 : decode cX1_isSet 16 = .ok (.ireturn, 1) := dk_172 (dk_at dksX1_isSet_0 16 rfl rfl)
abbrev cX1_cost : ByteArray := prog_1_method_39_code
def yX1_cost : MethodName := ⟨RX1, "cost", "(IIII)I"⟩
def dkwX1_cost_2 : List UInt8 := [29, 133, 182, 0, 244, 29, 133, 21, 4, 184, 0, 230, 172]
abbrev dktX1_cost_2 : List UInt8 := dkwX1_cost_2 ++ []
def dkwX1_cost_1 : List UInt8 := [167, 0, 4, 3, 184, 0, 115, 42, 180, 0, 48, 182, 0, 185, 184, 0, 131, 42, 180, 0, 48, 27, 28, 133]
abbrev dktX1_cost_1 : List UInt8 := dkwX1_cost_1 ++ dktX1_cost_2
def dkwX1_cost_0 : List UInt8 := [42, 27, 182, 0, 141, 42, 27, 28, 29, 182, 0, 220, 153, 0, 15, 21, 4, 184, 0, 223, 153, 0, 7, 4]
abbrev dktX1_cost_0 : List UInt8 := dkwX1_cost_0 ++ dktX1_cost_1
theorem dksX1_cost_0 : cX1_cost.data.toList.drop 0 = dktX1_cost_0 := by decide +kernel
theorem dksX1_cost_1 : cX1_cost.data.toList.drop 24 = dktX1_cost_1 := dk_seg dksX1_cost_0 24 rfl rfl
theorem dksX1_cost_2 : cX1_cost.data.toList.drop 48 = dktX1_cost_2 := dk_seg dksX1_cost_1 24 rfl rfl
theorem dX1_cost_0 : decode cX1_cost 0 = .ok (.aload_n 0, 1) := dk_42 (dk_at dksX1_cost_0 0 rfl rfl)
theorem dX1_cost_1 : decode cX1_cost 1 = .ok (.iload_n 1, 1) := dk_27 (dk_at dksX1_cost_0 1 rfl rfl)
theorem dX1_cost_2 : decode cX1_cost 2 = .ok (.invokevirtual 141, 3) := dk_182 0 141 (dk_at dksX1_cost_0 2 rfl rfl)
theorem dX1_cost_5 : decode cX1_cost 5 = .ok (.aload_n 0, 1) := dk_42 (dk_at dksX1_cost_0 5 rfl rfl)
theorem dX1_cost_6 : decode cX1_cost 6 = .ok (.iload_n 1, 1) := dk_27 (dk_at dksX1_cost_0 6 rfl rfl)
theorem dX1_cost_7 : decode cX1_cost 7 = .ok (.iload_n 2, 1) := dk_28 (dk_at dksX1_cost_0 7 rfl rfl)
theorem dX1_cost_8 : decode cX1_cost 8 = .ok (.iload_n 3, 1) := dk_29 (dk_at dksX1_cost_0 8 rfl rfl)
theorem dX1_cost_9 : decode cX1_cost 9 = .ok (.invokevirtual 220, 3) := dk_182 0 220 (dk_at dksX1_cost_0 9 rfl rfl)
theorem dX1_cost_12 : decode cX1_cost 12 = .ok (.ifCond .eq 15, 3) := dk_153 0 15 (dk_at dksX1_cost_0 12 rfl rfl)
theorem dX1_cost_15 : decode cX1_cost 15 = .ok (.iload 4, 2) := dk_21 4 (dk_at dksX1_cost_0 15 rfl rfl)
theorem dX1_cost_17 : decode cX1_cost 17 = .ok (.invokestatic 223, 3) := dk_184 0 223 (dk_at dksX1_cost_0 17 rfl rfl)
theorem dX1_cost_20 : decode cX1_cost 20 = .ok (.ifCond .eq 7, 3) := dk_153 0 7 (dk_at dksX1_cost_0 20 rfl rfl)
theorem dX1_cost_23 : decode cX1_cost 23 = .ok (.iconst 1, 1) := dk_4 (dk_at dksX1_cost_0 23 rfl rfl)
theorem dX1_cost_24 : decode cX1_cost 24 = .ok (.goto 4, 3) := dk_167 0 4 (dk_at dksX1_cost_1 0 rfl rfl)
theorem dX1_cost_27 : decode cX1_cost 27 = .ok (.iconst 0, 1) := dk_3 (dk_at dksX1_cost_1 3 rfl rfl)
theorem dX1_cost_28 : decode cX1_cost 28 = .ok (.invokestatic 115, 3) := dk_184 0 115 (dk_at dksX1_cost_1 4 rfl rfl)
theorem dX1_cost_31 : decode cX1_cost 31 = .ok (.aload_n 0, 1) := dk_42 (dk_at dksX1_cost_1 7 rfl rfl)
theorem dX1_cost_32 : decode cX1_cost 32 = .ok (.getfield 48, 3) := dk_180 0 48 (dk_at dksX1_cost_1 8 rfl rfl)
theorem dX1_cost_35 : decode cX1_cost 35 = .ok (.invokevirtual 185, 3) := dk_182 0 185 (dk_at dksX1_cost_1 11 rfl rfl)
theorem dX1_cost_38 : decode cX1_cost 38 = .ok (.invokestatic 131, 3) := dk_184 0 131 (dk_at dksX1_cost_1 14 rfl rfl)
theorem dX1_cost_41 : decode cX1_cost 41 = .ok (.aload_n 0, 1) := dk_42 (dk_at dksX1_cost_1 17 rfl rfl)
theorem dX1_cost_42 : decode cX1_cost 42 = .ok (.getfield 48, 3) := dk_180 0 48 (dk_at dksX1_cost_1 18 rfl rfl)
theorem dX1_cost_45 : decode cX1_cost 45 = .ok (.iload_n 1, 1) := dk_27 (dk_at dksX1_cost_1 21 rfl rfl)
theorem dX1_cost_46 : decode cX1_cost 46 = .ok (.iload_n 2, 1) := dk_28 (dk_at dksX1_cost_1 22 rfl rfl)
theorem dX1_cost_47 : decode cX1_cost 47 = .ok (.i2l, 1) := dk_133 (dk_at dksX1_cost_1 23 rfl rfl)
theorem dX1_cost_48 : decode cX1_cost 48 = .ok (.iload_n 3, 1) := dk_29 (dk_at dksX1_cost_2 0 rfl rfl)
theorem dX1_cost_49 : decode cX1_cost 49 = .ok (.i2l, 1) := dk_133 (dk_at dksX1_cost_2 1 rfl rfl)
theorem dX1_cost_50 : decode cX1_cost 50 = .ok (.invokevirtual 244, 3) := dk_182 0 244 (dk_at dksX1_cost_2 2 rfl rfl)
theorem dX1_cost_53 : decode cX1_cost 53 = .ok (.iload_n 3, 1) := dk_29 (dk_at dksX1_cost_2 5 rfl rfl)
theorem dX1_cost_54 : decode cX1_cost 54 = .ok (.i2l, 1) := dk_133 (dk_at dksX1_cost_2 6 rfl rfl)
theorem dX1_cost_55 : decode cX1_cost 55 = .ok (.iload 4, 2) := dk_21 4 (dk_at dksX1_cost_2 7 rfl rfl)
theorem dX1_cost_57 : decode cX1_cost 57 = .ok (.invokestatic 230, 3) := dk_184 0 230 (dk_at dksX1_cost_2 9 rfl rfl)
theorem dX1_cost_60 : decode cX1_cost 60 = .ok (.ireturn, 1) := dk_172 (dk_at dksX1_cost_2 12 rfl rfl)
abbrev cX1_corner : ByteArray := prog_1_method_41_code
def yX1_corner : MethodName := ⟨RX1, "corner", "(III)I"⟩
def dkwX1_corner_1 : List UInt8 := [42, 27, 28, 29, 182, 1, 11, 172]
abbrev dktX1_corner_1 : List UInt8 := dkwX1_corner_1 ++ []
def dkwX1_corner_0 : List UInt8 := [42, 27, 182, 0, 141, 29, 3, 6, 184, 0, 87, 184, 0, 115, 42, 180, 0, 48, 182, 0, 185, 184, 0, 131]
abbrev dktX1_corner_0 : List UInt8 := dkwX1_corner_0 ++ dktX1_corner_1
theorem dksX1_corner_0 : cX1_corner.data.toList.drop 0 = dktX1_corner_0 := by decide +kernel
theorem dksX1_corner_1 : cX1_corner.data.toList.drop 24 = dktX1_corner_1 := dk_seg dksX1_corner_0 24 rfl rfl
theorem dX1_corner_0 : decode cX1_corner 0 = .ok (.aload_n 0, 1) := dk_42 (dk_at dksX1_corner_0 0 rfl rfl)
theorem dX1_corner_1 : decode cX1_corner 1 = .ok (.iload_n 1, 1) := dk_27 (dk_at dksX1_corner_0 1 rfl rfl)
theorem dX1_corner_2 : decode cX1_corner 2 = .ok (.invokevirtual 141, 3) := dk_182 0 141 (dk_at dksX1_corner_0 2 rfl rfl)
theorem dX1_corner_5 : decode cX1_corner 5 = .ok (.iload_n 3, 1) := dk_29 (dk_at dksX1_corner_0 5 rfl rfl)
theorem dX1_corner_6 : decode cX1_corner 6 = .ok (.iconst 0, 1) := dk_3 (dk_at dksX1_corner_0 6 rfl rfl)
theorem dX1_corner_7 : decode cX1_corner 7 = .ok (.iconst 3, 1) := dk_6 (dk_at dksX1_corner_0 7 rfl rfl)
theorem dX1_corner_8 : decode cX1_corner 8 = .ok (.invokestatic 87, 3) := dk_184 0 87 (dk_at dksX1_corner_0 8 rfl rfl)
theorem dX1_corner_11 : decode cX1_corner 11 = .ok (.invokestatic 115, 3) := dk_184 0 115 (dk_at dksX1_corner_0 11 rfl rfl)
theorem dX1_corner_14 : decode cX1_corner 14 = .ok (.aload_n 0, 1) := dk_42 (dk_at dksX1_corner_0 14 rfl rfl)
theorem dX1_corner_15 : decode cX1_corner 15 = .ok (.getfield 48, 3) := dk_180 0 48 (dk_at dksX1_corner_0 15 rfl rfl)
theorem dX1_corner_18 : decode cX1_corner 18 = .ok (.invokevirtual 185, 3) := dk_182 0 185 (dk_at dksX1_corner_0 18 rfl rfl)
theorem dX1_corner_21 : decode cX1_corner 21 = .ok (.invokestatic 131, 3) := dk_184 0 131 (dk_at dksX1_corner_0 21 rfl rfl)
theorem dX1_corner_24 : decode cX1_corner 24 = .ok (.aload_n 0, 1) := dk_42 (dk_at dksX1_corner_1 0 rfl rfl)
theorem dX1_corner_25 : decode cX1_corner 25 = .ok (.iload_n 1, 1) := dk_27 (dk_at dksX1_corner_1 1 rfl rfl)
theorem dX1_corner_26 : decode cX1_corner 26 = .ok (.iload_n 2, 1) := dk_28 (dk_at dksX1_corner_1 2 rfl rfl)
theorem dX1_corner_27 : decode cX1_corner 27 = .ok (.iload_n 3, 1) := dk_29 (dk_at dksX1_corner_1 3 rfl rfl)
theorem dX1_corner_28 : decode cX1_corner 28 = .ok (.invokevirtual 267, 3) := dk_182 1 11 (dk_at dksX1_corner_1 4 rfl rfl)
theorem dX1_corner_31 : decode cX1_corner 31 = .ok (.ireturn, 1) := dk_172 (dk_at dksX1_corner_1 7 rfl rfl)
abbrev cX1_radius : ByteArray := prog_1_method_42_code
def yX1_radius : MethodName := ⟨RX1, "radius", "(II)I"⟩
def dkwX1_radius_1 : List UInt8 := [180, 0, 48, 182, 1, 15, 184, 0, 131, 42, 180, 0, 48, 27, 28, 182, 1, 18, 172]
abbrev dktX1_radius_1 : List UInt8 := dkwX1_radius_1 ++ []
def dkwX1_radius_0 : List UInt8 := [42, 27, 182, 0, 238, 153, 0, 14, 28, 184, 0, 223, 153, 0, 7, 4, 167, 0, 4, 3, 184, 0, 115, 42]
abbrev dktX1_radius_0 : List UInt8 := dkwX1_radius_0 ++ dktX1_radius_1
theorem dksX1_radius_0 : cX1_radius.data.toList.drop 0 = dktX1_radius_0 := by decide +kernel
theorem dksX1_radius_1 : cX1_radius.data.toList.drop 24 = dktX1_radius_1 := dk_seg dksX1_radius_0 24 rfl rfl
theorem dX1_radius_0 : decode cX1_radius 0 = .ok (.aload_n 0, 1) := dk_42 (dk_at dksX1_radius_0 0 rfl rfl)
theorem dX1_radius_1 : decode cX1_radius 1 = .ok (.iload_n 1, 1) := dk_27 (dk_at dksX1_radius_0 1 rfl rfl)
theorem dX1_radius_2 : decode cX1_radius 2 = .ok (.invokevirtual 238, 3) := dk_182 0 238 (dk_at dksX1_radius_0 2 rfl rfl)
theorem dX1_radius_5 : decode cX1_radius 5 = .ok (.ifCond .eq 14, 3) := dk_153 0 14 (dk_at dksX1_radius_0 5 rfl rfl)
theorem dX1_radius_8 : decode cX1_radius 8 = .ok (.iload_n 2, 1) := dk_28 (dk_at dksX1_radius_0 8 rfl rfl)
theorem dX1_radius_9 : decode cX1_radius 9 = .ok (.invokestatic 223, 3) := dk_184 0 223 (dk_at dksX1_radius_0 9 rfl rfl)
theorem dX1_radius_12 : decode cX1_radius 12 = .ok (.ifCond .eq 7, 3) := dk_153 0 7 (dk_at dksX1_radius_0 12 rfl rfl)
theorem dX1_radius_15 : decode cX1_radius 15 = .ok (.iconst 1, 1) := dk_4 (dk_at dksX1_radius_0 15 rfl rfl)
theorem dX1_radius_16 : decode cX1_radius 16 = .ok (.goto 4, 3) := dk_167 0 4 (dk_at dksX1_radius_0 16 rfl rfl)
theorem dX1_radius_19 : decode cX1_radius 19 = .ok (.iconst 0, 1) := dk_3 (dk_at dksX1_radius_0 19 rfl rfl)
theorem dX1_radius_20 : decode cX1_radius 20 = .ok (.invokestatic 115, 3) := dk_184 0 115 (dk_at dksX1_radius_0 20 rfl rfl)
theorem dX1_radius_23 : decode cX1_radius 23 = .ok (.aload_n 0, 1) := dk_42 (dk_at dksX1_radius_0 23 rfl rfl)
theorem dX1_radius_24 : decode cX1_radius 24 = .ok (.getfield 48, 3) := dk_180 0 48 (dk_at dksX1_radius_1 0 rfl rfl)
theorem dX1_radius_27 : decode cX1_radius 27 = .ok (.invokevirtual 271, 3) := dk_182 1 15 (dk_at dksX1_radius_1 3 rfl rfl)
theorem dX1_radius_30 : decode cX1_radius 30 = .ok (.invokestatic 131, 3) := dk_184 0 131 (dk_at dksX1_radius_1 6 rfl rfl)
theorem dX1_radius_33 : decode cX1_radius 33 = .ok (.aload_n 0, 1) := dk_42 (dk_at dksX1_radius_1 9 rfl rfl)
theorem dX1_radius_34 : decode cX1_radius 34 = .ok (.getfield 48, 3) := dk_180 0 48 (dk_at dksX1_radius_1 10 rfl rfl)
theorem dX1_radius_37 : decode cX1_radius 37 = .ok (.iload_n 1, 1) := dk_27 (dk_at dksX1_radius_1 13 rfl rfl)
theorem dX1_radius_38 : decode cX1_radius 38 = .ok (.iload_n 2, 1) := dk_28 (dk_at dksX1_radius_1 14 rfl rfl)
theorem dX1_radius_39 : decode cX1_radius 39 = .ok (.invokevirtual 274, 3) := dk_182 1 18 (dk_at dksX1_radius_1 15 rfl rfl)
theorem dX1_radius_42 : decode cX1_radius 42 = .ok (.ireturn, 1) := dk_172 (dk_at dksX1_radius_1 18 rfl rfl)
abbrev cX1_center : ByteArray := prog_1_method_44_code
def yX1_center : MethodName := ⟨RX1, "center", "(II)I"⟩
def dkwX1_center_2 : List UInt8 := [182, 1, 26, 172]
abbrev dktX1_center_2 : List UInt8 := dkwX1_center_2 ++ []
def dkwX1_center_1 : List UInt8 := [184, 0, 115, 42, 180, 0, 48, 182, 1, 15, 184, 0, 131, 42, 42, 180, 0, 48, 27, 182, 1, 23, 28]
abbrev dktX1_center_1 : List UInt8 := dkwX1_center_1 ++ dktX1_center_2
def dkwX1_center_0 : List UInt8 := [42, 27, 182, 0, 238, 153, 0, 16, 28, 3, 5, 184, 0, 87, 153, 0, 7, 4, 167, 0, 4, 3]
abbrev dktX1_center_0 : List UInt8 := dkwX1_center_0 ++ dktX1_center_1
theorem dksX1_center_0 : cX1_center.data.toList.drop 0 = dktX1_center_0 := by decide +kernel
theorem dksX1_center_1 : cX1_center.data.toList.drop 22 = dktX1_center_1 := dk_seg dksX1_center_0 22 rfl rfl
theorem dksX1_center_2 : cX1_center.data.toList.drop 45 = dktX1_center_2 := dk_seg dksX1_center_1 23 rfl rfl
theorem dX1_center_0 : decode cX1_center 0 = .ok (.aload_n 0, 1) := dk_42 (dk_at dksX1_center_0 0 rfl rfl)
theorem dX1_center_1 : decode cX1_center 1 = .ok (.iload_n 1, 1) := dk_27 (dk_at dksX1_center_0 1 rfl rfl)
theorem dX1_center_2 : decode cX1_center 2 = .ok (.invokevirtual 238, 3) := dk_182 0 238 (dk_at dksX1_center_0 2 rfl rfl)
theorem dX1_center_5 : decode cX1_center 5 = .ok (.ifCond .eq 16, 3) := dk_153 0 16 (dk_at dksX1_center_0 5 rfl rfl)
theorem dX1_center_8 : decode cX1_center 8 = .ok (.iload_n 2, 1) := dk_28 (dk_at dksX1_center_0 8 rfl rfl)
theorem dX1_center_9 : decode cX1_center 9 = .ok (.iconst 0, 1) := dk_3 (dk_at dksX1_center_0 9 rfl rfl)
theorem dX1_center_10 : decode cX1_center 10 = .ok (.iconst 2, 1) := dk_5 (dk_at dksX1_center_0 10 rfl rfl)
theorem dX1_center_11 : decode cX1_center 11 = .ok (.invokestatic 87, 3) := dk_184 0 87 (dk_at dksX1_center_0 11 rfl rfl)
theorem dX1_center_14 : decode cX1_center 14 = .ok (.ifCond .eq 7, 3) := dk_153 0 7 (dk_at dksX1_center_0 14 rfl rfl)
theorem dX1_center_17 : decode cX1_center 17 = .ok (.iconst 1, 1) := dk_4 (dk_at dksX1_center_0 17 rfl rfl)
theorem dX1_center_18 : decode cX1_center 18 = .ok (.goto 4, 3) := dk_167 0 4 (dk_at dksX1_center_0 18 rfl rfl)
theorem dX1_center_21 : decode cX1_center 21 = .ok (.iconst 0, 1) := dk_3 (dk_at dksX1_center_0 21 rfl rfl)
theorem dX1_center_22 : decode cX1_center 22 = .ok (.invokestatic 115, 3) := dk_184 0 115 (dk_at dksX1_center_1 0 rfl rfl)
theorem dX1_center_25 : decode cX1_center 25 = .ok (.aload_n 0, 1) := dk_42 (dk_at dksX1_center_1 3 rfl rfl)
theorem dX1_center_26 : decode cX1_center 26 = .ok (.getfield 48, 3) := dk_180 0 48 (dk_at dksX1_center_1 4 rfl rfl)
theorem dX1_center_29 : decode cX1_center 29 = .ok (.invokevirtual 271, 3) := dk_182 1 15 (dk_at dksX1_center_1 7 rfl rfl)
theorem dX1_center_32 : decode cX1_center 32 = .ok (.invokestatic 131, 3) := dk_184 0 131 (dk_at dksX1_center_1 10 rfl rfl)
theorem dX1_center_35 : decode cX1_center 35 = .ok (.aload_n 0, 1) := dk_42 (dk_at dksX1_center_1 13 rfl rfl)
theorem dX1_center_36 : decode cX1_center 36 = .ok (.aload_n 0, 1) := dk_42 (dk_at dksX1_center_1 14 rfl rfl)
theorem dX1_center_37 : decode cX1_center 37 = .ok (.getfield 48, 3) := dk_180 0 48 (dk_at dksX1_center_1 15 rfl rfl)
theorem dX1_center_40 : decode cX1_center 40 = .ok (.iload_n 1, 1) := dk_27 (dk_at dksX1_center_1 18 rfl rfl)
theorem dX1_center_41 : decode cX1_center 41 = .ok (.invokevirtual 279, 3) := dk_182 1 23 (dk_at dksX1_center_1 19 rfl rfl)
theorem dX1_center_44 : decode cX1_center 44 = .ok (.iload_n 2, 1) := dk_28 (dk_at dksX1_center_1 22 rfl rfl)
theorem dX1_center_45 : decode cX1_center 45 = .ok (.invokevirtual 282, 3) := dk_182 1 26 (dk_at dksX1_center_2 0 rfl rfl)
theorem dX1_center_48 : decode cX1_center 48 = .ok (.ireturn, 1) := dk_172 (dk_at dksX1_center_2 3 rfl rfl)
abbrev cX1_critical : ByteArray := prog_1_method_45_code
def yX1_critical : MethodName := ⟨RX1, "critical", "(I)I"⟩
def dkwX1_critical_1 : List UInt8 := [182, 1, 29, 172]
abbrev dktX1_critical_1 : List UInt8 := dkwX1_critical_1 ++ []
def dkwX1_critical_0 : List UInt8 := [42, 27, 182, 0, 238, 184, 0, 115, 42, 180, 0, 48, 182, 1, 15, 184, 0, 131, 42, 180, 0, 48, 27]
abbrev dktX1_critical_0 : List UInt8 := dkwX1_critical_0 ++ dktX1_critical_1
theorem dksX1_critical_0 : cX1_critical.data.toList.drop 0 = dktX1_critical_0 := by decide +kernel
theorem dksX1_critical_1 : cX1_critical.data.toList.drop 23 = dktX1_critical_1 := dk_seg dksX1_critical_0 23 rfl rfl
theorem dX1_critical_0 : decode cX1_critical 0 = .ok (.aload_n 0, 1) := dk_42 (dk_at dksX1_critical_0 0 rfl rfl)
theorem dX1_critical_1 : decode cX1_critical 1 = .ok (.iload_n 1, 1) := dk_27 (dk_at dksX1_critical_0 1 rfl rfl)
theorem dX1_critical_2 : decode cX1_critical 2 = .ok (.invokevirtual 238, 3) := dk_182 0 238 (dk_at dksX1_critical_0 2 rfl rfl)
theorem dX1_critical_5 : decode cX1_critical 5 = .ok (.invokestatic 115, 3) := dk_184 0 115 (dk_at dksX1_critical_0 5 rfl rfl)
theorem dX1_critical_8 : decode cX1_critical 8 = .ok (.aload_n 0, 1) := dk_42 (dk_at dksX1_critical_0 8 rfl rfl)
theorem dX1_critical_9 : decode cX1_critical 9 = .ok (.getfield 48, 3) := dk_180 0 48 (dk_at dksX1_critical_0 9 rfl rfl)
theorem dX1_critical_12 : decode cX1_critical 12 = .ok (.invokevirtual 271, 3) := dk_182 1 15 (dk_at dksX1_critical_0 12 rfl rfl)
theorem dX1_critical_15 : decode cX1_critical 15 = .ok (.invokestatic 131, 3) := dk_184 0 131 (dk_at dksX1_critical_0 15 rfl rfl)
theorem dX1_critical_18 : decode cX1_critical 18 = .ok (.aload_n 0, 1) := dk_42 (dk_at dksX1_critical_0 18 rfl rfl)
theorem dX1_critical_19 : decode cX1_critical 19 = .ok (.getfield 48, 3) := dk_180 0 48 (dk_at dksX1_critical_0 19 rfl rfl)
theorem dX1_critical_22 : decode cX1_critical 22 = .ok (.iload_n 1, 1) := dk_27 (dk_at dksX1_critical_0 22 rfl rfl)
theorem dX1_critical_23 : decode cX1_critical 23 = .ok (.invokevirtual 285, 3) := dk_182 1 29 (dk_at dksX1_critical_1 0 rfl rfl)
theorem dX1_critical_26 : decode cX1_critical 26 = .ok (.ireturn, 1) := dk_172 (dk_at dksX1_critical_1 3 rfl rfl)
abbrev cX1_median : ByteArray := prog_1_method_47_code
def yX1_median : MethodName := ⟨RX1, "median", "(I)I"⟩
def dkwX1_median_1 : List UInt8 := [172]
abbrev dktX1_median_1 : List UInt8 := dkwX1_median_1 ++ []
def dkwX1_median_0 : List UInt8 := [27, 3, 7, 184, 0, 87, 184, 0, 115, 42, 180, 0, 48, 182, 1, 15, 184, 0, 131, 42, 27, 182, 1, 35]
abbrev dktX1_median_0 : List UInt8 := dkwX1_median_0 ++ dktX1_median_1
theorem dksX1_median_0 : cX1_median.data.toList.drop 0 = dktX1_median_0 := by decide +kernel
theorem dksX1_median_1 : cX1_median.data.toList.drop 24 = dktX1_median_1 := dk_seg dksX1_median_0 24 rfl rfl
theorem dX1_median_0 : decode cX1_median 0 = .ok (.iload_n 1, 1) := dk_27 (dk_at dksX1_median_0 0 rfl rfl)
theorem dX1_median_1 : decode cX1_median 1 = .ok (.iconst 0, 1) := dk_3 (dk_at dksX1_median_0 1 rfl rfl)
theorem dX1_median_2 : decode cX1_median 2 = .ok (.iconst 4, 1) := dk_7 (dk_at dksX1_median_0 2 rfl rfl)
theorem dX1_median_3 : decode cX1_median 3 = .ok (.invokestatic 87, 3) := dk_184 0 87 (dk_at dksX1_median_0 3 rfl rfl)
theorem dX1_median_6 : decode cX1_median 6 = .ok (.invokestatic 115, 3) := dk_184 0 115 (dk_at dksX1_median_0 6 rfl rfl)
theorem dX1_median_9 : decode cX1_median 9 = .ok (.aload_n 0, 1) := dk_42 (dk_at dksX1_median_0 9 rfl rfl)
theorem dX1_median_10 : decode cX1_median 10 = .ok (.getfield 48, 3) := dk_180 0 48 (dk_at dksX1_median_0 10 rfl rfl)
theorem dX1_median_13 : decode cX1_median 13 = .ok (.invokevirtual 271, 3) := dk_182 1 15 (dk_at dksX1_median_0 13 rfl rfl)
theorem dX1_median_16 : decode cX1_median 16 = .ok (.invokestatic 131, 3) := dk_184 0 131 (dk_at dksX1_median_0 16 rfl rfl)
theorem dX1_median_19 : decode cX1_median 19 = .ok (.aload_n 0, 1) := dk_42 (dk_at dksX1_median_0 19 rfl rfl)
theorem dX1_median_20 : decode cX1_median 20 = .ok (.iload_n 1, 1) := dk_27 (dk_at dksX1_median_0 20 rfl rfl)
theorem dX1_median_21 : decode cX1_median 21 = .ok (.invokevirtual 291, 3) := dk_182 1 35 (dk_at dksX1_median_0 21 rfl rfl)
theorem dX1_median_24 : decode cX1_median 24 = .ok (.ireturn, 1) := dk_172 (dk_at dksX1_median_1 0 rfl rfl)
abbrev cX1_radiusOf : ByteArray := prog_1_method_48_code
def yX1_radiusOf : MethodName := ⟨RX1, "radiusOf", "(II)I"⟩
def dkwX1_radiusOf_2 : List UInt8 := [182, 1, 18, 172]
abbrev dktX1_radiusOf_2 : List UInt8 := dkwX1_radiusOf_2 ++ []
def dkwX1_radiusOf_1 : List UInt8 := [42, 180, 0, 48, 182, 1, 15, 184, 0, 131, 42, 180, 0, 48, 42, 180, 0, 48, 27, 182, 1, 38, 28]
abbrev dktX1_radiusOf_1 : List UInt8 := dkwX1_radiusOf_1 ++ dktX1_radiusOf_2
def dkwX1_radiusOf_0 : List UInt8 := [27, 4, 6, 184, 0, 87, 153, 0, 14, 28, 184, 0, 223, 153, 0, 7, 4, 167, 0, 4, 3, 184, 0, 115]
abbrev dktX1_radiusOf_0 : List UInt8 := dkwX1_radiusOf_0 ++ dktX1_radiusOf_1
theorem dksX1_radiusOf_0 : cX1_radiusOf.data.toList.drop 0 = dktX1_radiusOf_0 := by decide +kernel
theorem dksX1_radiusOf_1 : cX1_radiusOf.data.toList.drop 24 = dktX1_radiusOf_1 := dk_seg dksX1_radiusOf_0 24 rfl rfl
theorem dksX1_radiusOf_2 : cX1_radiusOf.data.toList.drop 47 = dktX1_radiusOf_2 := dk_seg dksX1_radiusOf_1 23 rfl rfl
theorem dX1_radiusOf_0 : decode cX1_radiusOf 0 = .ok (.iload_n 1, 1) := dk_27 (dk_at dksX1_radiusOf_0 0 rfl rfl)
theorem dX1_radiusOf_1 : decode cX1_radiusOf 1 = .ok (.iconst 1, 1) := dk_4 (dk_at dksX1_radiusOf_0 1 rfl rfl)
theorem dX1_radiusOf_2 : decode cX1_radiusOf 2 = .ok (.iconst 3, 1) := dk_6 (dk_at dksX1_radiusOf_0 2 rfl rfl)
theorem dX1_radiusOf_3 : decode cX1_radiusOf 3 = .ok (.invokestatic 87, 3) := dk_184 0 87 (dk_at dksX1_radiusOf_0 3 rfl rfl)
theorem dX1_radiusOf_6 : decode cX1_radiusOf 6 = .ok (.ifCond .eq 14, 3) := dk_153 0 14 (dk_at dksX1_radiusOf_0 6 rfl rfl)
theorem dX1_radiusOf_9 : decode cX1_radiusOf 9 = .ok (.iload_n 2, 1) := dk_28 (dk_at dksX1_radiusOf_0 9 rfl rfl)
theorem dX1_radiusOf_10 : decode cX1_radiusOf 10 = .ok (.invokestatic 223, 3) := dk_184 0 223 (dk_at dksX1_radiusOf_0 10 rfl rfl)
theorem dX1_radiusOf_13 : decode cX1_radiusOf 13 = .ok (.ifCond .eq 7, 3) := dk_153 0 7 (dk_at dksX1_radiusOf_0 13 rfl rfl)
theorem dX1_radiusOf_16 : decode cX1_radiusOf 16 = .ok (.iconst 1, 1) := dk_4 (dk_at dksX1_radiusOf_0 16 rfl rfl)
theorem dX1_radiusOf_17 : decode cX1_radiusOf 17 = .ok (.goto 4, 3) := dk_167 0 4 (dk_at dksX1_radiusOf_0 17 rfl rfl)
theorem dX1_radiusOf_20 : decode cX1_radiusOf 20 = .ok (.iconst 0, 1) := dk_3 (dk_at dksX1_radiusOf_0 20 rfl rfl)
theorem dX1_radiusOf_21 : decode cX1_radiusOf 21 = .ok (.invokestatic 115, 3) := dk_184 0 115 (dk_at dksX1_radiusOf_0 21 rfl rfl)
theorem dX1_radiusOf_24 : decode cX1_radiusOf 24 = .ok (.aload_n 0, 1) := dk_42 (dk_at dksX1_radiusOf_1 0 rfl rfl)
theorem dX1_radiusOf_25 : decode cX1_radiusOf 25 = .ok (.getfield 48, 3) := dk_180 0 48 (dk_at dksX1_radiusOf_1 1 rfl rfl)
theorem dX1_radiusOf_28 : decode cX1_radiusOf 28 = .ok (.invokevirtual 271, 3) := dk_182 1 15 (dk_at dksX1_radiusOf_1 4 rfl rfl)
theorem dX1_radiusOf_31 : decode cX1_radiusOf 31 = .ok (.invokestatic 131, 3) := dk_184 0 131 (dk_at dksX1_radiusOf_1 7 rfl rfl)
theorem dX1_radiusOf_34 : decode cX1_radiusOf 34 = .ok (.aload_n 0, 1) := dk_42 (dk_at dksX1_radiusOf_1 10 rfl rfl)
theorem dX1_radiusOf_35 : decode cX1_radiusOf 35 = .ok (.getfield 48, 3) := dk_180 0 48 (dk_at dksX1_radiusOf_1 11 rfl rfl)
theorem dX1_radiusOf_38 : decode cX1_radiusOf 38 = .ok (.aload_n 0, 1) := dk_42 (dk_at dksX1_radiusOf_1 14 rfl rfl)
theorem dX1_radiusOf_39 : decode cX1_radiusOf 39 = .ok (.getfield 48, 3) := dk_180 0 48 (dk_at dksX1_radiusOf_1 15 rfl rfl)
theorem dX1_radiusOf_42 : decode cX1_radiusOf 42 = .ok (.iload_n 1, 1) := dk_27 (dk_at dksX1_radiusOf_1 18 rfl rfl)
theorem dX1_radiusOf_43 : decode cX1_radiusOf 43 = .ok (.invokevirtual 294, 3) := dk_182 1 38 (dk_at dksX1_radiusOf_1 19 rfl rfl)
theorem dX1_radiusOf_46 : decode cX1_radiusOf 46 = .ok (.iload_n 2, 1) := dk_28 (dk_at dksX1_radiusOf_1 22 rfl rfl)
theorem dX1_radiusOf_47 : decode cX1_radiusOf 47 = .ok (.invokevirtual 274, 3) := dk_182 1 18 (dk_at dksX1_radiusOf_2 0 rfl rfl)
theorem dX1_radiusOf_50 : decode cX1_radiusOf 50 = .ok (.ireturn, 1) := dk_172 (dk_at dksX1_radiusOf_2 3 rfl rfl)
abbrev cX1_group : ByteArray := prog_1_method_49_code
def yX1_group : MethodName := ⟨RX1, "group", "(II)I"⟩
def dkwX1_group_1 : List UInt8 := [3, 184, 0, 115, 42, 180, 0, 48, 182, 1, 15, 184, 0, 131, 42, 180, 0, 48, 27, 28, 182, 1, 41, 172]
abbrev dktX1_group_1 : List UInt8 := dkwX1_group_1 ++ []
def dkwX1_group_0 : List UInt8 := [27, 4, 6, 184, 0, 87, 153, 0, 18, 28, 3, 27, 4, 100, 184, 0, 87, 153, 0, 7, 4, 167, 0, 4]
abbrev dktX1_group_0 : List UInt8 := dkwX1_group_0 ++ dktX1_group_1
theorem dksX1_group_0 : cX1_group.data.toList.drop 0 = dktX1_group_0 := by decide +kernel
theorem dksX1_group_1 : cX1_group.data.toList.drop 24 = dktX1_group_1 := dk_seg dksX1_group_0 24 rfl rfl
theorem dX1_group_0 : decode cX1_group 0 = .ok (.iload_n 1, 1) := dk_27 (dk_at dksX1_group_0 0 rfl rfl)
theorem dX1_group_1 : decode cX1_group 1 = .ok (.iconst 1, 1) := dk_4 (dk_at dksX1_group_0 1 rfl rfl)
theorem dX1_group_2 : decode cX1_group 2 = .ok (.iconst 3, 1) := dk_6 (dk_at dksX1_group_0 2 rfl rfl)
theorem dX1_group_3 : decode cX1_group 3 = .ok (.invokestatic 87, 3) := dk_184 0 87 (dk_at dksX1_group_0 3 rfl rfl)
theorem dX1_group_6 : decode cX1_group 6 = .ok (.ifCond .eq 18, 3) := dk_153 0 18 (dk_at dksX1_group_0 6 rfl rfl)
theorem dX1_group_9 : decode cX1_group 9 = .ok (.iload_n 2, 1) := dk_28 (dk_at dksX1_group_0 9 rfl rfl)
theorem dX1_group_10 : decode cX1_group 10 = .ok (.iconst 0, 1) := dk_3 (dk_at dksX1_group_0 10 rfl rfl)
theorem dX1_group_11 : decode cX1_group 11 = .ok (.iload_n 1, 1) := dk_27 (dk_at dksX1_group_0 11 rfl rfl)
theorem dX1_group_12 : decode cX1_group 12 = .ok (.iconst 1, 1) := dk_4 (dk_at dksX1_group_0 12 rfl rfl)
theorem dX1_group_13 : decode cX1_group 13 = .ok (.isub, 1) := dk_100 (dk_at dksX1_group_0 13 rfl rfl)
theorem dX1_group_14 : decode cX1_group 14 = .ok (.invokestatic 87, 3) := dk_184 0 87 (dk_at dksX1_group_0 14 rfl rfl)
theorem dX1_group_17 : decode cX1_group 17 = .ok (.ifCond .eq 7, 3) := dk_153 0 7 (dk_at dksX1_group_0 17 rfl rfl)
theorem dX1_group_20 : decode cX1_group 20 = .ok (.iconst 1, 1) := dk_4 (dk_at dksX1_group_0 20 rfl rfl)
theorem dX1_group_21 : decode cX1_group 21 = .ok (.goto 4, 3) := dk_167 0 4 (dk_at dksX1_group_0 21 rfl rfl)
theorem dX1_group_24 : decode cX1_group 24 = .ok (.iconst 0, 1) := dk_3 (dk_at dksX1_group_1 0 rfl rfl)
theorem dX1_group_25 : decode cX1_group 25 = .ok (.invokestatic 115, 3) := dk_184 0 115 (dk_at dksX1_group_1 1 rfl rfl)
theorem dX1_group_28 : decode cX1_group 28 = .ok (.aload_n 0, 1) := dk_42 (dk_at dksX1_group_1 4 rfl rfl)
theorem dX1_group_29 : decode cX1_group 29 = .ok (.getfield 48, 3) := dk_180 0 48 (dk_at dksX1_group_1 5 rfl rfl)
theorem dX1_group_32 : decode cX1_group 32 = .ok (.invokevirtual 271, 3) := dk_182 1 15 (dk_at dksX1_group_1 8 rfl rfl)
theorem dX1_group_35 : decode cX1_group 35 = .ok (.invokestatic 131, 3) := dk_184 0 131 (dk_at dksX1_group_1 11 rfl rfl)
theorem dX1_group_38 : decode cX1_group 38 = .ok (.aload_n 0, 1) := dk_42 (dk_at dksX1_group_1 14 rfl rfl)
theorem dX1_group_39 : decode cX1_group 39 = .ok (.getfield 48, 3) := dk_180 0 48 (dk_at dksX1_group_1 15 rfl rfl)
theorem dX1_group_42 : decode cX1_group 42 = .ok (.iload_n 1, 1) := dk_27 (dk_at dksX1_group_1 18 rfl rfl)
theorem dX1_group_43 : decode cX1_group 43 = .ok (.iload_n 2, 1) := dk_28 (dk_at dksX1_group_1 19 rfl rfl)
theorem dX1_group_44 : decode cX1_group 44 = .ok (.invokevirtual 297, 3) := dk_182 1 41 (dk_at dksX1_group_1 20 rfl rfl)
theorem dX1_group_47 : decode cX1_group 47 = .ok (.ireturn, 1) := dk_172 (dk_at dksX1_group_1 23 rfl rfl)
abbrev cX1_covering : ByteArray := prog_1_method_50_code
def yX1_covering : MethodName := ⟨RX1, "covering", "(II)I"⟩
def dkwX1_covering_1 : List UInt8 := [180, 0, 48, 182, 1, 15, 184, 0, 131, 42, 180, 0, 48, 27, 133, 28, 133, 182, 1, 44, 172]
abbrev dktX1_covering_1 : List UInt8 := dkwX1_covering_1 ++ []
def dkwX1_covering_0 : List UInt8 := [27, 155, 0, 18, 28, 4, 17, 3, 232, 184, 0, 87, 153, 0, 7, 4, 167, 0, 4, 3, 184, 0, 115, 42]
abbrev dktX1_covering_0 : List UInt8 := dkwX1_covering_0 ++ dktX1_covering_1
theorem dksX1_covering_0 : cX1_covering.data.toList.drop 0 = dktX1_covering_0 := by decide +kernel
theorem dksX1_covering_1 : cX1_covering.data.toList.drop 24 = dktX1_covering_1 := dk_seg dksX1_covering_0 24 rfl rfl
theorem dX1_covering_0 : decode cX1_covering 0 = .ok (.iload_n 1, 1) := dk_27 (dk_at dksX1_covering_0 0 rfl rfl)
theorem dX1_covering_1 : decode cX1_covering 1 = .ok (.ifCond .lt 18, 3) := dk_155 0 18 (dk_at dksX1_covering_0 1 rfl rfl)
theorem dX1_covering_4 : decode cX1_covering 4 = .ok (.iload_n 2, 1) := dk_28 (dk_at dksX1_covering_0 4 rfl rfl)
theorem dX1_covering_5 : decode cX1_covering 5 = .ok (.iconst 1, 1) := dk_4 (dk_at dksX1_covering_0 5 rfl rfl)
theorem dX1_covering_6 : decode cX1_covering 6 = .ok (.sipush 1000, 3) := dk_17 3 232 (dk_at dksX1_covering_0 6 rfl rfl)
theorem dX1_covering_9 : decode cX1_covering 9 = .ok (.invokestatic 87, 3) := dk_184 0 87 (dk_at dksX1_covering_0 9 rfl rfl)
theorem dX1_covering_12 : decode cX1_covering 12 = .ok (.ifCond .eq 7, 3) := dk_153 0 7 (dk_at dksX1_covering_0 12 rfl rfl)
theorem dX1_covering_15 : decode cX1_covering 15 = .ok (.iconst 1, 1) := dk_4 (dk_at dksX1_covering_0 15 rfl rfl)
theorem dX1_covering_16 : decode cX1_covering 16 = .ok (.goto 4, 3) := dk_167 0 4 (dk_at dksX1_covering_0 16 rfl rfl)
theorem dX1_covering_19 : decode cX1_covering 19 = .ok (.iconst 0, 1) := dk_3 (dk_at dksX1_covering_0 19 rfl rfl)
theorem dX1_covering_20 : decode cX1_covering 20 = .ok (.invokestatic 115, 3) := dk_184 0 115 (dk_at dksX1_covering_0 20 rfl rfl)
theorem dX1_covering_23 : decode cX1_covering 23 = .ok (.aload_n 0, 1) := dk_42 (dk_at dksX1_covering_0 23 rfl rfl)
theorem dX1_covering_24 : decode cX1_covering 24 = .ok (.getfield 48, 3) := dk_180 0 48 (dk_at dksX1_covering_1 0 rfl rfl)
theorem dX1_covering_27 : decode cX1_covering 27 = .ok (.invokevirtual 271, 3) := dk_182 1 15 (dk_at dksX1_covering_1 3 rfl rfl)
theorem dX1_covering_30 : decode cX1_covering 30 = .ok (.invokestatic 131, 3) := dk_184 0 131 (dk_at dksX1_covering_1 6 rfl rfl)
theorem dX1_covering_33 : decode cX1_covering 33 = .ok (.aload_n 0, 1) := dk_42 (dk_at dksX1_covering_1 9 rfl rfl)
theorem dX1_covering_34 : decode cX1_covering 34 = .ok (.getfield 48, 3) := dk_180 0 48 (dk_at dksX1_covering_1 10 rfl rfl)
theorem dX1_covering_37 : decode cX1_covering 37 = .ok (.iload_n 1, 1) := dk_27 (dk_at dksX1_covering_1 13 rfl rfl)
theorem dX1_covering_38 : decode cX1_covering 38 = .ok (.i2l, 1) := dk_133 (dk_at dksX1_covering_1 14 rfl rfl)
theorem dX1_covering_39 : decode cX1_covering 39 = .ok (.iload_n 2, 1) := dk_28 (dk_at dksX1_covering_1 15 rfl rfl)
theorem dX1_covering_40 : decode cX1_covering 40 = .ok (.i2l, 1) := dk_133 (dk_at dksX1_covering_1 16 rfl rfl)
theorem dX1_covering_41 : decode cX1_covering 41 = .ok (.invokevirtual 300, 3) := dk_182 1 44 (dk_at dksX1_covering_1 17 rfl rfl)
theorem dX1_covering_44 : decode cX1_covering 44 = .ok (.ireturn, 1) := dk_172 (dk_at dksX1_covering_1 20 rfl rfl)
abbrev cX1_covered : ByteArray := prog_1_method_51_code
def yX1_covered : MethodName := ⟨RX1, "covered", "(III)I"⟩
def dkwX1_covered_4 : List UInt8 := [167, 0, 4, 3, 128, 54, 4, 132, 5, 1, 167, 255, 207, 21, 4, 172]
abbrev dktX1_covered_4 : List UInt8 := dkwX1_covered_4 ++ []
def dkwX1_covered_3 : List UInt8 := [180, 0, 48, 4, 21, 5, 120, 27, 28, 133, 10, 182, 0, 241, 29, 133, 148, 157, 0, 10, 4, 21, 5, 120]
abbrev dktX1_covered_3 : List UInt8 := dkwX1_covered_3 ++ dktX1_covered_4
def dkwX1_covered_2 : List UInt8 := [184, 0, 131, 3, 54, 4, 3, 54, 5, 21, 5, 42, 180, 0, 39, 182, 0, 96, 162, 0, 43, 21, 4, 42]
abbrev dktX1_covered_2 : List UInt8 := dkwX1_covered_2 ++ dktX1_covered_3
def dkwX1_covered_1 : List UInt8 := [153, 0, 11, 29, 155, 0, 7, 4, 167, 0, 4, 3, 184, 0, 115, 42, 180, 0, 48, 182, 0, 185]
abbrev dktX1_covered_1 : List UInt8 := dkwX1_covered_1 ++ dktX1_covered_2
def dkwX1_covered_0 : List UInt8 := [42, 27, 182, 0, 141, 28, 3, 42, 180, 0, 39, 180, 0, 83, 27, 50, 180, 0, 91, 184, 0, 87]
abbrev dktX1_covered_0 : List UInt8 := dkwX1_covered_0 ++ dktX1_covered_1
theorem dksX1_covered_0 : cX1_covered.data.toList.drop 0 = dktX1_covered_0 := by decide +kernel
theorem dksX1_covered_1 : cX1_covered.data.toList.drop 22 = dktX1_covered_1 := dk_seg dksX1_covered_0 22 rfl rfl
theorem dksX1_covered_2 : cX1_covered.data.toList.drop 44 = dktX1_covered_2 := dk_seg dksX1_covered_1 22 rfl rfl
theorem dksX1_covered_3 : cX1_covered.data.toList.drop 68 = dktX1_covered_3 := dk_seg dksX1_covered_2 24 rfl rfl
theorem dksX1_covered_4 : cX1_covered.data.toList.drop 92 = dktX1_covered_4 := dk_seg dksX1_covered_3 24 rfl rfl
theorem dX1_covered_0 : decode cX1_covered 0 = .ok (.aload_n 0, 1) := dk_42 (dk_at dksX1_covered_0 0 rfl rfl)
theorem dX1_covered_1 : decode cX1_covered 1 = .ok (.iload_n 1, 1) := dk_27 (dk_at dksX1_covered_0 1 rfl rfl)
theorem dX1_covered_2 : decode cX1_covered 2 = .ok (.invokevirtual 141, 3) := dk_182 0 141 (dk_at dksX1_covered_0 2 rfl rfl)
theorem dX1_covered_5 : decode cX1_covered 5 = .ok (.iload_n 2, 1) := dk_28 (dk_at dksX1_covered_0 5 rfl rfl)
theorem dX1_covered_6 : decode cX1_covered 6 = .ok (.iconst 0, 1) := dk_3 (dk_at dksX1_covered_0 6 rfl rfl)
theorem dX1_covered_7 : decode cX1_covered 7 = .ok (.aload_n 0, 1) := dk_42 (dk_at dksX1_covered_0 7 rfl rfl)
theorem dX1_covered_8 : decode cX1_covered 8 = .ok (.getfield 39, 3) := dk_180 0 39 (dk_at dksX1_covered_0 8 rfl rfl)
theorem dX1_covered_11 : decode cX1_covered 11 = .ok (.getfield 83, 3) := dk_180 0 83 (dk_at dksX1_covered_0 11 rfl rfl)
theorem dX1_covered_14 : decode cX1_covered 14 = .ok (.iload_n 1, 1) := dk_27 (dk_at dksX1_covered_0 14 rfl rfl)
theorem dX1_covered_15 : decode cX1_covered 15 = .ok (.aaload, 1) := dk_50 (dk_at dksX1_covered_0 15 rfl rfl)
theorem dX1_covered_16 : decode cX1_covered 16 = .ok (.getfield 91, 3) := dk_180 0 91 (dk_at dksX1_covered_0 16 rfl rfl)
theorem dX1_covered_19 : decode cX1_covered 19 = .ok (.invokestatic 87, 3) := dk_184 0 87 (dk_at dksX1_covered_0 19 rfl rfl)
theorem dX1_covered_22 : decode cX1_covered 22 = .ok (.ifCond .eq 11, 3) := dk_153 0 11 (dk_at dksX1_covered_1 0 rfl rfl)
theorem dX1_covered_25 : decode cX1_covered 25 = .ok (.iload_n 3, 1) := dk_29 (dk_at dksX1_covered_1 3 rfl rfl)
theorem dX1_covered_26 : decode cX1_covered 26 = .ok (.ifCond .lt 7, 3) := dk_155 0 7 (dk_at dksX1_covered_1 4 rfl rfl)
theorem dX1_covered_29 : decode cX1_covered 29 = .ok (.iconst 1, 1) := dk_4 (dk_at dksX1_covered_1 7 rfl rfl)
theorem dX1_covered_30 : decode cX1_covered 30 = .ok (.goto 4, 3) := dk_167 0 4 (dk_at dksX1_covered_1 8 rfl rfl)
theorem dX1_covered_33 : decode cX1_covered 33 = .ok (.iconst 0, 1) := dk_3 (dk_at dksX1_covered_1 11 rfl rfl)
theorem dX1_covered_34 : decode cX1_covered 34 = .ok (.invokestatic 115, 3) := dk_184 0 115 (dk_at dksX1_covered_1 12 rfl rfl)
theorem dX1_covered_37 : decode cX1_covered 37 = .ok (.aload_n 0, 1) := dk_42 (dk_at dksX1_covered_1 15 rfl rfl)
theorem dX1_covered_38 : decode cX1_covered 38 = .ok (.getfield 48, 3) := dk_180 0 48 (dk_at dksX1_covered_1 16 rfl rfl)
theorem dX1_covered_41 : decode cX1_covered 41 = .ok (.invokevirtual 185, 3) := dk_182 0 185 (dk_at dksX1_covered_1 19 rfl rfl)
theorem dX1_covered_44 : decode cX1_covered 44 = .ok (.invokestatic 131, 3) := dk_184 0 131 (dk_at dksX1_covered_2 0 rfl rfl)
theorem dX1_covered_47 : decode cX1_covered 47 = .ok (.iconst 0, 1) := dk_3 (dk_at dksX1_covered_2 3 rfl rfl)
theorem dX1_covered_48 : decode cX1_covered 48 = .ok (.istore 4, 2) := dk_54 4 (dk_at dksX1_covered_2 4 rfl rfl)
theorem dX1_covered_50 : decode cX1_covered 50 = .ok (.iconst 0, 1) := dk_3 (dk_at dksX1_covered_2 6 rfl rfl)
theorem dX1_covered_51 : decode cX1_covered 51 = .ok (.istore 5, 2) := dk_54 5 (dk_at dksX1_covered_2 7 rfl rfl)
theorem dX1_covered_53 : decode cX1_covered 53 = .ok (.iload 5, 2) := dk_21 5 (dk_at dksX1_covered_2 9 rfl rfl)
theorem dX1_covered_55 : decode cX1_covered 55 = .ok (.aload_n 0, 1) := dk_42 (dk_at dksX1_covered_2 11 rfl rfl)
theorem dX1_covered_56 : decode cX1_covered 56 = .ok (.getfield 39, 3) := dk_180 0 39 (dk_at dksX1_covered_2 12 rfl rfl)
theorem dX1_covered_59 : decode cX1_covered 59 = .ok (.invokevirtual 96, 3) := dk_182 0 96 (dk_at dksX1_covered_2 15 rfl rfl)
theorem dX1_covered_62 : decode cX1_covered 62 = .ok (.if_icmp .ge 43, 3) := dk_162 0 43 (dk_at dksX1_covered_2 18 rfl rfl)
theorem dX1_covered_65 : decode cX1_covered 65 = .ok (.iload 4, 2) := dk_21 4 (dk_at dksX1_covered_2 21 rfl rfl)
theorem dX1_covered_67 : decode cX1_covered 67 = .ok (.aload_n 0, 1) := dk_42 (dk_at dksX1_covered_2 23 rfl rfl)
theorem dX1_covered_68 : decode cX1_covered 68 = .ok (.getfield 48, 3) := dk_180 0 48 (dk_at dksX1_covered_3 0 rfl rfl)
theorem dX1_covered_71 : decode cX1_covered 71 = .ok (.iconst 1, 1) := dk_4 (dk_at dksX1_covered_3 3 rfl rfl)
theorem dX1_covered_72 : decode cX1_covered 72 = .ok (.iload 5, 2) := dk_21 5 (dk_at dksX1_covered_3 4 rfl rfl)
theorem dX1_covered_74 : decode cX1_covered 74 = .ok (.ishl, 1) := dk_120 (dk_at dksX1_covered_3 6 rfl rfl)
theorem dX1_covered_75 : decode cX1_covered 75 = .ok (.iload_n 1, 1) := dk_27 (dk_at dksX1_covered_3 7 rfl rfl)
theorem dX1_covered_76 : decode cX1_covered 76 = .ok (.iload_n 2, 1) := dk_28 (dk_at dksX1_covered_3 8 rfl rfl)
theorem dX1_covered_77 : decode cX1_covered 77 = .ok (.i2l, 1) := dk_133 (dk_at dksX1_covered_3 9 rfl rfl)
theorem dX1_covered_78 : decode cX1_covered 78 = .ok (.lconst 1, 1) := dk_10 (dk_at dksX1_covered_3 10 rfl rfl)
theorem dX1_covered_79 : decode cX1_covered 79 = .ok (.invokevirtual 241, 3) := dk_182 0 241 (dk_at dksX1_covered_3 11 rfl rfl)
theorem dX1_covered_82 : decode cX1_covered 82 = .ok (.iload_n 3, 1) := dk_29 (dk_at dksX1_covered_3 14 rfl rfl)
theorem dX1_covered_83 : decode cX1_covered 83 = .ok (.i2l, 1) := dk_133 (dk_at dksX1_covered_3 15 rfl rfl)
theorem dX1_covered_84 : decode cX1_covered 84 = .ok (.lcmp, 1) := dk_148 (dk_at dksX1_covered_3 16 rfl rfl)
theorem dX1_covered_85 : decode cX1_covered 85 = .ok (.ifCond .gt 10, 3) := dk_157 0 10 (dk_at dksX1_covered_3 17 rfl rfl)
theorem dX1_covered_88 : decode cX1_covered 88 = .ok (.iconst 1, 1) := dk_4 (dk_at dksX1_covered_3 20 rfl rfl)
theorem dX1_covered_89 : decode cX1_covered 89 = .ok (.iload 5, 2) := dk_21 5 (dk_at dksX1_covered_3 21 rfl rfl)
theorem dX1_covered_91 : decode cX1_covered 91 = .ok (.ishl, 1) := dk_120 (dk_at dksX1_covered_3 23 rfl rfl)
theorem dX1_covered_92 : decode cX1_covered 92 = .ok (.goto 4, 3) := dk_167 0 4 (dk_at dksX1_covered_4 0 rfl rfl)
theorem dX1_covered_95 : decode cX1_covered 95 = .ok (.iconst 0, 1) := dk_3 (dk_at dksX1_covered_4 3 rfl rfl)
theorem dX1_covered_96 : decode cX1_covered 96 = .ok (.ior, 1) := dk_128 (dk_at dksX1_covered_4 4 rfl rfl)
theorem dX1_covered_97 : decode cX1_covered 97 = .ok (.istore 4, 2) := dk_54 4 (dk_at dksX1_covered_4 5 rfl rfl)
theorem dX1_covered_99 : decode cX1_covered 99 = .ok (.iinc 5 1, 3) := dk_132 5 1 (dk_at dksX1_covered_4 7 rfl rfl)
theorem dX1_covered_102 : decode cX1_covered 102 = .ok (.goto (-49), 3) := dk_167 255 207 (dk_at dksX1_covered_4 10 rfl rfl)
theorem dX1_covered_105 : decode cX1_covered 105 = .ok (.iload 4, 2) := dk_21 4 (dk_at dksX1_covered_4 13 rfl rfl)
theorem dX1_covered_107 : decode cX1_covered 107 = .ok (.ireturn, 1) := dk_172 (dk_at dksX1_covered_4 15 rfl rfl)
abbrev cX1_changedRadius : ByteArray := prog_1_method_52_code
def yX1_changedRadius : MethodName := ⟨RX1, "changedRadius", "(II)I"⟩
def dkwX1_changedRadius_2 : List UInt8 := [182, 1, 48, 183, 0, 45, 4, 42, 180, 0, 39, 182, 0, 96, 120, 4, 100, 28, 182, 1, 18, 172]
abbrev dktX1_changedRadius_2 : List UInt8 := dkwX1_changedRadius_2 ++ []
def dkwX1_changedRadius_1 : List UInt8 := [184, 0, 115, 42, 180, 0, 48, 182, 1, 15, 184, 0, 131, 187, 0, 43, 89, 42, 180, 0, 39, 27]
abbrev dktX1_changedRadius_1 : List UInt8 := dkwX1_changedRadius_1 ++ dktX1_changedRadius_2
def dkwX1_changedRadius_0 : List UInt8 := [27, 3, 16, 10, 184, 0, 87, 153, 0, 14, 28, 184, 0, 223, 153, 0, 7, 4, 167, 0, 4, 3]
abbrev dktX1_changedRadius_0 : List UInt8 := dkwX1_changedRadius_0 ++ dktX1_changedRadius_1
theorem dksX1_changedRadius_0 : cX1_changedRadius.data.toList.drop 0 = dktX1_changedRadius_0 := by decide +kernel
theorem dksX1_changedRadius_1 : cX1_changedRadius.data.toList.drop 22 = dktX1_changedRadius_1 := dk_seg dksX1_changedRadius_0 22 rfl rfl
theorem dksX1_changedRadius_2 : cX1_changedRadius.data.toList.drop 44 = dktX1_changedRadius_2 := dk_seg dksX1_changedRadius_1 22 rfl rfl
theorem dX1_changedRadius_0 : decode cX1_changedRadius 0 = .ok (.iload_n 1, 1) := dk_27 (dk_at dksX1_changedRadius_0 0 rfl rfl)
theorem dX1_changedRadius_1 : decode cX1_changedRadius 1 = .ok (.iconst 0, 1) := dk_3 (dk_at dksX1_changedRadius_0 1 rfl rfl)
theorem dX1_changedRadius_2 : decode cX1_changedRadius 2 = .ok (.bipush 10, 2) := dk_16 10 (dk_at dksX1_changedRadius_0 2 rfl rfl)
theorem dX1_changedRadius_4 : decode cX1_changedRadius 4 = .ok (.invokestatic 87, 3) := dk_184 0 87 (dk_at dksX1_changedRadius_0 4 rfl rfl)
theorem dX1_changedRadius_7 : decode cX1_changedRadius 7 = .ok (.ifCond .eq 14, 3) := dk_153 0 14 (dk_at dksX1_changedRadius_0 7 rfl rfl)
theorem dX1_changedRadius_10 : decode cX1_changedRadius 10 = .ok (.iload_n 2, 1) := dk_28 (dk_at dksX1_changedRadius_0 10 rfl rfl)
theorem dX1_changedRadius_11 : decode cX1_changedRadius 11 = .ok (.invokestatic 223, 3) := dk_184 0 223 (dk_at dksX1_changedRadius_0 11 rfl rfl)
theorem dX1_changedRadius_14 : decode cX1_changedRadius 14 = .ok (.ifCond .eq 7, 3) := dk_153 0 7 (dk_at dksX1_changedRadius_0 14 rfl rfl)
theorem dX1_changedRadius_17 : decode cX1_changedRadius 17 = .ok (.iconst 1, 1) := dk_4 (dk_at dksX1_changedRadius_0 17 rfl rfl)
theorem dX1_changedRadius_18 : decode cX1_changedRadius 18 = .ok (.goto 4, 3) := dk_167 0 4 (dk_at dksX1_changedRadius_0 18 rfl rfl)
theorem dX1_changedRadius_21 : decode cX1_changedRadius 21 = .ok (.iconst 0, 1) := dk_3 (dk_at dksX1_changedRadius_0 21 rfl rfl)
theorem dX1_changedRadius_22 : decode cX1_changedRadius 22 = .ok (.invokestatic 115, 3) := dk_184 0 115 (dk_at dksX1_changedRadius_1 0 rfl rfl)
theorem dX1_changedRadius_25 : decode cX1_changedRadius 25 = .ok (.aload_n 0, 1) := dk_42 (dk_at dksX1_changedRadius_1 3 rfl rfl)
theorem dX1_changedRadius_26 : decode cX1_changedRadius 26 = .ok (.getfield 48, 3) := dk_180 0 48 (dk_at dksX1_changedRadius_1 4 rfl rfl)
theorem dX1_changedRadius_29 : decode cX1_changedRadius 29 = .ok (.invokevirtual 271, 3) := dk_182 1 15 (dk_at dksX1_changedRadius_1 7 rfl rfl)
theorem dX1_changedRadius_32 : decode cX1_changedRadius 32 = .ok (.invokestatic 131, 3) := dk_184 0 131 (dk_at dksX1_changedRadius_1 10 rfl rfl)
theorem dX1_changedRadius_35 : decode cX1_changedRadius 35 = .ok (.new 43, 3) := dk_187 0 43 (dk_at dksX1_changedRadius_1 13 rfl rfl)
theorem dX1_changedRadius_38 : decode cX1_changedRadius 38 = .ok (.dup, 1) := dk_89 (dk_at dksX1_changedRadius_1 16 rfl rfl)
theorem dX1_changedRadius_39 : decode cX1_changedRadius 39 = .ok (.aload_n 0, 1) := dk_42 (dk_at dksX1_changedRadius_1 17 rfl rfl)
theorem dX1_changedRadius_40 : decode cX1_changedRadius 40 = .ok (.getfield 39, 3) := dk_180 0 39 (dk_at dksX1_changedRadius_1 18 rfl rfl)
theorem dX1_changedRadius_43 : decode cX1_changedRadius 43 = .ok (.iload_n 1, 1) := dk_27 (dk_at dksX1_changedRadius_1 21 rfl rfl)
theorem dX1_changedRadius_44 : decode cX1_changedRadius 44 = .ok (.invokevirtual 304, 3) := dk_182 1 48 (dk_at dksX1_changedRadius_2 0 rfl rfl)
theorem dX1_changedRadius_47 : decode cX1_changedRadius 47 = .ok (.invokespecial 45, 3) := dk_183 0 45 (dk_at dksX1_changedRadius_2 3 rfl rfl)
theorem dX1_changedRadius_50 : decode cX1_changedRadius 50 = .ok (.iconst 1, 1) := dk_4 (dk_at dksX1_changedRadius_2 6 rfl rfl)
theorem dX1_changedRadius_51 : decode cX1_changedRadius 51 = .ok (.aload_n 0, 1) := dk_42 (dk_at dksX1_changedRadius_2 7 rfl rfl)
theorem dX1_changedRadius_52 : decode cX1_changedRadius 52 = .ok (.getfield 39, 3) := dk_180 0 39 (dk_at dksX1_changedRadius_2 8 rfl rfl)
theorem dX1_changedRadius_55 : decode cX1_changedRadius 55 = .ok (.invokevirtual 96, 3) := dk_182 0 96 (dk_at dksX1_changedRadius_2 11 rfl rfl)
theorem dX1_changedRadius_58 : decode cX1_changedRadius 58 = .ok (.ishl, 1) := dk_120 (dk_at dksX1_changedRadius_2 14 rfl rfl)
theorem dX1_changedRadius_59 : decode cX1_changedRadius 59 = .ok (.iconst 1, 1) := dk_4 (dk_at dksX1_changedRadius_2 15 rfl rfl)
theorem dX1_changedRadius_60 : decode cX1_changedRadius 60 = .ok (.isub, 1) := dk_100 (dk_at dksX1_changedRadius_2 16 rfl rfl)
theorem dX1_changedRadius_61 : decode cX1_changedRadius 61 = .ok (.iload_n 2, 1) := dk_28 (dk_at dksX1_changedRadius_2 17 rfl rfl)
theorem dX1_changedRadius_62 : decode cX1_changedRadius 62 = .ok (.invokevirtual 274, 3) := dk_182 1 18 (dk_at dksX1_changedRadius_2 18 rfl rfl)
theorem dX1_changedRadius_65 : decode cX1_changedRadius 65 = .ok (.ireturn, 1) := dk_172 (dk_at dksX1_changedRadius_2 21 rfl rfl)
abbrev cX1_radiusWithout : ByteArray := prog_1_method_53_code
def yX1_radiusWithout : MethodName := ⟨RX1, "radiusWithout", "(II)I"⟩
def dkwX1_radiusWithout_2 : List UInt8 := [182, 1, 18, 167, 0, 4, 2, 172]
abbrev dktX1_radiusWithout_2 : List UInt8 := dkwX1_radiusWithout_2 ++ []
def dkwX1_radiusWithout_1 : List UInt8 := [183, 0, 45, 78, 45, 182, 1, 15, 153, 0, 22, 45, 4, 42, 180, 0, 39, 182, 0, 96, 120, 4, 100, 28]
abbrev dktX1_radiusWithout_1 : List UInt8 := dkwX1_radiusWithout_1 ++ dktX1_radiusWithout_2
def dkwX1_radiusWithout_0 : List UInt8 := [42, 27, 182, 0, 141, 28, 184, 0, 223, 184, 0, 115, 187, 0, 43, 89, 42, 180, 0, 39, 27, 182, 0, 148]
abbrev dktX1_radiusWithout_0 : List UInt8 := dkwX1_radiusWithout_0 ++ dktX1_radiusWithout_1
theorem dksX1_radiusWithout_0 : cX1_radiusWithout.data.toList.drop 0 = dktX1_radiusWithout_0 := by decide +kernel
theorem dksX1_radiusWithout_1 : cX1_radiusWithout.data.toList.drop 24 = dktX1_radiusWithout_1 := dk_seg dksX1_radiusWithout_0 24 rfl rfl
theorem dksX1_radiusWithout_2 : cX1_radiusWithout.data.toList.drop 48 = dktX1_radiusWithout_2 := dk_seg dksX1_radiusWithout_1 24 rfl rfl
theorem dX1_radiusWithout_0 : decode cX1_radiusWithout 0 = .ok (.aload_n 0, 1) := dk_42 (dk_at dksX1_radiusWithout_0 0 rfl rfl)
theorem dX1_radiusWithout_1 : decode cX1_radiusWithout 1 = .ok (.iload_n 1, 1) := dk_27 (dk_at dksX1_radiusWithout_0 1 rfl rfl)
theorem dX1_radiusWithout_2 : decode cX1_radiusWithout 2 = .ok (.invokevirtual 141, 3) := dk_182 0 141 (dk_at dksX1_radiusWithout_0 2 rfl rfl)
theorem dX1_radiusWithout_5 : decode cX1_radiusWithout 5 = .ok (.iload_n 2, 1) := dk_28 (dk_at dksX1_radiusWithout_0 5 rfl rfl)
theorem dX1_radiusWithout_6 : decode cX1_radiusWithout 6 = .ok (.invokestatic 223, 3) := dk_184 0 223 (dk_at dksX1_radiusWithout_0 6 rfl rfl)
theorem dX1_radiusWithout_9 : decode cX1_radiusWithout 9 = .ok (.invokestatic 115, 3) := dk_184 0 115 (dk_at dksX1_radiusWithout_0 9 rfl rfl)
theorem dX1_radiusWithout_12 : decode cX1_radiusWithout 12 = .ok (.new 43, 3) := dk_187 0 43 (dk_at dksX1_radiusWithout_0 12 rfl rfl)
theorem dX1_radiusWithout_15 : decode cX1_radiusWithout 15 = .ok (.dup, 1) := dk_89 (dk_at dksX1_radiusWithout_0 15 rfl rfl)
theorem dX1_radiusWithout_16 : decode cX1_radiusWithout 16 = .ok (.aload_n 0, 1) := dk_42 (dk_at dksX1_radiusWithout_0 16 rfl rfl)
theorem dX1_radiusWithout_17 : decode cX1_radiusWithout 17 = .ok (.getfield 39, 3) := dk_180 0 39 (dk_at dksX1_radiusWithout_0 17 rfl rfl)
theorem dX1_radiusWithout_20 : decode cX1_radiusWithout 20 = .ok (.iload_n 1, 1) := dk_27 (dk_at dksX1_radiusWithout_0 20 rfl rfl)
theorem dX1_radiusWithout_21 : decode cX1_radiusWithout 21 = .ok (.invokevirtual 148, 3) := dk_182 0 148 (dk_at dksX1_radiusWithout_0 21 rfl rfl)
theorem dX1_radiusWithout_24 : decode cX1_radiusWithout 24 = .ok (.invokespecial 45, 3) := dk_183 0 45 (dk_at dksX1_radiusWithout_1 0 rfl rfl)
theorem dX1_radiusWithout_27 : decode cX1_radiusWithout 27 = .ok (.astore_n 3, 1) := dk_78 (dk_at dksX1_radiusWithout_1 3 rfl rfl)
theorem dX1_radiusWithout_28 : decode cX1_radiusWithout 28 = .ok (.aload_n 3, 1) := dk_45 (dk_at dksX1_radiusWithout_1 4 rfl rfl)
theorem dX1_radiusWithout_29 : decode cX1_radiusWithout 29 = .ok (.invokevirtual 271, 3) := dk_182 1 15 (dk_at dksX1_radiusWithout_1 5 rfl rfl)
theorem dX1_radiusWithout_32 : decode cX1_radiusWithout 32 = .ok (.ifCond .eq 22, 3) := dk_153 0 22 (dk_at dksX1_radiusWithout_1 8 rfl rfl)
theorem dX1_radiusWithout_35 : decode cX1_radiusWithout 35 = .ok (.aload_n 3, 1) := dk_45 (dk_at dksX1_radiusWithout_1 11 rfl rfl)
theorem dX1_radiusWithout_36 : decode cX1_radiusWithout 36 = .ok (.iconst 1, 1) := dk_4 (dk_at dksX1_radiusWithout_1 12 rfl rfl)
theorem dX1_radiusWithout_37 : decode cX1_radiusWithout 37 = .ok (.aload_n 0, 1) := dk_42 (dk_at dksX1_radiusWithout_1 13 rfl rfl)
theorem dX1_radiusWithout_38 : decode cX1_radiusWithout 38 = .ok (.getfield 39, 3) := dk_180 0 39 (dk_at dksX1_radiusWithout_1 14 rfl rfl)
theorem dX1_radiusWithout_41 : decode cX1_radiusWithout 41 = .ok (.invokevirtual 96, 3) := dk_182 0 96 (dk_at dksX1_radiusWithout_1 17 rfl rfl)
theorem dX1_radiusWithout_44 : decode cX1_radiusWithout 44 = .ok (.ishl, 1) := dk_120 (dk_at dksX1_radiusWithout_1 20 rfl rfl)
theorem dX1_radiusWithout_45 : decode cX1_radiusWithout 45 = .ok (.iconst 1, 1) := dk_4 (dk_at dksX1_radiusWithout_1 21 rfl rfl)
theorem dX1_radiusWithout_46 : decode cX1_radiusWithout 46 = .ok (.isub, 1) := dk_100 (dk_at dksX1_radiusWithout_1 22 rfl rfl)
theorem dX1_radiusWithout_47 : decode cX1_radiusWithout 47 = .ok (.iload_n 2, 1) := dk_28 (dk_at dksX1_radiusWithout_1 23 rfl rfl)
theorem dX1_radiusWithout_48 : decode cX1_radiusWithout 48 = .ok (.invokevirtual 274, 3) := dk_182 1 18 (dk_at dksX1_radiusWithout_2 0 rfl rfl)
theorem dX1_radiusWithout_51 : decode cX1_radiusWithout 51 = .ok (.goto 4, 3) := dk_167 0 4 (dk_at dksX1_radiusWithout_2 3 rfl rfl)
theorem dX1_radiusWithout_54 : decode cX1_radiusWithout 54 = .ok (.iconst (-1), 1) := dk_2 (dk_at dksX1_radiusWithout_2 6 rfl rfl)
theorem dX1_radiusWithout_55 : decode cX1_radiusWithout 55 = .ok (.ireturn, 1) := dk_172 (dk_at dksX1_radiusWithout_2 7 rfl rfl)
abbrev cX1_type : ByteArray := prog_1_method_54_code
def yX1_type : MethodName := ⟨RX1, "type", "(I)I"⟩
def dkwX1_type_2 : List UInt8 := [172]
abbrev dktX1_type_2 : List UInt8 := dkwX1_type_2 ++ []
def dkwX1_type_1 : List UInt8 := [167, 0, 4, 3, 184, 0, 131, 42, 180, 0, 62, 27, 146, 182, 1, 53, 87, 42, 180, 0, 62, 182, 1, 51]
abbrev dktX1_type_1 : List UInt8 := dkwX1_type_1 ++ dktX1_type_2
def dkwX1_type_0 : List UInt8 := [27, 16, 32, 16, 126, 184, 0, 87, 184, 0, 115, 42, 180, 0, 62, 182, 1, 51, 16, 120, 162, 0, 7, 4]
abbrev dktX1_type_0 : List UInt8 := dkwX1_type_0 ++ dktX1_type_1
theorem dksX1_type_0 : cX1_type.data.toList.drop 0 = dktX1_type_0 := by decide +kernel
theorem dksX1_type_1 : cX1_type.data.toList.drop 24 = dktX1_type_1 := dk_seg dksX1_type_0 24 rfl rfl
theorem dksX1_type_2 : cX1_type.data.toList.drop 48 = dktX1_type_2 := dk_seg dksX1_type_1 24 rfl rfl
theorem dX1_type_0 : decode cX1_type 0 = .ok (.iload_n 1, 1) := dk_27 (dk_at dksX1_type_0 0 rfl rfl)
theorem dX1_type_1 : decode cX1_type 1 = .ok (.bipush 32, 2) := dk_16 32 (dk_at dksX1_type_0 1 rfl rfl)
theorem dX1_type_3 : decode cX1_type 3 = .ok (.bipush 126, 2) := dk_16 126 (dk_at dksX1_type_0 3 rfl rfl)
theorem dX1_type_5 : decode cX1_type 5 = .ok (.invokestatic 87, 3) := dk_184 0 87 (dk_at dksX1_type_0 5 rfl rfl)
theorem dX1_type_8 : decode cX1_type 8 = .ok (.invokestatic 115, 3) := dk_184 0 115 (dk_at dksX1_type_0 8 rfl rfl)
theorem dX1_type_11 : decode cX1_type 11 = .ok (.aload_n 0, 1) := dk_42 (dk_at dksX1_type_0 11 rfl rfl)
theorem dX1_type_12 : decode cX1_type 12 = .ok (.getfield 62, 3) := dk_180 0 62 (dk_at dksX1_type_0 12 rfl rfl)
theorem dX1_type_15 : decode cX1_type 15 = .ok (.invokevirtual 307, 3) := dk_182 1 51 (dk_at dksX1_type_0 15 rfl rfl)
theorem dX1_type_18 : decode cX1_type 18 = .ok (.bipush 120, 2) := dk_16 120 (dk_at dksX1_type_0 18 rfl rfl)
theorem dX1_type_20 : decode cX1_type 20 = .ok (.if_icmp .ge 7, 3) := dk_162 0 7 (dk_at dksX1_type_0 20 rfl rfl)
theorem dX1_type_23 : decode cX1_type 23 = .ok (.iconst 1, 1) := dk_4 (dk_at dksX1_type_0 23 rfl rfl)
theorem dX1_type_24 : decode cX1_type 24 = .ok (.goto 4, 3) := dk_167 0 4 (dk_at dksX1_type_1 0 rfl rfl)
theorem dX1_type_27 : decode cX1_type 27 = .ok (.iconst 0, 1) := dk_3 (dk_at dksX1_type_1 3 rfl rfl)
theorem dX1_type_28 : decode cX1_type 28 = .ok (.invokestatic 131, 3) := dk_184 0 131 (dk_at dksX1_type_1 4 rfl rfl)
theorem dX1_type_31 : decode cX1_type 31 = .ok (.aload_n 0, 1) := dk_42 (dk_at dksX1_type_1 7 rfl rfl)
theorem dX1_type_32 : decode cX1_type 32 = .ok (.getfield 62, 3) := dk_180 0 62 (dk_at dksX1_type_1 8 rfl rfl)
theorem dX1_type_35 : decode cX1_type 35 = .ok (.iload_n 1, 1) := dk_27 (dk_at dksX1_type_1 11 rfl rfl)
theorem dX1_type_36 : decode cX1_type 36 = .ok (.i2c, 1) := dk_146 (dk_at dksX1_type_1 12 rfl rfl)
theorem dX1_type_37 : decode cX1_type 37 = .ok (.invokevirtual 309, 3) := dk_182 1 53 (dk_at dksX1_type_1 13 rfl rfl)
theorem dX1_type_40 : decode cX1_type 40 = .ok (.pop, 1) := dk_87 (dk_at dksX1_type_1 16 rfl rfl)
theorem dX1_type_41 : decode cX1_type 41 = .ok (.aload_n 0, 1) := dk_42 (dk_at dksX1_type_1 17 rfl rfl)
theorem dX1_type_42 : decode cX1_type 42 = .ok (.getfield 62, 3) := dk_180 0 62 (dk_at dksX1_type_1 18 rfl rfl)
theorem dX1_type_45 : decode cX1_type 45 = .ok (.invokevirtual 307, 3) := dk_182 1 51 (dk_at dksX1_type_1 21 rfl rfl)
theorem dX1_type_48 : decode cX1_type 48 = .ok (.ireturn, 1) := dk_172 (dk_at dksX1_type_2 0 rfl rfl)
abbrev cX1_run : ByteArray := prog_1_method_57_code
def yX1_run : MethodName := ⟨RX1, "run", "()I"⟩
def dkwX1_run_4 : List UInt8 := [42, 43, 182, 0, 118, 28, 172]
abbrev dktX1_run_4 : List UInt8 := dkwX1_run_4 ++ []
def dkwX1_run_3 : List UInt8 := [96, 61, 25, 4, 199, 0, 7, 43, 167, 0, 5, 25, 4, 76, 167, 255, 206, 167, 0, 7, 58, 4, 2, 172]
abbrev dktX1_run_3 : List UInt8 := dkwX1_run_3 ++ dktX1_run_4
def dkwX1_run_2 : List UInt8 := [180, 1, 79, 43, 45, 180, 1, 83, 182, 1, 86, 58, 4, 28, 25, 4, 199, 0, 7, 3, 167, 0, 4, 4]
abbrev dktX1_run_2 : List UInt8 := dkwX1_run_2 ++ dktX1_run_3
def dkwX1_run_1 : List UInt8 := [187, 1, 60, 89, 42, 180, 0, 62, 183, 1, 62, 78, 45, 182, 1, 65, 154, 0, 49, 45, 182, 1, 68, 45]
abbrev dktX1_run_1 : List UInt8 := dkwX1_run_1 ++ dktX1_run_2
def dkwX1_run_0 : List UInt8 := [42, 182, 1, 76, 2, 160, 0, 7, 4, 167, 0, 4, 3, 184, 0, 115, 42, 180, 0, 39, 76, 3, 61]
abbrev dktX1_run_0 : List UInt8 := dkwX1_run_0 ++ dktX1_run_1
theorem dksX1_run_0 : cX1_run.data.toList.drop 0 = dktX1_run_0 := by decide +kernel
theorem dksX1_run_1 : cX1_run.data.toList.drop 23 = dktX1_run_1 := dk_seg dksX1_run_0 23 rfl rfl
theorem dksX1_run_2 : cX1_run.data.toList.drop 47 = dktX1_run_2 := dk_seg dksX1_run_1 24 rfl rfl
theorem dksX1_run_3 : cX1_run.data.toList.drop 71 = dktX1_run_3 := dk_seg dksX1_run_2 24 rfl rfl
theorem dksX1_run_4 : cX1_run.data.toList.drop 95 = dktX1_run_4 := dk_seg dksX1_run_3 24 rfl rfl
theorem dX1_run_0 : decode cX1_run 0 = .ok (.aload_n 0, 1) := dk_42 (dk_at dksX1_run_0 0 rfl rfl)
theorem dX1_run_1 : decode cX1_run 1 = .ok (.invokevirtual 332, 3) := dk_182 1 76 (dk_at dksX1_run_0 1 rfl rfl)
theorem dX1_run_4 : decode cX1_run 4 = .ok (.iconst (-1), 1) := dk_2 (dk_at dksX1_run_0 4 rfl rfl)
theorem dX1_run_5 : decode cX1_run 5 = .ok (.if_icmp .ne 7, 3) := dk_160 0 7 (dk_at dksX1_run_0 5 rfl rfl)
theorem dX1_run_8 : decode cX1_run 8 = .ok (.iconst 1, 1) := dk_4 (dk_at dksX1_run_0 8 rfl rfl)
theorem dX1_run_9 : decode cX1_run 9 = .ok (.goto 4, 3) := dk_167 0 4 (dk_at dksX1_run_0 9 rfl rfl)
theorem dX1_run_12 : decode cX1_run 12 = .ok (.iconst 0, 1) := dk_3 (dk_at dksX1_run_0 12 rfl rfl)
theorem dX1_run_13 : decode cX1_run 13 = .ok (.invokestatic 115, 3) := dk_184 0 115 (dk_at dksX1_run_0 13 rfl rfl)
theorem dX1_run_16 : decode cX1_run 16 = .ok (.aload_n 0, 1) := dk_42 (dk_at dksX1_run_0 16 rfl rfl)
theorem dX1_run_17 : decode cX1_run 17 = .ok (.getfield 39, 3) := dk_180 0 39 (dk_at dksX1_run_0 17 rfl rfl)
theorem dX1_run_20 : decode cX1_run 20 = .ok (.astore_n 1, 1) := dk_76 (dk_at dksX1_run_0 20 rfl rfl)
theorem dX1_run_21 : decode cX1_run 21 = .ok (.iconst 0, 1) := dk_3 (dk_at dksX1_run_0 21 rfl rfl)
theorem dX1_run_22 : decode cX1_run 22 = .ok (.istore_n 2, 1) := dk_61 (dk_at dksX1_run_0 22 rfl rfl)
theorem dX1_run_23 : decode cX1_run 23 = .ok (.new 316, 3) := dk_187 1 60 (dk_at dksX1_run_1 0 rfl rfl)
theorem dX1_run_26 : decode cX1_run 26 = .ok (.dup, 1) := dk_89 (dk_at dksX1_run_1 3 rfl rfl)
theorem dX1_run_27 : decode cX1_run 27 = .ok (.aload_n 0, 1) := dk_42 (dk_at dksX1_run_1 4 rfl rfl)
theorem dX1_run_28 : decode cX1_run 28 = .ok (.getfield 62, 3) := dk_180 0 62 (dk_at dksX1_run_1 5 rfl rfl)
theorem dX1_run_31 : decode cX1_run 31 = .ok (.invokespecial 318, 3) := dk_183 1 62 (dk_at dksX1_run_1 8 rfl rfl)
theorem dX1_run_34 : decode cX1_run 34 = .ok (.astore_n 3, 1) := dk_78 (dk_at dksX1_run_1 11 rfl rfl)
theorem dX1_run_35 : decode cX1_run 35 = .ok (.aload_n 3, 1) := dk_45 (dk_at dksX1_run_1 12 rfl rfl)
theorem dX1_run_36 : decode cX1_run 36 = .ok (.invokevirtual 321, 3) := dk_182 1 65 (dk_at dksX1_run_1 13 rfl rfl)
theorem dX1_run_39 : decode cX1_run 39 = .ok (.ifCond .ne 49, 3) := dk_154 0 49 (dk_at dksX1_run_1 16 rfl rfl)
theorem dX1_run_42 : decode cX1_run 42 = .ok (.aload_n 3, 1) := dk_45 (dk_at dksX1_run_1 19 rfl rfl)
theorem dX1_run_43 : decode cX1_run 43 = .ok (.invokevirtual 324, 3) := dk_182 1 68 (dk_at dksX1_run_1 20 rfl rfl)
theorem dX1_run_46 : decode cX1_run 46 = .ok (.aload_n 3, 1) := dk_45 (dk_at dksX1_run_1 23 rfl rfl)
theorem dX1_run_47 : decode cX1_run 47 = .ok (.getfield 335, 3) := dk_180 1 79 (dk_at dksX1_run_2 0 rfl rfl)
theorem dX1_run_50 : decode cX1_run 50 = .ok (.aload_n 1, 1) := dk_43 (dk_at dksX1_run_2 3 rfl rfl)
theorem dX1_run_51 : decode cX1_run 51 = .ok (.aload_n 3, 1) := dk_45 (dk_at dksX1_run_2 4 rfl rfl)
theorem dX1_run_52 : decode cX1_run 52 = .ok (.getfield 339, 3) := dk_180 1 83 (dk_at dksX1_run_2 5 rfl rfl)
theorem dX1_run_55 : decode cX1_run 55 = .ok (.invokevirtual 342, 3) := dk_182 1 86 (dk_at dksX1_run_2 8 rfl rfl)
theorem dX1_run_58 : decode cX1_run 58 = .ok (.astore 4, 2) := dk_58 4 (dk_at dksX1_run_2 11 rfl rfl)
theorem dX1_run_60 : decode cX1_run 60 = .ok (.iload_n 2, 1) := dk_28 (dk_at dksX1_run_2 13 rfl rfl)
theorem dX1_run_61 : decode cX1_run 61 = .ok (.aload 4, 2) := dk_25 4 (dk_at dksX1_run_2 14 rfl rfl)
theorem dX1_run_63 : decode cX1_run 63 = .ok (.ifnonnull 7, 3) := dk_199 0 7 (dk_at dksX1_run_2 16 rfl rfl)
theorem dX1_run_66 : decode cX1_run 66 = .ok (.iconst 0, 1) := dk_3 (dk_at dksX1_run_2 19 rfl rfl)
theorem dX1_run_67 : decode cX1_run 67 = .ok (.goto 4, 3) := dk_167 0 4 (dk_at dksX1_run_2 20 rfl rfl)
theorem dX1_run_70 : decode cX1_run 70 = .ok (.iconst 1, 1) := dk_4 (dk_at dksX1_run_2 23 rfl rfl)
theorem dX1_run_71 : decode cX1_run 71 = .ok (.iadd, 1) := dk_96 (dk_at dksX1_run_3 0 rfl rfl)
theorem dX1_run_72 : decode cX1_run 72 = .ok (.istore_n 2, 1) := dk_61 (dk_at dksX1_run_3 1 rfl rfl)
theorem dX1_run_73 : decode cX1_run 73 = .ok (.aload 4, 2) := dk_25 4 (dk_at dksX1_run_3 2 rfl rfl)
theorem dX1_run_75 : decode cX1_run 75 = .ok (.ifnonnull 7, 3) := dk_199 0 7 (dk_at dksX1_run_3 4 rfl rfl)
theorem dX1_run_78 : decode cX1_run 78 = .ok (.aload_n 1, 1) := dk_43 (dk_at dksX1_run_3 7 rfl rfl)
theorem dX1_run_79 : decode cX1_run 79 = .ok (.goto 5, 3) := dk_167 0 5 (dk_at dksX1_run_3 8 rfl rfl)
theorem dX1_run_82 : decode cX1_run 82 = .ok (.aload 4, 2) := dk_25 4 (dk_at dksX1_run_3 11 rfl rfl)
theorem dX1_run_84 : decode cX1_run 84 = .ok (.astore_n 1, 1) := dk_76 (dk_at dksX1_run_3 13 rfl rfl)
theorem dX1_run_85 : decode cX1_run 85 = .ok (.goto (-50), 3) := dk_167 255 206 (dk_at dksX1_run_3 14 rfl rfl)
theorem dX1_run_88 : decode cX1_run 88 = .ok (.goto 7, 3) := dk_167 0 7 (dk_at dksX1_run_3 17 rfl rfl)
theorem dX1_run_91 : decode cX1_run 91 = .ok (.astore 4, 2) := dk_58 4 (dk_at dksX1_run_3 20 rfl rfl)
theorem dX1_run_93 : decode cX1_run 93 = .ok (.iconst (-1), 1) := dk_2 (dk_at dksX1_run_3 22 rfl rfl)
theorem dX1_run_94 : decode cX1_run 94 = .ok (.ireturn, 1) := dk_172 (dk_at dksX1_run_3 23 rfl rfl)
theorem dX1_run_95 : decode cX1_run 95 = .ok (.aload_n 0, 1) := dk_42 (dk_at dksX1_run_4 0 rfl rfl)
theorem dX1_run_96 : decode cX1_run 96 = .ok (.aload_n 1, 1) := dk_43 (dk_at dksX1_run_4 1 rfl rfl)
theorem dX1_run_97 : decode cX1_run 97 = .ok (.invokevirtual 118, 3) := dk_182 0 118 (dk_at dksX1_run_4 2 rfl rfl)
theorem dX1_run_100 : decode cX1_run 100 = .ok (.iload_n 2, 1) := dk_28 (dk_at dksX1_run_4 5 rfl rfl)
theorem dX1_run_101 : decode cX1_run 101 = .ok (.ireturn, 1) := dk_172 (dk_at dksX1_run_4 6 rfl rfl)
abbrev cX1_undo : ByteArray := prog_1_method_58_code
def yX1_undo : MethodName := ⟨RX1, "undo", "()I"⟩
def dkwX1_undo_1 : List UInt8 := [182, 1, 95, 192, 0, 34, 182, 0, 112, 42, 180, 0, 55, 182, 0, 100, 172]
abbrev dktX1_undo_1 : List UInt8 := dkwX1_undo_1 ++ []
def dkwX1_undo_0 : List UInt8 := [42, 180, 0, 55, 182, 1, 92, 154, 0, 7, 4, 167, 0, 4, 3, 184, 0, 131, 42, 42, 180, 0, 55]
abbrev dktX1_undo_0 : List UInt8 := dkwX1_undo_0 ++ dktX1_undo_1
theorem dksX1_undo_0 : cX1_undo.data.toList.drop 0 = dktX1_undo_0 := by decide +kernel
theorem dksX1_undo_1 : cX1_undo.data.toList.drop 23 = dktX1_undo_1 := dk_seg dksX1_undo_0 23 rfl rfl
theorem dX1_undo_0 : decode cX1_undo 0 = .ok (.aload_n 0, 1) := dk_42 (dk_at dksX1_undo_0 0 rfl rfl)
theorem dX1_undo_1 : decode cX1_undo 1 = .ok (.getfield 55, 3) := dk_180 0 55 (dk_at dksX1_undo_0 1 rfl rfl)
theorem dX1_undo_4 : decode cX1_undo 4 = .ok (.invokevirtual 348, 3) := dk_182 1 92 (dk_at dksX1_undo_0 4 rfl rfl)
theorem dX1_undo_7 : decode cX1_undo 7 = .ok (.ifCond .ne 7, 3) := dk_154 0 7 (dk_at dksX1_undo_0 7 rfl rfl)
theorem dX1_undo_10 : decode cX1_undo 10 = .ok (.iconst 1, 1) := dk_4 (dk_at dksX1_undo_0 10 rfl rfl)
theorem dX1_undo_11 : decode cX1_undo 11 = .ok (.goto 4, 3) := dk_167 0 4 (dk_at dksX1_undo_0 11 rfl rfl)
theorem dX1_undo_14 : decode cX1_undo 14 = .ok (.iconst 0, 1) := dk_3 (dk_at dksX1_undo_0 14 rfl rfl)
theorem dX1_undo_15 : decode cX1_undo 15 = .ok (.invokestatic 131, 3) := dk_184 0 131 (dk_at dksX1_undo_0 15 rfl rfl)
theorem dX1_undo_18 : decode cX1_undo 18 = .ok (.aload_n 0, 1) := dk_42 (dk_at dksX1_undo_0 18 rfl rfl)
theorem dX1_undo_19 : decode cX1_undo 19 = .ok (.aload_n 0, 1) := dk_42 (dk_at dksX1_undo_0 19 rfl rfl)
theorem dX1_undo_20 : decode cX1_undo 20 = .ok (.getfield 55, 3) := dk_180 0 55 (dk_at dksX1_undo_0 20 rfl rfl)
theorem dX1_undo_23 : decode cX1_undo 23 = .ok (.invokevirtual 351, 3) := dk_182 1 95 (dk_at dksX1_undo_1 0 rfl rfl)
theorem dX1_undo_26 : decode cX1_undo 26 = .ok (.checkcast 34, 3) := dk_192 0 34 (dk_at dksX1_undo_1 3 rfl rfl)
theorem dX1_undo_29 : decode cX1_undo 29 = .ok (.invokevirtual 112, 3) := dk_182 0 112 (dk_at dksX1_undo_1 6 rfl rfl)
theorem dX1_undo_32 : decode cX1_undo 32 = .ok (.aload_n 0, 1) := dk_42 (dk_at dksX1_undo_1 9 rfl rfl)
theorem dX1_undo_33 : decode cX1_undo 33 = .ok (.getfield 55, 3) := dk_180 0 55 (dk_at dksX1_undo_1 10 rfl rfl)
theorem dX1_undo_36 : decode cX1_undo 36 = .ok (.invokevirtual 100, 3) := dk_182 0 100 (dk_at dksX1_undo_1 13 rfl rfl)
theorem dX1_undo_39 : decode cX1_undo 39 = .ok (.ireturn, 1) := dk_172 (dk_at dksX1_undo_1 16 rfl rfl)
theorem q105 : (Jvm.Cond.initialized "NetworkCenters") ∈ lw_all := lw_g (lw_at lw_m1 1 rfl) rfl
theorem q152 : (Jvm.Cond.instantiable "NetworkCenters" (5 : Nat)) ∈ lw_all := lw_g (lw_at lw_m1 48 rfl) rfl
theorem q154 : (Jvm.Cond.instanceMethod ({ cls := "NetworkCenters", name := "<init>", desc := "()V" } : Jvm.MethodName)) ∈ lw_all := lw_g (lw_at lw_m1 50 rfl) rfl
theorem q155 : (Jvm.Cond.code ({ cls := "NetworkCenters", name := "<init>", desc := "()V" } : Jvm.MethodName) prog_1_method_7_code (1 : Nat) (Option.none : Option Jvm.ClassFile.FieldType)) ∈ lw_all := lw_g (lw_at lw_m1 51 rfl) rfl
theorem q156 : (Jvm.Cond.methodLink "NetworkCenters" (28 : Nat) ({ cls := "java/lang/Object", name := "<init>", desc := "()V" } : Jvm.MethodName)) ∈ lw_all := lw_g (lw_at lw_m1 52 rfl) rfl
theorem q159 : (Jvm.Cond.classLink "NetworkCenters" (34 : Nat) "NetworkCenters$Network") ∈ lw_all := lw_g (lw_at lw_m1 55 rfl) rfl
theorem q161 : (Jvm.Cond.methodLink "NetworkCenters" (36 : Nat) ({ cls := "NetworkCenters$Network", name := "<init>", desc := "(I)V" } : Jvm.MethodName)) ∈ lw_all := lw_g (lw_at lw_m1 57 rfl) rfl
theorem q174 : (Jvm.Cond.fieldLinkNest "NetworkCenters" (152 : Nat) "NetworkCenters$Network" "weights" "[I" "NetworkCenters") ∈ lw_tbl := lw_at lw_m1 70 rfl
theorem q176 : (Jvm.Cond.fieldLinkNest "NetworkCenters" (160 : Nat) "NetworkCenters$Network" "trends" "[I" "NetworkCenters") ∈ lw_tbl := lw_at lw_m1 72 rfl
theorem q180 : (Jvm.Cond.fieldLinkNest "NetworkCenters" (83 : Nat) "NetworkCenters$Network" "edges" "[LNetworkCenters$Edge;" "NetworkCenters") ∈ lw_tbl := lw_at lw_m1 76 rfl
theorem q184 : (Jvm.Cond.fieldLinkNest "NetworkCenters" (144 : Nat) "NetworkCenters$Network" "stretches" "[LNetworkCenters$Stretch;" "NetworkCenters") ∈ lw_tbl := lw_at lw_m1 80 rfl
theorem q195 : (Jvm.Cond.classLink "NetworkCenters" (43 : Nat) "NetworkCenters$Plan") ∈ lw_all := lw_g (lw_at lw_m1 91 rfl) rfl
theorem q197 : (Jvm.Cond.methodLink "NetworkCenters" (45 : Nat) ({ cls := "NetworkCenters$Plan", name := "<init>", desc := "(LNetworkCenters$Network;)V" } : Jvm.MethodName)) ∈ lw_all := lw_g (lw_at lw_m1 93 rfl) rfl
theorem q216 : (Jvm.Cond.fieldLinkNest "NetworkCenters" (214 : Nat) "NetworkCenters$Plan" "distances" "[I" "NetworkCenters") ∈ lw_tbl := lw_at lw_m1 112 rfl
theorem q218 : (Jvm.Cond.fieldLinkNest "NetworkCenters" (251 : Nat) "NetworkCenters$Plan" "points" "LNetworkCenters$Points;" "NetworkCenters") ∈ lw_tbl := lw_at lw_m1 114 rfl
theorem q237 : (Jvm.Cond.classLink "NetworkCenters" (52 : Nat) "java/util/ArrayDeque") ∈ lw_all := lw_g (lw_at lw_m1 133 rfl) rfl
theorem q239 : (Jvm.Cond.methodLink "NetworkCenters" (54 : Nat) ({ cls := "java/util/ArrayDeque", name := "<init>", desc := "()V" } : Jvm.MethodName)) ∈ lw_all := lw_g (lw_at lw_m1 135 rfl) rfl
theorem q258 : (Jvm.Cond.classLink "NetworkCenters" (59 : Nat) "java/lang/StringBuilder") ∈ lw_all := lw_g (lw_at lw_m1 154 rfl) rfl
theorem q260 : (Jvm.Cond.methodLink "NetworkCenters" (61 : Nat) ({ cls := "java/lang/StringBuilder", name := "<init>", desc := "()V" } : Jvm.MethodName)) ∈ lw_all := lw_g (lw_at lw_m1 156 rfl) rfl
theorem q291 : (Jvm.Cond.fieldLink "NetworkCenters" (39 : Nat) "NetworkCenters" "net" "LNetworkCenters$Network;") ∈ lw_all := lw_g (lw_at lw_m1 187 rfl) rfl
theorem q292 : (Jvm.Cond.fieldLink "NetworkCenters" (48 : Nat) "NetworkCenters" "plan" "LNetworkCenters$Plan;") ∈ lw_all := lw_g (lw_at lw_m1 188 rfl) rfl
theorem q293 : (Jvm.Cond.fieldLink "NetworkCenters" (55 : Nat) "NetworkCenters" "saved" "Ljava/util/ArrayDeque;") ∈ lw_all := lw_g (lw_at lw_m1 189 rfl) rfl
theorem q294 : (Jvm.Cond.fieldLink "NetworkCenters" (62 : Nat) "NetworkCenters" "text" "Ljava/lang/StringBuilder;") ∈ lw_all := lw_g (lw_at lw_m1 190 rfl) rfl
theorem q295 : (Jvm.Cond.fieldLink "NetworkCenters" (356 : Nat) "NetworkCenters" "hash" "J") ∈ lw_all := lw_g (lw_at lw_m1 191 rfl) rfl
theorem q296 : (Jvm.Cond.lays "NetworkCenters" "NetworkCenters" "net" "LNetworkCenters$Network;") ∈ lw_all := lw_g (lw_at lw_m1 192 rfl) rfl
theorem q297 : (Jvm.Cond.soleField "NetworkCenters" "net") ∈ lw_all := lw_g (lw_at lw_m1 193 rfl) rfl
theorem q298 : (Jvm.Cond.lays "NetworkCenters" "NetworkCenters" "plan" "LNetworkCenters$Plan;") ∈ lw_all := lw_g (lw_at lw_m1 194 rfl) rfl
theorem q299 : (Jvm.Cond.soleField "NetworkCenters" "plan") ∈ lw_all := lw_g (lw_at lw_m1 195 rfl) rfl
theorem q300 : (Jvm.Cond.laysFinal "NetworkCenters" "NetworkCenters" "saved" "Ljava/util/ArrayDeque;") ∈ lw_all := lw_g (lw_at lw_m1 196 rfl) rfl
theorem q301 : (Jvm.Cond.soleField "NetworkCenters" "saved") ∈ lw_all := lw_g (lw_at lw_m1 197 rfl) rfl
theorem q302 : (Jvm.Cond.laysFinal "NetworkCenters" "NetworkCenters" "text" "Ljava/lang/StringBuilder;") ∈ lw_all := lw_g (lw_at lw_m1 198 rfl) rfl
theorem q303 : (Jvm.Cond.soleField "NetworkCenters" "text") ∈ lw_all := lw_g (lw_at lw_m1 199 rfl) rfl
theorem q304 : (Jvm.Cond.lays "NetworkCenters" "NetworkCenters" "hash" "J") ∈ lw_all := lw_g (lw_at lw_m1 200 rfl) rfl
theorem q305 : (Jvm.Cond.soleField "NetworkCenters" "hash") ∈ lw_all := lw_g (lw_at lw_m1 201 rfl) rfl
theorem q306 : (Jvm.Cond.superclass "NetworkCenters" "java/lang/Object") ∈ lw_all := lw_g (lw_at lw_m1 202 rfl) rfl
theorem q308 : (Jvm.Cond.instanceMethod ({ cls := "NetworkCenters", name := "diameter", desc := "()I" } : Jvm.MethodName)) ∈ lw_all := lw_g (lw_at lw_m1 204 rfl) rfl
theorem q309 : (Jvm.Cond.selects "NetworkCenters" ({ cls := "NetworkCenters", name := "diameter", desc := "()I" } : Jvm.MethodName) ({ cls := "NetworkCenters", name := "diameter", desc := "()I" } : Jvm.MethodName)) ∈ lw_all := lw_g (lw_at lw_m1 205 rfl) rfl
theorem q310 : (Jvm.Cond.code ({ cls := "NetworkCenters", name := "diameter", desc := "()I" } : Jvm.MethodName) prog_1_method_35_code (3 : Nat) (Option.some Jvm.ClassFile.FieldType.int)) ∈ lw_all := lw_g (lw_at lw_m1 206 rfl) rfl
theorem q311 : (Jvm.Cond.methodLink "NetworkCenters" (217 : Nat) ({ cls := "java/lang/Math", name := "max", desc := "(II)I" } : Jvm.MethodName)) ∈ lw_all := lw_g (lw_at lw_m1 207 rfl) rfl
theorem q314 : (Jvm.Cond.constant "NetworkCenters" (207 : Nat) (100000 : Int32)) ∈ lw_all := lw_g (lw_at lw_m1 210 rfl) rfl
theorem q316 : (Jvm.Cond.instanceMethod ({ cls := "NetworkCenters", name := "clearText", desc := "()I" } : Jvm.MethodName)) ∈ lw_all := lw_g (lw_at lw_m1 212 rfl) rfl
theorem q317 : (Jvm.Cond.selects "NetworkCenters" ({ cls := "NetworkCenters", name := "clearText", desc := "()I" } : Jvm.MethodName) ({ cls := "NetworkCenters", name := "clearText", desc := "()I" } : Jvm.MethodName)) ∈ lw_all := lw_g (lw_at lw_m1 213 rfl) rfl
theorem q318 : (Jvm.Cond.code ({ cls := "NetworkCenters", name := "clearText", desc := "()I" } : Jvm.MethodName) prog_1_method_55_code (2 : Nat) (Option.some Jvm.ClassFile.FieldType.int)) ∈ lw_all := lw_g (lw_at lw_m1 214 rfl) rfl
theorem q319 : (Jvm.Cond.methodLink "NetworkCenters" (307 : Nat) ({ cls := "java/lang/StringBuilder", name := "length", desc := "()I" } : Jvm.MethodName)) ∈ lw_all := lw_g (lw_at lw_m1 215 rfl) rfl
theorem q326 : (Jvm.Cond.methodLink "NetworkCenters" (313 : Nat) ({ cls := "java/lang/StringBuilder", name := "setLength", desc := "(I)V" } : Jvm.MethodName)) ∈ lw_all := lw_g (lw_at lw_m1 222 rfl) rfl
theorem q663 : (Jvm.Cond.instanceMethod ({ cls := "NetworkCenters", name := "fault", desc := "()I" } : Jvm.MethodName)) ∈ lw_all := lw_g (lw_at lw_m3 79 rfl) rfl
theorem q664 : (Jvm.Cond.selects "NetworkCenters" ({ cls := "NetworkCenters", name := "fault", desc := "()I" } : Jvm.MethodName) ({ cls := "NetworkCenters", name := "fault", desc := "()I" } : Jvm.MethodName)) ∈ lw_all := lw_g (lw_at lw_m3 80 rfl) rfl
theorem q665 : (Jvm.Cond.codeWith ({ cls := "NetworkCenters", name := "fault", desc := "()I" } : Jvm.MethodName) prog_1_method_56_code (3 : Nat) (Option.some Jvm.ClassFile.FieldType.int) [((12 : Nat), (26 : Nat), (29 : Nat), (327 : Nat))]) ∈ lw_all := lw_g (lw_at lw_m3 81 rfl) rfl
theorem q666 : (Jvm.Cond.classLink "NetworkCenters" (327 : Nat) "NetworkCenters$Fault") ∈ lw_all := lw_g (lw_at lw_m3 82 rfl) rfl
theorem q667 : (Jvm.Cond.classLink "NetworkCenters" (316 : Nat) "NetworkCenters$Reader") ∈ lw_all := lw_g (lw_at lw_m3 83 rfl) rfl
theorem q669 : (Jvm.Cond.methodLink "NetworkCenters" (318 : Nat) ({ cls := "NetworkCenters$Reader", name := "<init>", desc := "(Ljava/lang/CharSequence;)V" } : Jvm.MethodName)) ∈ lw_all := lw_g (lw_at lw_m3 85 rfl) rfl
theorem q675 : (Jvm.Cond.fieldLinkNest "NetworkCenters" (339 : Nat) "NetworkCenters$Reader" "numbers" "[I" "NetworkCenters") ∈ lw_tbl := lw_at lw_m3 91 rfl
theorem q677 : (Jvm.Cond.fieldLinkNest "NetworkCenters" (335 : Nat) "NetworkCenters$Reader" "kind" "LNetworkCenters$Kind;" "NetworkCenters") ∈ lw_tbl := lw_at lw_m3 93 rfl
theorem q688 : (Jvm.Cond.methodLink "NetworkCenters" (321 : Nat) ({ cls := "NetworkCenters$Reader", name := "isAtEnd", desc := "()Z" } : Jvm.MethodName)) ∈ lw_all := lw_g (lw_at lw_m3 104 rfl) rfl
theorem q752 : (Jvm.Cond.methodLink "NetworkCenters" (324 : Nat) ({ cls := "NetworkCenters$Reader", name := "command", desc := "()V" } : Jvm.MethodName)) ∈ lw_all := lw_g (lw_at lw_m3 168 rfl) rfl
theorem q757 : (Jvm.Cond.static ({ cls := "NetworkCenters", name := "isIn", desc := "(III)Z" } : Jvm.MethodName)) ∈ lw_all := lw_g (lw_at lw_m3 173 rfl) rfl
theorem q758 : (Jvm.Cond.code ({ cls := "NetworkCenters", name := "isIn", desc := "(III)Z" } : Jvm.MethodName) prog_1_method_1_code (3 : Nat) (Option.some Jvm.ClassFile.FieldType.boolean)) ∈ lw_all := lw_g (lw_at lw_m3 174 rfl) rfl
theorem q793 : (Jvm.Cond.fieldLinkNest "NetworkCenters" (329 : Nat) "NetworkCenters$Fault" "place" "I" "NetworkCenters") ∈ lw_tbl := lw_at lw_m3 209 rfl
theorem q809 : (Jvm.Cond.instanceMethod ({ cls := "NetworkCenters", name := "checksum", desc := "()J" } : Jvm.MethodName)) ∈ lw_all := lw_g (lw_at lw_m3 225 rfl) rfl
theorem q810 : (Jvm.Cond.selects "NetworkCenters" ({ cls := "NetworkCenters", name := "checksum", desc := "()J" } : Jvm.MethodName) ({ cls := "NetworkCenters", name := "checksum", desc := "()J" } : Jvm.MethodName)) ∈ lw_all := lw_g (lw_at lw_m3 226 rfl) rfl
theorem q811 : (Jvm.Cond.code ({ cls := "NetworkCenters", name := "checksum", desc := "()J" } : Jvm.MethodName) prog_1_method_61_code (3 : Nat) (Option.some Jvm.ClassFile.FieldType.long)) ∈ lw_all := lw_g (lw_at lw_m3 227 rfl) rfl
theorem q812 : (Jvm.Cond.constantLong "NetworkCenters" (363 : Nat) (18473 : Int64)) ∈ lw_all := lw_g (lw_at lw_m3 228 rfl) rfl
theorem q813 : (Jvm.Cond.methodLink "NetworkCenters" (189 : Nat) ({ cls := "NetworkCenters", name := "counted", desc := "(I)I" } : Jvm.MethodName)) ∈ lw_all := lw_g (lw_at lw_m3 229 rfl) rfl
theorem q814 : (Jvm.Cond.privateMethod ({ cls := "NetworkCenters", name := "counted", desc := "(I)I" } : Jvm.MethodName)) ∈ lw_tbl := lw_at lw_m3 230 rfl
theorem q815 : (Jvm.Cond.instanceMethod ({ cls := "NetworkCenters", name := "counted", desc := "(I)I" } : Jvm.MethodName)) ∈ lw_all := lw_g (lw_at lw_m3 231 rfl) rfl
theorem q816 : (Jvm.Cond.code ({ cls := "NetworkCenters", name := "counted", desc := "(I)I" } : Jvm.MethodName) prog_1_method_27_code (2 : Nat) (Option.some Jvm.ClassFile.FieldType.int)) ∈ lw_all := lw_g (lw_at lw_m3 232 rfl) rfl
theorem q817 : (Jvm.Cond.methodLink "NetworkCenters" (96 : Nat) ({ cls := "NetworkCenters$Network", name := "size", desc := "()I" } : Jvm.MethodName)) ∈ lw_all := lw_g (lw_at lw_m3 233 rfl) rfl
theorem q818 : (Jvm.Cond.methodLink "NetworkCenters" (185 : Nat) ({ cls := "NetworkCenters$Plan", name := "isConnected", desc := "()Z" } : Jvm.MethodName)) ∈ lw_all := lw_g (lw_at lw_m3 234 rfl) rfl
theorem q822 : (Jvm.Cond.methodLink "NetworkCenters" (360 : Nat) ({ cls := "NetworkCenters", name := "mix", desc := "(I)V" } : Jvm.MethodName)) ∈ lw_all := lw_g (lw_at lw_m3 238 rfl) rfl
theorem q823 : (Jvm.Cond.privateMethod ({ cls := "NetworkCenters", name := "mix", desc := "(I)V" } : Jvm.MethodName)) ∈ lw_tbl := lw_at lw_m3 239 rfl
theorem q824 : (Jvm.Cond.instanceMethod ({ cls := "NetworkCenters", name := "mix", desc := "(I)V" } : Jvm.MethodName)) ∈ lw_all := lw_g (lw_at lw_m4 0 rfl) rfl
theorem q825 : (Jvm.Cond.code ({ cls := "NetworkCenters", name := "mix", desc := "(I)V" } : Jvm.MethodName) prog_1_method_59_code (2 : Nat) (Option.none : Option Jvm.ClassFile.FieldType)) ∈ lw_all := lw_g (lw_at lw_m4 1 rfl) rfl
theorem q826 : (Jvm.Cond.constantLong "NetworkCenters" (354 : Nat) (31 : Int64)) ∈ lw_all := lw_g (lw_at lw_m4 2 rfl) rfl
theorem q827 : (Jvm.Cond.methodLink "NetworkCenters" (199 : Nat) ({ cls := "NetworkCenters", name := "propertyOf", desc := "(II)I" } : Jvm.MethodName)) ∈ lw_all := lw_g (lw_at lw_m4 3 rfl) rfl
theorem q828 : (Jvm.Cond.privateMethod ({ cls := "NetworkCenters", name := "propertyOf", desc := "(II)I" } : Jvm.MethodName)) ∈ lw_tbl := lw_at lw_m4 4 rfl
theorem q829 : (Jvm.Cond.instanceMethod ({ cls := "NetworkCenters", name := "propertyOf", desc := "(II)I" } : Jvm.MethodName)) ∈ lw_all := lw_g (lw_at lw_m4 5 rfl) rfl
theorem q830 : (Jvm.Cond.code ({ cls := "NetworkCenters", name := "propertyOf", desc := "(II)I" } : Jvm.MethodName) prog_1_method_30_code (3 : Nat) (Option.some Jvm.ClassFile.FieldType.int)) ∈ lw_all := lw_g (lw_at lw_m4 6 rfl) rfl
theorem q831 : (Jvm.Cond.methodLink "NetworkCenters" (196 : Nat) ({ cls := "NetworkCenters$Network", name := "degree", desc := "(I)I" } : Jvm.MethodName)) ∈ lw_all := lw_g (lw_at lw_m4 7 rfl) rfl
theorem q835 : (Jvm.Cond.methodLink "NetworkCenters" (193 : Nat) ({ cls := "NetworkCenters$Edge", name := "property", desc := "(I)I" } : Jvm.MethodName)) ∈ lw_all := lw_g (lw_at lw_m4 11 rfl) rfl
theorem q839 : (Jvm.Cond.methodLink "NetworkCenters" (203 : Nat) ({ cls := "NetworkCenters$Stretch", name := "property", desc := "(I)I" } : Jvm.MethodName)) ∈ lw_all := lw_g (lw_at lw_m4 15 rfl) rfl
theorem q843 : (Jvm.Cond.methodLink "NetworkCenters" (271 : Nat) ({ cls := "NetworkCenters$Plan", name := "isUsable", desc := "()Z" } : Jvm.MethodName)) ∈ lw_all := lw_g (lw_at lw_m4 19 rfl) rfl
theorem q848 : (Jvm.Cond.methodLink "NetworkCenters" (365 : Nat) ({ cls := "NetworkCenters", name := "mixCenters", desc := "()V" } : Jvm.MethodName)) ∈ lw_all := lw_g (lw_at lw_m4 24 rfl) rfl
theorem q849 : (Jvm.Cond.privateMethod ({ cls := "NetworkCenters", name := "mixCenters", desc := "()V" } : Jvm.MethodName)) ∈ lw_tbl := lw_at lw_m4 25 rfl
theorem q850 : (Jvm.Cond.instanceMethod ({ cls := "NetworkCenters", name := "mixCenters", desc := "()V" } : Jvm.MethodName)) ∈ lw_all := lw_g (lw_at lw_m4 26 rfl) rfl
theorem q851 : (Jvm.Cond.code ({ cls := "NetworkCenters", name := "mixCenters", desc := "()V" } : Jvm.MethodName) prog_1_method_60_code (5 : Nat) (Option.none : Option Jvm.ClassFile.FieldType)) ∈ lw_all := lw_g (lw_at lw_m4 27 rfl) rfl
theorem q852 : (Jvm.Cond.methodLink "NetworkCenters" (274 : Nat) ({ cls := "NetworkCenters$Plan", name := "radius", desc := "(II)I" } : Jvm.MethodName)) ∈ lw_all := lw_g (lw_at lw_m4 28 rfl) rfl
theorem q880 : (Jvm.Cond.fieldLinkNest "NetworkCenters" (277 : Nat) "NetworkCenters$Points" "edges" "[I" "NetworkCenters") ∈ lw_tbl := lw_at lw_m4 56 rfl
theorem q883 : (Jvm.Cond.fieldLinkNest "NetworkCenters" (255 : Nat) "NetworkCenters$Points" "above" "[I" "NetworkCenters") ∈ lw_tbl := lw_at lw_m4 59 rfl
theorem q886 : (Jvm.Cond.fieldLinkNest "NetworkCenters" (260 : Nat) "NetworkCenters$Points" "below" "[I" "NetworkCenters") ∈ lw_tbl := lw_at lw_m4 62 rfl
theorem q914 : (Jvm.Cond.fieldLinkNest "NetworkCenters" (15 : Nat) "NetworkCenters$Rising" "weight" "I" "NetworkCenters") ∈ lw_tbl := lw_at lw_m4 90 rfl
theorem q916 : (Jvm.Cond.fieldLinkNest "NetworkCenters" (25 : Nat) "NetworkCenters$Rising" "start" "I" "NetworkCenters") ∈ lw_tbl := lw_at lw_m4 92 rfl
theorem q929 : (Jvm.Cond.fieldLinkNest "NetworkCenters" (21 : Nat) "NetworkCenters$Falling" "weight" "I" "NetworkCenters") ∈ lw_tbl := lw_at lw_m4 105 rfl
theorem q931 : (Jvm.Cond.fieldLinkNest "NetworkCenters" (22 : Nat) "NetworkCenters$Falling" "end" "I" "NetworkCenters") ∈ lw_tbl := lw_at lw_m4 107 rfl
theorem q945 : (Jvm.Cond.static ({ cls := "NetworkCenters", name := "divisor", desc := "(JJ)J" } : Jvm.MethodName)) ∈ lw_all := lw_g (lw_at lw_m4 121 rfl) rfl
theorem q946 : (Jvm.Cond.code ({ cls := "NetworkCenters", name := "divisor", desc := "(JJ)J" } : Jvm.MethodName) prog_1_method_3_code (4 : Nat) (Option.some Jvm.ClassFile.FieldType.long)) ∈ lw_all := lw_g (lw_at lw_m4 122 rfl) rfl
theorem q947 : (Jvm.Cond.methodLink "NetworkCenters" (1 : Nat) ({ cls := "java/lang/Math", name := "abs", desc := "(J)J" } : Jvm.MethodName)) ∈ lw_all := lw_g (lw_at lw_m4 123 rfl) rfl
theorem q950 : (Jvm.Cond.methodLink "NetworkCenters" (7 : Nat) ({ cls := "NetworkCenters", name := "divisor", desc := "(JJ)J" } : Jvm.MethodName)) ∈ lw_all := lw_g (lw_at lw_m4 126 rfl) rfl
theorem q964 : (Jvm.Cond.static ({ cls := "NetworkCenters", name := "slope", desc := "(LNetworkCenters$Line;)I" } : Jvm.MethodName)) ∈ lw_all := lw_g (lw_at lw_m4 140 rfl) rfl
theorem q965 : (Jvm.Cond.code ({ cls := "NetworkCenters", name := "slope", desc := "(LNetworkCenters$Line;)I" } : Jvm.MethodName) prog_1_method_4_code (1 : Nat) (Option.some Jvm.ClassFile.FieldType.int)) ∈ lw_all := lw_g (lw_at lw_m4 141 rfl) rfl
theorem q966 : (Jvm.Cond.classLink "NetworkCenters" (13 : Nat) "NetworkCenters$Rising") ∈ lw_all := lw_g (lw_at lw_m4 142 rfl) rfl
theorem q967 : (Jvm.Cond.classLink "NetworkCenters" (19 : Nat) "NetworkCenters$Falling") ∈ lw_all := lw_g (lw_at lw_m4 143 rfl) rfl
theorem q969 : (Jvm.Cond.static ({ cls := "NetworkCenters", name := "atFirst", desc := "(LNetworkCenters$Line;)I" } : Jvm.MethodName)) ∈ lw_all := lw_g (lw_at lw_m4 145 rfl) rfl
theorem q970 : (Jvm.Cond.code ({ cls := "NetworkCenters", name := "atFirst", desc := "(LNetworkCenters$Line;)I" } : Jvm.MethodName) prog_1_method_5_code (2 : Nat) (Option.some Jvm.ClassFile.FieldType.int)) ∈ lw_all := lw_g (lw_at lw_m4 146 rfl) rfl
theorem q1074 : (Jvm.Cond.static ({ cls := "NetworkCenters", name := "has", desc := "(II)Z" } : Jvm.MethodName)) ∈ lw_all := lw_g (lw_at lw_m5 10 rfl) rfl
theorem q1075 : (Jvm.Cond.code ({ cls := "NetworkCenters", name := "has", desc := "(II)Z" } : Jvm.MethodName) prog_1_method_2_code (2 : Nat) (Option.some Jvm.ClassFile.FieldType.boolean)) ∈ lw_all := lw_g (lw_at lw_m5 11 rfl) rfl
theorem q1094 : (Jvm.Cond.static ({ cls := "NetworkCenters", name := "partOf", desc := "(JJI)I" } : Jvm.MethodName)) ∈ lw_all := lw_g (lw_at lw_m5 30 rfl) rfl
theorem q1095 : (Jvm.Cond.code ({ cls := "NetworkCenters", name := "partOf", desc := "(JJI)I" } : Jvm.MethodName) prog_1_method_6_code (7 : Nat) (Option.some Jvm.ClassFile.FieldType.int)) ∈ lw_all := lw_g (lw_at lw_m5 31 rfl) rfl
theorem q1096 : (Jvm.Cond.methodLink "NetworkCenters" (279 : Nat) ({ cls := "NetworkCenters$Plan", name := "center", desc := "(I)I" } : Jvm.MethodName)) ∈ lw_all := lw_g (lw_at lw_m5 32 rfl) rfl
theorem q1097 : (Jvm.Cond.methodLink "NetworkCenters" (282 : Nat) ({ cls := "NetworkCenters", name := "placeOf", desc := "(II)I" } : Jvm.MethodName)) ∈ lw_all := lw_g (lw_at lw_m5 33 rfl) rfl
theorem q1098 : (Jvm.Cond.privateMethod ({ cls := "NetworkCenters", name := "placeOf", desc := "(II)I" } : Jvm.MethodName)) ∈ lw_tbl := lw_at lw_m5 34 rfl
theorem q1099 : (Jvm.Cond.instanceMethod ({ cls := "NetworkCenters", name := "placeOf", desc := "(II)I" } : Jvm.MethodName)) ∈ lw_all := lw_g (lw_at lw_m5 35 rfl) rfl
theorem q1100 : (Jvm.Cond.code ({ cls := "NetworkCenters", name := "placeOf", desc := "(II)I" } : Jvm.MethodName) prog_1_method_43_code (3 : Nat) (Option.some Jvm.ClassFile.FieldType.int)) ∈ lw_all := lw_g (lw_at lw_m5 36 rfl) rfl
theorem q1101 : (Jvm.Cond.methodLink "NetworkCenters" (285 : Nat) ({ cls := "NetworkCenters$Plan", name := "critical", desc := "(I)I" } : Jvm.MethodName)) ∈ lw_all := lw_g (lw_at lw_m5 37 rfl) rfl
theorem q1105 : (Jvm.Cond.methodLink "NetworkCenters" (291 : Nat) ({ cls := "NetworkCenters", name := "medianOf", desc := "(I)I" } : Jvm.MethodName)) ∈ lw_all := lw_g (lw_at lw_m5 41 rfl) rfl
theorem q1106 : (Jvm.Cond.privateMethod ({ cls := "NetworkCenters", name := "medianOf", desc := "(I)I" } : Jvm.MethodName)) ∈ lw_tbl := lw_at lw_m5 42 rfl
theorem q1107 : (Jvm.Cond.instanceMethod ({ cls := "NetworkCenters", name := "medianOf", desc := "(I)I" } : Jvm.MethodName)) ∈ lw_all := lw_g (lw_at lw_m5 43 rfl) rfl
theorem q1108 : (Jvm.Cond.code ({ cls := "NetworkCenters", name := "medianOf", desc := "(I)I" } : Jvm.MethodName) prog_1_method_46_code (4 : Nat) (Option.some Jvm.ClassFile.FieldType.int)) ∈ lw_all := lw_g (lw_at lw_m5 44 rfl) rfl
theorem q1109 : (Jvm.Cond.methodLink "NetworkCenters" (288 : Nat) ({ cls := "NetworkCenters$Plan", name := "median", desc := "()I" } : Jvm.MethodName)) ∈ lw_all := lw_g (lw_at lw_m5 45 rfl) rfl
theorem q1117 : (Jvm.Cond.methodLink "NetworkCenters" (244 : Nat) ({ cls := "NetworkCenters$Plan", name := "cost", desc := "(IJJ)J" } : Jvm.MethodName)) ∈ lw_all := lw_g (lw_at lw_m5 53 rfl) rfl
theorem q1118 : (Jvm.Cond.methodLink "NetworkCenters" (230 : Nat) ({ cls := "NetworkCenters", name := "partOf", desc := "(JJI)I" } : Jvm.MethodName)) ∈ lw_all := lw_g (lw_at lw_m5 54 rfl) rfl
theorem q1119 : (Jvm.Cond.methodLink "NetworkCenters" (294 : Nat) ({ cls := "NetworkCenters$Plan", name := "deciding", desc := "(I)I" } : Jvm.MethodName)) ∈ lw_all := lw_g (lw_at lw_m5 55 rfl) rfl
theorem q1131 : (Jvm.Cond.methodLink "NetworkCenters" (267 : Nat) ({ cls := "NetworkCenters", name := "cornerOf", desc := "(III)I" } : Jvm.MethodName)) ∈ lw_all := lw_g (lw_at lw_m5 67 rfl) rfl
theorem q1132 : (Jvm.Cond.privateMethod ({ cls := "NetworkCenters", name := "cornerOf", desc := "(III)I" } : Jvm.MethodName)) ∈ lw_tbl := lw_at lw_m5 68 rfl
theorem q1133 : (Jvm.Cond.instanceMethod ({ cls := "NetworkCenters", name := "cornerOf", desc := "(III)I" } : Jvm.MethodName)) ∈ lw_all := lw_g (lw_at lw_m5 69 rfl) rfl
theorem q1134 : (Jvm.Cond.code ({ cls := "NetworkCenters", name := "cornerOf", desc := "(III)I" } : Jvm.MethodName) prog_1_method_40_code (6 : Nat) (Option.some Jvm.ClassFile.FieldType.int)) ∈ lw_all := lw_g (lw_at lw_m5 70 rfl) rfl
theorem q1135 : (Jvm.Cond.methodLink "NetworkCenters" (248 : Nat) ({ cls := "NetworkCenters$Plan", name := "corner", desc := "(II)I" } : Jvm.MethodName)) ∈ lw_all := lw_g (lw_at lw_m5 71 rfl) rfl
theorem q1147 : (Jvm.Cond.methodLinkNest "NetworkCenters" (263 : Nat) ({ cls := "NetworkCenters$Plan", name := "heightAt", desc := "(I)J" } : Jvm.MethodName) "NetworkCenters") ∈ lw_tbl := lw_at lw_m5 83 rfl
theorem q1148 : (Jvm.Cond.methodLink "NetworkCenters" (100 : Nat) ({ cls := "java/util/ArrayDeque", name := "size", desc := "()I" } : Jvm.MethodName)) ∈ lw_all := lw_g (lw_at lw_m5 84 rfl) rfl
theorem q1160 : (Jvm.Cond.instanceMethod ({ cls := "NetworkCenters", name := "reset", desc := "(I)I" } : Jvm.MethodName)) ∈ lw_all := lw_g (lw_at lw_m5 96 rfl) rfl
theorem q1161 : (Jvm.Cond.selects "NetworkCenters" ({ cls := "NetworkCenters", name := "reset", desc := "(I)I" } : Jvm.MethodName) ({ cls := "NetworkCenters", name := "reset", desc := "(I)I" } : Jvm.MethodName)) ∈ lw_all := lw_g (lw_at lw_m5 97 rfl) rfl
theorem q1162 : (Jvm.Cond.code ({ cls := "NetworkCenters", name := "reset", desc := "(I)I" } : Jvm.MethodName) prog_1_method_19_code (3 : Nat) (Option.some Jvm.ClassFile.FieldType.int)) ∈ lw_all := lw_g (lw_at lw_m5 98 rfl) rfl
theorem q1163 : (Jvm.Cond.methodLink "NetworkCenters" (87 : Nat) ({ cls := "NetworkCenters", name := "isIn", desc := "(III)Z" } : Jvm.MethodName)) ∈ lw_all := lw_g (lw_at lw_m5 99 rfl) rfl
theorem q1164 : (Jvm.Cond.methodLink "NetworkCenters" (115 : Nat) ({ cls := "NetworkCenters", name := "checkThat", desc := "(Z)V" } : Jvm.MethodName)) ∈ lw_all := lw_g (lw_at lw_m5 100 rfl) rfl
theorem q1165 : (Jvm.Cond.static ({ cls := "NetworkCenters", name := "checkThat", desc := "(Z)V" } : Jvm.MethodName)) ∈ lw_all := lw_g (lw_at lw_m5 101 rfl) rfl
theorem q1166 : (Jvm.Cond.code ({ cls := "NetworkCenters", name := "checkThat", desc := "(Z)V" } : Jvm.MethodName) prog_1_method_9_code (1 : Nat) (Option.none : Option Jvm.ClassFile.FieldType)) ∈ lw_all := lw_g (lw_at lw_m5 102 rfl) rfl
theorem q1167 : (Jvm.Cond.classLink "NetworkCenters" (69 : Nat) "java/lang/IllegalArgumentException") ∈ lw_all := lw_g (lw_at lw_m5 103 rfl) rfl
theorem q1168 : (Jvm.Cond.methodLink "NetworkCenters" (71 : Nat) ({ cls := "java/lang/IllegalArgumentException", name := "<init>", desc := "()V" } : Jvm.MethodName)) ∈ lw_all := lw_g (lw_at lw_m5 104 rfl) rfl
theorem q1178 : (Jvm.Cond.methodLink "NetworkCenters" (118 : Nat) ({ cls := "NetworkCenters", name := "become", desc := "(LNetworkCenters$Network;)V" } : Jvm.MethodName)) ∈ lw_all := lw_g (lw_at lw_m5 114 rfl) rfl
theorem q1179 : (Jvm.Cond.privateMethod ({ cls := "NetworkCenters", name := "become", desc := "(LNetworkCenters$Network;)V" } : Jvm.MethodName)) ∈ lw_tbl := lw_at lw_m5 115 rfl
theorem q1180 : (Jvm.Cond.instanceMethod ({ cls := "NetworkCenters", name := "become", desc := "(LNetworkCenters$Network;)V" } : Jvm.MethodName)) ∈ lw_all := lw_g (lw_at lw_m5 116 rfl) rfl
theorem q1181 : (Jvm.Cond.code ({ cls := "NetworkCenters", name := "become", desc := "(LNetworkCenters$Network;)V" } : Jvm.MethodName) prog_1_method_18_code (2 : Nat) (Option.none : Option Jvm.ClassFile.FieldType)) ∈ lw_all := lw_g (lw_at lw_m5 117 rfl) rfl
theorem q1182 : (Jvm.Cond.methodLink "NetworkCenters" (109 : Nat) ({ cls := "NetworkCenters", name := "save", desc := "()V" } : Jvm.MethodName)) ∈ lw_all := lw_g (lw_at lw_m5 118 rfl) rfl
theorem q1183 : (Jvm.Cond.privateMethod ({ cls := "NetworkCenters", name := "save", desc := "()V" } : Jvm.MethodName)) ∈ lw_tbl := lw_at lw_m5 119 rfl
theorem q1184 : (Jvm.Cond.instanceMethod ({ cls := "NetworkCenters", name := "save", desc := "()V" } : Jvm.MethodName)) ∈ lw_all := lw_g (lw_at lw_m5 120 rfl) rfl
theorem q1185 : (Jvm.Cond.code ({ cls := "NetworkCenters", name := "save", desc := "()V" } : Jvm.MethodName) prog_1_method_17_code (1 : Nat) (Option.none : Option Jvm.ClassFile.FieldType)) ∈ lw_all := lw_g (lw_at lw_m5 121 rfl) rfl
theorem q1186 : (Jvm.Cond.methodLink "NetworkCenters" (101 : Nat) ({ cls := "java/util/ArrayDeque", name := "removeFirst", desc := "()Ljava/lang/Object;" } : Jvm.MethodName)) ∈ lw_all := lw_g (lw_at lw_m5 122 rfl) rfl
theorem q1200 : (Jvm.Cond.methodLink "NetworkCenters" (105 : Nat) ({ cls := "java/util/ArrayDeque", name := "addLast", desc := "(Ljava/lang/Object;)V" } : Jvm.MethodName)) ∈ lw_all := lw_g (lw_at lw_m5 136 rfl) rfl
theorem q1236 : (Jvm.Cond.selects "NetworkCenters" ({ cls := "java/lang/Object", name := "getClass", desc := "()Ljava/lang/Class;" } : Jvm.MethodName) ({ cls := "java/lang/Object", name := "getClass", desc := "()Ljava/lang/Class;" } : Jvm.MethodName)) ∈ lw_all := lw_g (lw_at lw_m5 172 rfl) rfl
theorem q1273 : (Jvm.Cond.methodLink "NetworkCenters" (112 : Nat) ({ cls := "NetworkCenters", name := "stand", desc := "(LNetworkCenters$Network;)V" } : Jvm.MethodName)) ∈ lw_all := lw_g (lw_at lw_m5 209 rfl) rfl
theorem q1274 : (Jvm.Cond.privateMethod ({ cls := "NetworkCenters", name := "stand", desc := "(LNetworkCenters$Network;)V" } : Jvm.MethodName)) ∈ lw_tbl := lw_at lw_m5 210 rfl
theorem q1275 : (Jvm.Cond.instanceMethod ({ cls := "NetworkCenters", name := "stand", desc := "(LNetworkCenters$Network;)V" } : Jvm.MethodName)) ∈ lw_all := lw_g (lw_at lw_m5 211 rfl) rfl
theorem q1276 : (Jvm.Cond.code ({ cls := "NetworkCenters", name := "stand", desc := "(LNetworkCenters$Network;)V" } : Jvm.MethodName) prog_1_method_16_code (2 : Nat) (Option.none : Option Jvm.ClassFile.FieldType)) ∈ lw_all := lw_g (lw_at lw_m5 212 rfl) rfl
theorem q1285 : (Jvm.Cond.instanceMethod ({ cls := "NetworkCenters", name := "connect", desc := "(III)I" } : Jvm.MethodName)) ∈ lw_all := lw_g (lw_at lw_m5 221 rfl) rfl
theorem q1286 : (Jvm.Cond.selects "NetworkCenters" ({ cls := "NetworkCenters", name := "connect", desc := "(III)I" } : Jvm.MethodName) ({ cls := "NetworkCenters", name := "connect", desc := "(III)I" } : Jvm.MethodName)) ∈ lw_all := lw_g (lw_at lw_m5 222 rfl) rfl
theorem q1287 : (Jvm.Cond.code ({ cls := "NetworkCenters", name := "connect", desc := "(III)I" } : Jvm.MethodName) prog_1_method_20_code (4 : Nat) (Option.some Jvm.ClassFile.FieldType.int)) ∈ lw_all := lw_g (lw_at lw_m5 223 rfl) rfl
theorem q1288 : (Jvm.Cond.methodLink "NetworkCenters" (121 : Nat) ({ cls := "NetworkCenters", name := "checkNode", desc := "(I)V" } : Jvm.MethodName)) ∈ lw_all := lw_g (lw_at lw_m5 224 rfl) rfl
theorem q1289 : (Jvm.Cond.privateMethod ({ cls := "NetworkCenters", name := "checkNode", desc := "(I)V" } : Jvm.MethodName)) ∈ lw_tbl := lw_at lw_m5 225 rfl
theorem q1290 : (Jvm.Cond.instanceMethod ({ cls := "NetworkCenters", name := "checkNode", desc := "(I)V" } : Jvm.MethodName)) ∈ lw_all := lw_g (lw_at lw_m5 226 rfl) rfl
theorem q1291 : (Jvm.Cond.code ({ cls := "NetworkCenters", name := "checkNode", desc := "(I)V" } : Jvm.MethodName) prog_1_method_11_code (2 : Nat) (Option.none : Option Jvm.ClassFile.FieldType)) ∈ lw_all := lw_g (lw_at lw_m5 227 rfl) rfl
theorem q1292 : (Jvm.Cond.methodLink "NetworkCenters" (75 : Nat) ({ cls := "NetworkCenters$Network", name := "isNode", desc := "(I)Z" } : Jvm.MethodName)) ∈ lw_all := lw_g (lw_at lw_m5 228 rfl) rfl
theorem q1298 : (Jvm.Cond.methodLink "NetworkCenters" (79 : Nat) ({ cls := "NetworkCenters", name := "checkIndex", desc := "(Z)V" } : Jvm.MethodName)) ∈ lw_all := lw_g (lw_at lw_m5 234 rfl) rfl
theorem q1299 : (Jvm.Cond.static ({ cls := "NetworkCenters", name := "checkIndex", desc := "(Z)V" } : Jvm.MethodName)) ∈ lw_all := lw_g (lw_at lw_m5 235 rfl) rfl
theorem q1300 : (Jvm.Cond.code ({ cls := "NetworkCenters", name := "checkIndex", desc := "(Z)V" } : Jvm.MethodName) prog_1_method_8_code (1 : Nat) (Option.none : Option Jvm.ClassFile.FieldType)) ∈ lw_all := lw_g (lw_at lw_m5 236 rfl) rfl
theorem q1301 : (Jvm.Cond.classLink "NetworkCenters" (66 : Nat) "java/lang/IndexOutOfBoundsException") ∈ lw_all := lw_g (lw_at lw_m5 237 rfl) rfl
theorem q1302 : (Jvm.Cond.methodLink "NetworkCenters" (68 : Nat) ({ cls := "java/lang/IndexOutOfBoundsException", name := "<init>", desc := "()V" } : Jvm.MethodName)) ∈ lw_all := lw_g (lw_at lw_m5 238 rfl) rfl
theorem q1306 : (Jvm.Cond.methodLink "NetworkCenters" (124 : Nat) ({ cls := "NetworkCenters$Network", name := "mayConnect", desc := "(III)Z" } : Jvm.MethodName)) ∈ lw_all := lw_g (lw_at lw_m6 2 rfl) rfl
theorem q1310 : (Jvm.Cond.methodLink "NetworkCenters" (127 : Nat) ({ cls := "NetworkCenters$Network", name := "hasRoomFor", desc := "(II)Z" } : Jvm.MethodName)) ∈ lw_all := lw_g (lw_at lw_m6 6 rfl) rfl
theorem q1322 : (Jvm.Cond.methodLink "NetworkCenters" (131 : Nat) ({ cls := "NetworkCenters", name := "checkState", desc := "(Z)V" } : Jvm.MethodName)) ∈ lw_all := lw_g (lw_at lw_m6 18 rfl) rfl
theorem q1323 : (Jvm.Cond.static ({ cls := "NetworkCenters", name := "checkState", desc := "(Z)V" } : Jvm.MethodName)) ∈ lw_all := lw_g (lw_at lw_m6 19 rfl) rfl
theorem q1324 : (Jvm.Cond.code ({ cls := "NetworkCenters", name := "checkState", desc := "(Z)V" } : Jvm.MethodName) prog_1_method_10_code (1 : Nat) (Option.none : Option Jvm.ClassFile.FieldType)) ∈ lw_all := lw_g (lw_at lw_m6 20 rfl) rfl
theorem q1325 : (Jvm.Cond.classLink "NetworkCenters" (72 : Nat) "java/lang/IllegalStateException") ∈ lw_all := lw_g (lw_at lw_m6 21 rfl) rfl
theorem q1326 : (Jvm.Cond.methodLink "NetworkCenters" (74 : Nat) ({ cls := "java/lang/IllegalStateException", name := "<init>", desc := "()V" } : Jvm.MethodName)) ∈ lw_all := lw_g (lw_at lw_m6 22 rfl) rfl
theorem q1330 : (Jvm.Cond.classLink "NetworkCenters" (92 : Nat) "NetworkCenters$Edge") ∈ lw_all := lw_g (lw_at lw_m6 26 rfl) rfl
theorem q1332 : (Jvm.Cond.methodLink "NetworkCenters" (134 : Nat) ({ cls := "NetworkCenters$Edge", name := "<init>", desc := "(III)V" } : Jvm.MethodName)) ∈ lw_all := lw_g (lw_at lw_m6 28 rfl) rfl
theorem q1339 : (Jvm.Cond.fieldLinkNest "NetworkCenters" (208 : Nat) "NetworkCenters$Edge" "a" "I" "NetworkCenters") ∈ lw_tbl := lw_at lw_m6 35 rfl
theorem q1343 : (Jvm.Cond.fieldLinkNest "NetworkCenters" (211 : Nat) "NetworkCenters$Edge" "b" "I" "NetworkCenters") ∈ lw_tbl := lw_at lw_m6 39 rfl
theorem q1346 : (Jvm.Cond.fieldLinkNest "NetworkCenters" (91 : Nat) "NetworkCenters$Edge" "length" "I" "NetworkCenters") ∈ lw_tbl := lw_at lw_m6 42 rfl
theorem q1355 : (Jvm.Cond.methodLink "NetworkCenters" (137 : Nat) ({ cls := "NetworkCenters$Network", name := "withEdge", desc := "(LNetworkCenters$Edge;)LNetworkCenters$Network;" } : Jvm.MethodName)) ∈ lw_all := lw_g (lw_at lw_m6 51 rfl) rfl
theorem q1365 : (Jvm.Cond.instanceMethod ({ cls := "NetworkCenters", name := "disconnect", desc := "(I)I" } : Jvm.MethodName)) ∈ lw_all := lw_g (lw_at lw_m6 61 rfl) rfl
theorem q1366 : (Jvm.Cond.selects "NetworkCenters" ({ cls := "NetworkCenters", name := "disconnect", desc := "(I)I" } : Jvm.MethodName) ({ cls := "NetworkCenters", name := "disconnect", desc := "(I)I" } : Jvm.MethodName)) ∈ lw_all := lw_g (lw_at lw_m6 62 rfl) rfl
theorem q1367 : (Jvm.Cond.code ({ cls := "NetworkCenters", name := "disconnect", desc := "(I)I" } : Jvm.MethodName) prog_1_method_21_code (3 : Nat) (Option.some Jvm.ClassFile.FieldType.int)) ∈ lw_all := lw_g (lw_at lw_m6 63 rfl) rfl
theorem q1368 : (Jvm.Cond.methodLink "NetworkCenters" (141 : Nat) ({ cls := "NetworkCenters", name := "checkEdge", desc := "(I)V" } : Jvm.MethodName)) ∈ lw_all := lw_g (lw_at lw_m6 64 rfl) rfl
theorem q1369 : (Jvm.Cond.privateMethod ({ cls := "NetworkCenters", name := "checkEdge", desc := "(I)V" } : Jvm.MethodName)) ∈ lw_tbl := lw_at lw_m6 65 rfl
theorem q1370 : (Jvm.Cond.instanceMethod ({ cls := "NetworkCenters", name := "checkEdge", desc := "(I)V" } : Jvm.MethodName)) ∈ lw_all := lw_g (lw_at lw_m6 66 rfl) rfl
theorem q1371 : (Jvm.Cond.code ({ cls := "NetworkCenters", name := "checkEdge", desc := "(I)V" } : Jvm.MethodName) prog_1_method_12_code (2 : Nat) (Option.none : Option Jvm.ClassFile.FieldType)) ∈ lw_all := lw_g (lw_at lw_m6 67 rfl) rfl
theorem q1372 : (Jvm.Cond.methodLink "NetworkCenters" (148 : Nat) ({ cls := "NetworkCenters$Network", name := "withoutEdge", desc := "(I)LNetworkCenters$Network;" } : Jvm.MethodName)) ∈ lw_all := lw_g (lw_at lw_m6 68 rfl) rfl
theorem q1687 : (Jvm.Cond.fieldLinkNest "NetworkCenters" (179 : Nat) "NetworkCenters$Stretch" "edge" "I" "NetworkCenters") ∈ lw_tbl := lw_at lw_m7 143 rfl
theorem q1705 : (Jvm.Cond.instanceMethod ({ cls := "NetworkCenters", name := "setWeight", desc := "(II)I" } : Jvm.MethodName)) ∈ lw_all := lw_g (lw_at lw_m7 161 rfl) rfl
theorem q1706 : (Jvm.Cond.selects "NetworkCenters" ({ cls := "NetworkCenters", name := "setWeight", desc := "(II)I" } : Jvm.MethodName) ({ cls := "NetworkCenters", name := "setWeight", desc := "(II)I" } : Jvm.MethodName)) ∈ lw_all := lw_g (lw_at lw_m7 162 rfl) rfl
theorem q1707 : (Jvm.Cond.code ({ cls := "NetworkCenters", name := "setWeight", desc := "(II)I" } : Jvm.MethodName) prog_1_method_22_code (4 : Nat) (Option.some Jvm.ClassFile.FieldType.int)) ∈ lw_all := lw_g (lw_at lw_m7 163 rfl) rfl
theorem q1708 : (Jvm.Cond.methodLink "NetworkCenters" (156 : Nat) ({ cls := "NetworkCenters$Network", name := "withWeight", desc := "(II)LNetworkCenters$Network;" } : Jvm.MethodName)) ∈ lw_all := lw_g (lw_at lw_m7 164 rfl) rfl
theorem q1724 : (Jvm.Cond.instanceMethod ({ cls := "NetworkCenters", name := "setTrend", desc := "(II)I" } : Jvm.MethodName)) ∈ lw_all := lw_g (lw_at lw_m7 180 rfl) rfl
theorem q1725 : (Jvm.Cond.selects "NetworkCenters" ({ cls := "NetworkCenters", name := "setTrend", desc := "(II)I" } : Jvm.MethodName) ({ cls := "NetworkCenters", name := "setTrend", desc := "(II)I" } : Jvm.MethodName)) ∈ lw_all := lw_g (lw_at lw_m7 181 rfl) rfl
theorem q1726 : (Jvm.Cond.code ({ cls := "NetworkCenters", name := "setTrend", desc := "(II)I" } : Jvm.MethodName) prog_1_method_23_code (4 : Nat) (Option.some Jvm.ClassFile.FieldType.int)) ∈ lw_all := lw_g (lw_at lw_m7 182 rfl) rfl
theorem q1727 : (Jvm.Cond.methodLink "NetworkCenters" (163 : Nat) ({ cls := "NetworkCenters$Network", name := "withTrend", desc := "(II)LNetworkCenters$Network;" } : Jvm.MethodName)) ∈ lw_all := lw_g (lw_at lw_m7 183 rfl) rfl
theorem q1735 : (Jvm.Cond.instanceMethod ({ cls := "NetworkCenters", name := "forbid", desc := "(III)I" } : Jvm.MethodName)) ∈ lw_all := lw_g (lw_at lw_m7 191 rfl) rfl
theorem q1736 : (Jvm.Cond.selects "NetworkCenters" ({ cls := "NetworkCenters", name := "forbid", desc := "(III)I" } : Jvm.MethodName) ({ cls := "NetworkCenters", name := "forbid", desc := "(III)I" } : Jvm.MethodName)) ∈ lw_all := lw_g (lw_at lw_m7 192 rfl) rfl
theorem q1737 : (Jvm.Cond.code ({ cls := "NetworkCenters", name := "forbid", desc := "(III)I" } : Jvm.MethodName) prog_1_method_24_code (4 : Nat) (Option.some Jvm.ClassFile.FieldType.int)) ∈ lw_all := lw_g (lw_at lw_m7 193 rfl) rfl
theorem q1738 : (Jvm.Cond.methodLink "NetworkCenters" (166 : Nat) ({ cls := "NetworkCenters$Network", name := "mayForbid", desc := "(III)Z" } : Jvm.MethodName)) ∈ lw_all := lw_g (lw_at lw_m7 194 rfl) rfl
theorem q1742 : (Jvm.Cond.classLink "NetworkCenters" (169 : Nat) "NetworkCenters$Stretch") ∈ lw_all := lw_g (lw_at lw_m7 198 rfl) rfl
theorem q1743 : (Jvm.Cond.methodLink "NetworkCenters" (171 : Nat) ({ cls := "NetworkCenters$Stretch", name := "<init>", desc := "(III)V" } : Jvm.MethodName)) ∈ lw_all := lw_g (lw_at lw_m7 199 rfl) rfl
theorem q1744 : (Jvm.Cond.methodLink "NetworkCenters" (172 : Nat) ({ cls := "NetworkCenters$Network", name := "withStretch", desc := "(LNetworkCenters$Stretch;)LNetworkCenters$Network;" } : Jvm.MethodName)) ∈ lw_all := lw_g (lw_at lw_m7 200 rfl) rfl
theorem q1752 : (Jvm.Cond.instanceMethod ({ cls := "NetworkCenters", name := "allow", desc := "(I)I" } : Jvm.MethodName)) ∈ lw_all := lw_g (lw_at lw_m7 208 rfl) rfl
theorem q1753 : (Jvm.Cond.selects "NetworkCenters" ({ cls := "NetworkCenters", name := "allow", desc := "(I)I" } : Jvm.MethodName) ({ cls := "NetworkCenters", name := "allow", desc := "(I)I" } : Jvm.MethodName)) ∈ lw_all := lw_g (lw_at lw_m7 209 rfl) rfl
theorem q1754 : (Jvm.Cond.code ({ cls := "NetworkCenters", name := "allow", desc := "(I)I" } : Jvm.MethodName) prog_1_method_26_code (3 : Nat) (Option.some Jvm.ClassFile.FieldType.int)) ∈ lw_all := lw_g (lw_at lw_m7 210 rfl) rfl
theorem q1755 : (Jvm.Cond.methodLink "NetworkCenters" (176 : Nat) ({ cls := "NetworkCenters", name := "checkStretch", desc := "(I)V" } : Jvm.MethodName)) ∈ lw_all := lw_g (lw_at lw_m7 211 rfl) rfl
theorem q1756 : (Jvm.Cond.privateMethod ({ cls := "NetworkCenters", name := "checkStretch", desc := "(I)V" } : Jvm.MethodName)) ∈ lw_tbl := lw_at lw_m7 212 rfl
theorem q1757 : (Jvm.Cond.instanceMethod ({ cls := "NetworkCenters", name := "checkStretch", desc := "(I)V" } : Jvm.MethodName)) ∈ lw_all := lw_g (lw_at lw_m7 213 rfl) rfl
theorem q1758 : (Jvm.Cond.code ({ cls := "NetworkCenters", name := "checkStretch", desc := "(I)V" } : Jvm.MethodName) prog_1_method_25_code (2 : Nat) (Option.none : Option Jvm.ClassFile.FieldType)) ∈ lw_all := lw_g (lw_at lw_m7 214 rfl) rfl
theorem q1759 : (Jvm.Cond.methodLink "NetworkCenters" (182 : Nat) ({ cls := "NetworkCenters$Network", name := "withoutStretch", desc := "(I)LNetworkCenters$Network;" } : Jvm.MethodName)) ∈ lw_all := lw_g (lw_at lw_m7 215 rfl) rfl
theorem q1767 : (Jvm.Cond.instanceMethod ({ cls := "NetworkCenters", name := "count", desc := "(I)I" } : Jvm.MethodName)) ∈ lw_all := lw_g (lw_at lw_m7 223 rfl) rfl
theorem q1768 : (Jvm.Cond.selects "NetworkCenters" ({ cls := "NetworkCenters", name := "count", desc := "(I)I" } : Jvm.MethodName) ({ cls := "NetworkCenters", name := "count", desc := "(I)I" } : Jvm.MethodName)) ∈ lw_all := lw_g (lw_at lw_m7 224 rfl) rfl
theorem q1769 : (Jvm.Cond.code ({ cls := "NetworkCenters", name := "count", desc := "(I)I" } : Jvm.MethodName) prog_1_method_28_code (2 : Nat) (Option.some Jvm.ClassFile.FieldType.int)) ∈ lw_all := lw_g (lw_at lw_m7 225 rfl) rfl
theorem q1774 : (Jvm.Cond.instanceMethod ({ cls := "NetworkCenters", name := "edge", desc := "(II)I" } : Jvm.MethodName)) ∈ lw_all := lw_g (lw_at lw_m7 230 rfl) rfl
theorem q1775 : (Jvm.Cond.selects "NetworkCenters" ({ cls := "NetworkCenters", name := "edge", desc := "(II)I" } : Jvm.MethodName) ({ cls := "NetworkCenters", name := "edge", desc := "(II)I" } : Jvm.MethodName)) ∈ lw_all := lw_g (lw_at lw_m7 231 rfl) rfl
theorem q1776 : (Jvm.Cond.code ({ cls := "NetworkCenters", name := "edge", desc := "(II)I" } : Jvm.MethodName) prog_1_method_29_code (3 : Nat) (Option.some Jvm.ClassFile.FieldType.int)) ∈ lw_all := lw_g (lw_at lw_m7 232 rfl) rfl
theorem q1781 : (Jvm.Cond.instanceMethod ({ cls := "NetworkCenters", name := "node", desc := "(II)I" } : Jvm.MethodName)) ∈ lw_all := lw_g (lw_at lw_m7 237 rfl) rfl
theorem q1782 : (Jvm.Cond.selects "NetworkCenters" ({ cls := "NetworkCenters", name := "node", desc := "(II)I" } : Jvm.MethodName) ({ cls := "NetworkCenters", name := "node", desc := "(II)I" } : Jvm.MethodName)) ∈ lw_all := lw_g (lw_at lw_m7 238 rfl) rfl
theorem q1783 : (Jvm.Cond.code ({ cls := "NetworkCenters", name := "node", desc := "(II)I" } : Jvm.MethodName) prog_1_method_31_code (3 : Nat) (Option.some Jvm.ClassFile.FieldType.int)) ∈ lw_all := lw_g (lw_at lw_m7 239 rfl) rfl
theorem q1788 : (Jvm.Cond.instanceMethod ({ cls := "NetworkCenters", name := "stretch", desc := "(II)I" } : Jvm.MethodName)) ∈ lw_all := lw_g (lw_at lw_m8 4 rfl) rfl
theorem q1789 : (Jvm.Cond.selects "NetworkCenters" ({ cls := "NetworkCenters", name := "stretch", desc := "(II)I" } : Jvm.MethodName) ({ cls := "NetworkCenters", name := "stretch", desc := "(II)I" } : Jvm.MethodName)) ∈ lw_all := lw_g (lw_at lw_m8 5 rfl) rfl
theorem q1790 : (Jvm.Cond.code ({ cls := "NetworkCenters", name := "stretch", desc := "(II)I" } : Jvm.MethodName) prog_1_method_32_code (3 : Nat) (Option.some Jvm.ClassFile.FieldType.int)) ∈ lw_all := lw_g (lw_at lw_m8 6 rfl) rfl
theorem q1795 : (Jvm.Cond.instanceMethod ({ cls := "NetworkCenters", name := "distance", desc := "(II)I" } : Jvm.MethodName)) ∈ lw_all := lw_g (lw_at lw_m8 11 rfl) rfl
theorem q1796 : (Jvm.Cond.selects "NetworkCenters" ({ cls := "NetworkCenters", name := "distance", desc := "(II)I" } : Jvm.MethodName) ({ cls := "NetworkCenters", name := "distance", desc := "(II)I" } : Jvm.MethodName)) ∈ lw_all := lw_g (lw_at lw_m8 12 rfl) rfl
theorem q1797 : (Jvm.Cond.code ({ cls := "NetworkCenters", name := "distance", desc := "(II)I" } : Jvm.MethodName) prog_1_method_33_code (3 : Nat) (Option.some Jvm.ClassFile.FieldType.int)) ∈ lw_all := lw_g (lw_at lw_m8 13 rfl) rfl
theorem q1798 : (Jvm.Cond.methodLink "NetworkCenters" (204 : Nat) ({ cls := "NetworkCenters$Plan", name := "distance", desc := "(II)I" } : Jvm.MethodName)) ∈ lw_all := lw_g (lw_at lw_m8 14 rfl) rfl
theorem q1803 : (Jvm.Cond.instanceMethod ({ cls := "NetworkCenters", name := "next", desc := "(II)I" } : Jvm.MethodName)) ∈ lw_all := lw_g (lw_at lw_m8 19 rfl) rfl
theorem q1804 : (Jvm.Cond.selects "NetworkCenters" ({ cls := "NetworkCenters", name := "next", desc := "(II)I" } : Jvm.MethodName) ({ cls := "NetworkCenters", name := "next", desc := "(II)I" } : Jvm.MethodName)) ∈ lw_all := lw_g (lw_at lw_m8 20 rfl) rfl
theorem q1805 : (Jvm.Cond.code ({ cls := "NetworkCenters", name := "next", desc := "(II)I" } : Jvm.MethodName) prog_1_method_34_code (8 : Nat) (Option.some Jvm.ClassFile.FieldType.int)) ∈ lw_all := lw_g (lw_at lw_m8 21 rfl) rfl
theorem q1810 : (Jvm.Cond.instanceMethod ({ cls := "NetworkCenters", name := "distanceTo", desc := "(IIIII)I" } : Jvm.MethodName)) ∈ lw_all := lw_g (lw_at lw_m8 26 rfl) rfl
theorem q1811 : (Jvm.Cond.selects "NetworkCenters" ({ cls := "NetworkCenters", name := "distanceTo", desc := "(IIIII)I" } : Jvm.MethodName) ({ cls := "NetworkCenters", name := "distanceTo", desc := "(IIIII)I" } : Jvm.MethodName)) ∈ lw_all := lw_g (lw_at lw_m8 27 rfl) rfl
theorem q1812 : (Jvm.Cond.code ({ cls := "NetworkCenters", name := "distanceTo", desc := "(IIIII)I" } : Jvm.MethodName) prog_1_method_36_code (6 : Nat) (Option.some Jvm.ClassFile.FieldType.int)) ∈ lw_all := lw_g (lw_at lw_m8 28 rfl) rfl
theorem q1813 : (Jvm.Cond.methodLink "NetworkCenters" (220 : Nat) ({ cls := "NetworkCenters", name := "isPoint", desc := "(III)Z" } : Jvm.MethodName)) ∈ lw_all := lw_g (lw_at lw_m8 29 rfl) rfl
theorem q1814 : (Jvm.Cond.privateMethod ({ cls := "NetworkCenters", name := "isPoint", desc := "(III)Z" } : Jvm.MethodName)) ∈ lw_tbl := lw_at lw_m8 30 rfl
theorem q1815 : (Jvm.Cond.instanceMethod ({ cls := "NetworkCenters", name := "isPoint", desc := "(III)Z" } : Jvm.MethodName)) ∈ lw_all := lw_g (lw_at lw_m8 31 rfl) rfl
theorem q1816 : (Jvm.Cond.code ({ cls := "NetworkCenters", name := "isPoint", desc := "(III)Z" } : Jvm.MethodName) prog_1_method_13_code (4 : Nat) (Option.some Jvm.ClassFile.FieldType.boolean)) ∈ lw_all := lw_g (lw_at lw_m8 32 rfl) rfl
theorem q1817 : (Jvm.Cond.methodLink "NetworkCenters" (223 : Nat) ({ cls := "NetworkCenters", name := "isPart", desc := "(I)Z" } : Jvm.MethodName)) ∈ lw_all := lw_g (lw_at lw_m8 33 rfl) rfl
theorem q1818 : (Jvm.Cond.static ({ cls := "NetworkCenters", name := "isPart", desc := "(I)Z" } : Jvm.MethodName)) ∈ lw_all := lw_g (lw_at lw_m8 34 rfl) rfl
theorem q1819 : (Jvm.Cond.code ({ cls := "NetworkCenters", name := "isPart", desc := "(I)Z" } : Jvm.MethodName) prog_1_method_15_code (1 : Nat) (Option.some Jvm.ClassFile.FieldType.boolean)) ∈ lw_all := lw_g (lw_at lw_m8 35 rfl) rfl
theorem q1820 : (Jvm.Cond.methodLink "NetworkCenters" (226 : Nat) ({ cls := "NetworkCenters$Plan", name := "distanceTo", desc := "(IIJJ)J" } : Jvm.MethodName)) ∈ lw_all := lw_g (lw_at lw_m8 36 rfl) rfl
theorem q1825 : (Jvm.Cond.instanceMethod ({ cls := "NetworkCenters", name := "isAllowed", desc := "(III)Z" } : Jvm.MethodName)) ∈ lw_all := lw_g (lw_at lw_m8 41 rfl) rfl
theorem q1826 : (Jvm.Cond.selects "NetworkCenters" ({ cls := "NetworkCenters", name := "isAllowed", desc := "(III)Z" } : Jvm.MethodName) ({ cls := "NetworkCenters", name := "isAllowed", desc := "(III)Z" } : Jvm.MethodName)) ∈ lw_all := lw_g (lw_at lw_m8 42 rfl) rfl
theorem q1827 : (Jvm.Cond.code ({ cls := "NetworkCenters", name := "isAllowed", desc := "(III)Z" } : Jvm.MethodName) prog_1_method_37_code (4 : Nat) (Option.some Jvm.ClassFile.FieldType.boolean)) ∈ lw_all := lw_g (lw_at lw_m8 43 rfl) rfl
theorem q1828 : (Jvm.Cond.methodLink "NetworkCenters" (234 : Nat) ({ cls := "NetworkCenters$Network", name := "isAllowed", desc := "(IJJ)Z" } : Jvm.MethodName)) ∈ lw_all := lw_g (lw_at lw_m8 44 rfl) rfl
theorem q1833 : (Jvm.Cond.instanceMethod ({ cls := "NetworkCenters", name := "height", desc := "(IIIII)I" } : Jvm.MethodName)) ∈ lw_all := lw_g (lw_at lw_m8 49 rfl) rfl
theorem q1834 : (Jvm.Cond.selects "NetworkCenters" ({ cls := "NetworkCenters", name := "height", desc := "(IIIII)I" } : Jvm.MethodName) ({ cls := "NetworkCenters", name := "height", desc := "(IIIII)I" } : Jvm.MethodName)) ∈ lw_all := lw_g (lw_at lw_m8 50 rfl) rfl
theorem q1835 : (Jvm.Cond.code ({ cls := "NetworkCenters", name := "height", desc := "(IIIII)I" } : Jvm.MethodName) prog_1_method_38_code (6 : Nat) (Option.some Jvm.ClassFile.FieldType.int)) ∈ lw_all := lw_g (lw_at lw_m8 51 rfl) rfl
theorem q1836 : (Jvm.Cond.methodLink "NetworkCenters" (238 : Nat) ({ cls := "NetworkCenters", name := "isSet", desc := "(I)Z" } : Jvm.MethodName)) ∈ lw_all := lw_g (lw_at lw_m8 52 rfl) rfl
theorem q1837 : (Jvm.Cond.privateMethod ({ cls := "NetworkCenters", name := "isSet", desc := "(I)Z" } : Jvm.MethodName)) ∈ lw_tbl := lw_at lw_m8 53 rfl
theorem q1838 : (Jvm.Cond.instanceMethod ({ cls := "NetworkCenters", name := "isSet", desc := "(I)Z" } : Jvm.MethodName)) ∈ lw_all := lw_g (lw_at lw_m8 54 rfl) rfl
theorem q1839 : (Jvm.Cond.code ({ cls := "NetworkCenters", name := "isSet", desc := "(I)Z" } : Jvm.MethodName) prog_1_method_14_code (2 : Nat) (Option.some Jvm.ClassFile.FieldType.boolean)) ∈ lw_all := lw_g (lw_at lw_m8 55 rfl) rfl
theorem q1840 : (Jvm.Cond.methodLink "NetworkCenters" (241 : Nat) ({ cls := "NetworkCenters$Plan", name := "height", desc := "(IIJJ)J" } : Jvm.MethodName)) ∈ lw_all := lw_g (lw_at lw_m8 56 rfl) rfl
theorem q1845 : (Jvm.Cond.instanceMethod ({ cls := "NetworkCenters", name := "cost", desc := "(IIII)I" } : Jvm.MethodName)) ∈ lw_all := lw_g (lw_at lw_m8 61 rfl) rfl
theorem q1846 : (Jvm.Cond.selects "NetworkCenters" ({ cls := "NetworkCenters", name := "cost", desc := "(IIII)I" } : Jvm.MethodName) ({ cls := "NetworkCenters", name := "cost", desc := "(IIII)I" } : Jvm.MethodName)) ∈ lw_all := lw_g (lw_at lw_m8 62 rfl) rfl
theorem q1847 : (Jvm.Cond.code ({ cls := "NetworkCenters", name := "cost", desc := "(IIII)I" } : Jvm.MethodName) prog_1_method_39_code (5 : Nat) (Option.some Jvm.ClassFile.FieldType.int)) ∈ lw_all := lw_g (lw_at lw_m8 63 rfl) rfl
theorem q1852 : (Jvm.Cond.instanceMethod ({ cls := "NetworkCenters", name := "corner", desc := "(III)I" } : Jvm.MethodName)) ∈ lw_all := lw_g (lw_at lw_m8 68 rfl) rfl
theorem q1853 : (Jvm.Cond.selects "NetworkCenters" ({ cls := "NetworkCenters", name := "corner", desc := "(III)I" } : Jvm.MethodName) ({ cls := "NetworkCenters", name := "corner", desc := "(III)I" } : Jvm.MethodName)) ∈ lw_all := lw_g (lw_at lw_m8 69 rfl) rfl
theorem q1854 : (Jvm.Cond.code ({ cls := "NetworkCenters", name := "corner", desc := "(III)I" } : Jvm.MethodName) prog_1_method_41_code (4 : Nat) (Option.some Jvm.ClassFile.FieldType.int)) ∈ lw_all := lw_g (lw_at lw_m8 70 rfl) rfl
theorem q1859 : (Jvm.Cond.instanceMethod ({ cls := "NetworkCenters", name := "radius", desc := "(II)I" } : Jvm.MethodName)) ∈ lw_all := lw_g (lw_at lw_m8 75 rfl) rfl
theorem q1860 : (Jvm.Cond.selects "NetworkCenters" ({ cls := "NetworkCenters", name := "radius", desc := "(II)I" } : Jvm.MethodName) ({ cls := "NetworkCenters", name := "radius", desc := "(II)I" } : Jvm.MethodName)) ∈ lw_all := lw_g (lw_at lw_m8 76 rfl) rfl
theorem q1861 : (Jvm.Cond.code ({ cls := "NetworkCenters", name := "radius", desc := "(II)I" } : Jvm.MethodName) prog_1_method_42_code (3 : Nat) (Option.some Jvm.ClassFile.FieldType.int)) ∈ lw_all := lw_g (lw_at lw_m8 77 rfl) rfl
theorem q1866 : (Jvm.Cond.instanceMethod ({ cls := "NetworkCenters", name := "center", desc := "(II)I" } : Jvm.MethodName)) ∈ lw_all := lw_g (lw_at lw_m8 82 rfl) rfl
theorem q1867 : (Jvm.Cond.selects "NetworkCenters" ({ cls := "NetworkCenters", name := "center", desc := "(II)I" } : Jvm.MethodName) ({ cls := "NetworkCenters", name := "center", desc := "(II)I" } : Jvm.MethodName)) ∈ lw_all := lw_g (lw_at lw_m8 83 rfl) rfl
theorem q1868 : (Jvm.Cond.code ({ cls := "NetworkCenters", name := "center", desc := "(II)I" } : Jvm.MethodName) prog_1_method_44_code (3 : Nat) (Option.some Jvm.ClassFile.FieldType.int)) ∈ lw_all := lw_g (lw_at lw_m8 84 rfl) rfl
theorem q1873 : (Jvm.Cond.instanceMethod ({ cls := "NetworkCenters", name := "critical", desc := "(I)I" } : Jvm.MethodName)) ∈ lw_all := lw_g (lw_at lw_m8 89 rfl) rfl
theorem q1874 : (Jvm.Cond.selects "NetworkCenters" ({ cls := "NetworkCenters", name := "critical", desc := "(I)I" } : Jvm.MethodName) ({ cls := "NetworkCenters", name := "critical", desc := "(I)I" } : Jvm.MethodName)) ∈ lw_all := lw_g (lw_at lw_m8 90 rfl) rfl
theorem q1875 : (Jvm.Cond.code ({ cls := "NetworkCenters", name := "critical", desc := "(I)I" } : Jvm.MethodName) prog_1_method_45_code (2 : Nat) (Option.some Jvm.ClassFile.FieldType.int)) ∈ lw_all := lw_g (lw_at lw_m8 91 rfl) rfl
theorem q1880 : (Jvm.Cond.instanceMethod ({ cls := "NetworkCenters", name := "median", desc := "(I)I" } : Jvm.MethodName)) ∈ lw_all := lw_g (lw_at lw_m8 96 rfl) rfl
theorem q1881 : (Jvm.Cond.selects "NetworkCenters" ({ cls := "NetworkCenters", name := "median", desc := "(I)I" } : Jvm.MethodName) ({ cls := "NetworkCenters", name := "median", desc := "(I)I" } : Jvm.MethodName)) ∈ lw_all := lw_g (lw_at lw_m8 97 rfl) rfl
theorem q1882 : (Jvm.Cond.code ({ cls := "NetworkCenters", name := "median", desc := "(I)I" } : Jvm.MethodName) prog_1_method_47_code (2 : Nat) (Option.some Jvm.ClassFile.FieldType.int)) ∈ lw_all := lw_g (lw_at lw_m8 98 rfl) rfl
theorem q1887 : (Jvm.Cond.instanceMethod ({ cls := "NetworkCenters", name := "radiusOf", desc := "(II)I" } : Jvm.MethodName)) ∈ lw_all := lw_g (lw_at lw_m8 103 rfl) rfl
theorem q1888 : (Jvm.Cond.selects "NetworkCenters" ({ cls := "NetworkCenters", name := "radiusOf", desc := "(II)I" } : Jvm.MethodName) ({ cls := "NetworkCenters", name := "radiusOf", desc := "(II)I" } : Jvm.MethodName)) ∈ lw_all := lw_g (lw_at lw_m8 104 rfl) rfl
theorem q1889 : (Jvm.Cond.code ({ cls := "NetworkCenters", name := "radiusOf", desc := "(II)I" } : Jvm.MethodName) prog_1_method_48_code (3 : Nat) (Option.some Jvm.ClassFile.FieldType.int)) ∈ lw_all := lw_g (lw_at lw_m8 105 rfl) rfl
theorem q1894 : (Jvm.Cond.instanceMethod ({ cls := "NetworkCenters", name := "group", desc := "(II)I" } : Jvm.MethodName)) ∈ lw_all := lw_g (lw_at lw_m8 110 rfl) rfl
theorem q1895 : (Jvm.Cond.selects "NetworkCenters" ({ cls := "NetworkCenters", name := "group", desc := "(II)I" } : Jvm.MethodName) ({ cls := "NetworkCenters", name := "group", desc := "(II)I" } : Jvm.MethodName)) ∈ lw_all := lw_g (lw_at lw_m8 111 rfl) rfl
theorem q1896 : (Jvm.Cond.code ({ cls := "NetworkCenters", name := "group", desc := "(II)I" } : Jvm.MethodName) prog_1_method_49_code (3 : Nat) (Option.some Jvm.ClassFile.FieldType.int)) ∈ lw_all := lw_g (lw_at lw_m8 112 rfl) rfl
theorem q1897 : (Jvm.Cond.methodLink "NetworkCenters" (297 : Nat) ({ cls := "NetworkCenters$Plan", name := "group", desc := "(II)I" } : Jvm.MethodName)) ∈ lw_all := lw_g (lw_at lw_m8 113 rfl) rfl
theorem q1910 : (Jvm.Cond.instanceMethod ({ cls := "NetworkCenters", name := "covering", desc := "(II)I" } : Jvm.MethodName)) ∈ lw_all := lw_g (lw_at lw_m8 126 rfl) rfl
theorem q1911 : (Jvm.Cond.selects "NetworkCenters" ({ cls := "NetworkCenters", name := "covering", desc := "(II)I" } : Jvm.MethodName) ({ cls := "NetworkCenters", name := "covering", desc := "(II)I" } : Jvm.MethodName)) ∈ lw_all := lw_g (lw_at lw_m8 127 rfl) rfl
theorem q1912 : (Jvm.Cond.code ({ cls := "NetworkCenters", name := "covering", desc := "(II)I" } : Jvm.MethodName) prog_1_method_50_code (3 : Nat) (Option.some Jvm.ClassFile.FieldType.int)) ∈ lw_all := lw_g (lw_at lw_m8 128 rfl) rfl
theorem q1913 : (Jvm.Cond.methodLink "NetworkCenters" (300 : Nat) ({ cls := "NetworkCenters$Plan", name := "covering", desc := "(JJ)I" } : Jvm.MethodName)) ∈ lw_all := lw_g (lw_at lw_m8 129 rfl) rfl
theorem q1921 : (Jvm.Cond.instanceMethod ({ cls := "NetworkCenters", name := "covered", desc := "(III)I" } : Jvm.MethodName)) ∈ lw_all := lw_g (lw_at lw_m8 137 rfl) rfl
theorem q1922 : (Jvm.Cond.selects "NetworkCenters" ({ cls := "NetworkCenters", name := "covered", desc := "(III)I" } : Jvm.MethodName) ({ cls := "NetworkCenters", name := "covered", desc := "(III)I" } : Jvm.MethodName)) ∈ lw_all := lw_g (lw_at lw_m8 138 rfl) rfl
theorem q1923 : (Jvm.Cond.code ({ cls := "NetworkCenters", name := "covered", desc := "(III)I" } : Jvm.MethodName) prog_1_method_51_code (6 : Nat) (Option.some Jvm.ClassFile.FieldType.int)) ∈ lw_all := lw_g (lw_at lw_m8 139 rfl) rfl
theorem q1928 : (Jvm.Cond.instanceMethod ({ cls := "NetworkCenters", name := "changedRadius", desc := "(II)I" } : Jvm.MethodName)) ∈ lw_all := lw_g (lw_at lw_m8 144 rfl) rfl
theorem q1929 : (Jvm.Cond.selects "NetworkCenters" ({ cls := "NetworkCenters", name := "changedRadius", desc := "(II)I" } : Jvm.MethodName) ({ cls := "NetworkCenters", name := "changedRadius", desc := "(II)I" } : Jvm.MethodName)) ∈ lw_all := lw_g (lw_at lw_m8 145 rfl) rfl
theorem q1930 : (Jvm.Cond.code ({ cls := "NetworkCenters", name := "changedRadius", desc := "(II)I" } : Jvm.MethodName) prog_1_method_52_code (3 : Nat) (Option.some Jvm.ClassFile.FieldType.int)) ∈ lw_all := lw_g (lw_at lw_m8 146 rfl) rfl
theorem q1931 : (Jvm.Cond.methodLink "NetworkCenters" (304 : Nat) ({ cls := "NetworkCenters$Network", name := "changed", desc := "(I)LNetworkCenters$Network;" } : Jvm.MethodName)) ∈ lw_all := lw_g (lw_at lw_m8 147 rfl) rfl
theorem q1939 : (Jvm.Cond.instanceMethod ({ cls := "NetworkCenters", name := "radiusWithout", desc := "(II)I" } : Jvm.MethodName)) ∈ lw_all := lw_g (lw_at lw_m8 155 rfl) rfl
theorem q1940 : (Jvm.Cond.selects "NetworkCenters" ({ cls := "NetworkCenters", name := "radiusWithout", desc := "(II)I" } : Jvm.MethodName) ({ cls := "NetworkCenters", name := "radiusWithout", desc := "(II)I" } : Jvm.MethodName)) ∈ lw_all := lw_g (lw_at lw_m8 156 rfl) rfl
theorem q1941 : (Jvm.Cond.code ({ cls := "NetworkCenters", name := "radiusWithout", desc := "(II)I" } : Jvm.MethodName) prog_1_method_53_code (4 : Nat) (Option.some Jvm.ClassFile.FieldType.int)) ∈ lw_all := lw_g (lw_at lw_m8 157 rfl) rfl
theorem q1946 : (Jvm.Cond.instanceMethod ({ cls := "NetworkCenters", name := "type", desc := "(I)I" } : Jvm.MethodName)) ∈ lw_all := lw_g (lw_at lw_m8 162 rfl) rfl
theorem q1947 : (Jvm.Cond.selects "NetworkCenters" ({ cls := "NetworkCenters", name := "type", desc := "(I)I" } : Jvm.MethodName) ({ cls := "NetworkCenters", name := "type", desc := "(I)I" } : Jvm.MethodName)) ∈ lw_all := lw_g (lw_at lw_m8 163 rfl) rfl
theorem q1948 : (Jvm.Cond.code ({ cls := "NetworkCenters", name := "type", desc := "(I)I" } : Jvm.MethodName) prog_1_method_54_code (2 : Nat) (Option.some Jvm.ClassFile.FieldType.int)) ∈ lw_all := lw_g (lw_at lw_m8 164 rfl) rfl
theorem q1949 : (Jvm.Cond.methodLink "NetworkCenters" (309 : Nat) ({ cls := "java/lang/StringBuilder", name := "append", desc := "(C)Ljava/lang/StringBuilder;" } : Jvm.MethodName)) ∈ lw_all := lw_g (lw_at lw_m8 165 rfl) rfl
theorem q1966 : (Jvm.Cond.instanceMethod ({ cls := "NetworkCenters", name := "run", desc := "()I" } : Jvm.MethodName)) ∈ lw_all := lw_g (lw_at lw_m8 182 rfl) rfl
theorem q1967 : (Jvm.Cond.selects "NetworkCenters" ({ cls := "NetworkCenters", name := "run", desc := "()I" } : Jvm.MethodName) ({ cls := "NetworkCenters", name := "run", desc := "()I" } : Jvm.MethodName)) ∈ lw_all := lw_g (lw_at lw_m8 183 rfl) rfl
theorem q1968 : (Jvm.Cond.codeWith ({ cls := "NetworkCenters", name := "run", desc := "()I" } : Jvm.MethodName) prog_1_method_57_code (5 : Nat) (Option.some Jvm.ClassFile.FieldType.int) [((35 : Nat), (88 : Nat), (91 : Nat), (327 : Nat))]) ∈ lw_all := lw_g (lw_at lw_m8 184 rfl) rfl
theorem q1969 : (Jvm.Cond.methodLink "NetworkCenters" (332 : Nat) ({ cls := "NetworkCenters", name := "fault", desc := "()I" } : Jvm.MethodName)) ∈ lw_all := lw_g (lw_at lw_m8 185 rfl) rfl
theorem q1970 : (Jvm.Cond.methodLink "NetworkCenters" (342 : Nat) ({ cls := "NetworkCenters$Kind", name := "done", desc := "(LNetworkCenters$Network;[I)LNetworkCenters$Network;" } : Jvm.MethodName)) ∈ lw_all := lw_g (lw_at lw_m8 186 rfl) rfl
theorem q2003 : (Jvm.Cond.instanceMethod ({ cls := "NetworkCenters", name := "undo", desc := "()I" } : Jvm.MethodName)) ∈ lw_all := lw_g (lw_at lw_m8 219 rfl) rfl
theorem q2004 : (Jvm.Cond.selects "NetworkCenters" ({ cls := "NetworkCenters", name := "undo", desc := "()I" } : Jvm.MethodName) ({ cls := "NetworkCenters", name := "undo", desc := "()I" } : Jvm.MethodName)) ∈ lw_all := lw_g (lw_at lw_m8 220 rfl) rfl
theorem q2005 : (Jvm.Cond.code ({ cls := "NetworkCenters", name := "undo", desc := "()I" } : Jvm.MethodName) prog_1_method_58_code (1 : Nat) (Option.some Jvm.ClassFile.FieldType.int)) ∈ lw_all := lw_g (lw_at lw_m8 221 rfl) rfl
theorem q2006 : (Jvm.Cond.methodLink "NetworkCenters" (348 : Nat) ({ cls := "java/util/ArrayDeque", name := "isEmpty", desc := "()Z" } : Jvm.MethodName)) ∈ lw_all := lw_g (lw_at lw_m8 222 rfl) rfl
theorem q2010 : (Jvm.Cond.methodLink "NetworkCenters" (351 : Nat) ({ cls := "java/util/ArrayDeque", name := "removeLast", desc := "()Ljava/lang/Object;" } : Jvm.MethodName)) ∈ lw_all := lw_g (lw_at lw_m8 226 rfl) rfl
theorem q2539 : (Jvm.Cond.castable "NetworkCenters" "java/lang/Object") ∈ lw_tbl := lw_at lw_m11 35 rfl
theorem in_X1 : ∀ w ∈ wsX10, w ∈ lw_all := lw_in wsX10 [296, 298, 300, 302, 304] (by decide +kernel) (by decide +kernel)
/-! NetworkCenters$Network -/
set_option maxRecDepth 100000
def RX2 : String := "NetworkCenters$Network"
def TX2 : u_T := fun k => match k with
  | 0 => ("NetworkCenters$Network", "weights", "[I", true)
  | 1 => ("NetworkCenters$Network", "trends", "[I", true)
  | 2 => ("NetworkCenters$Network", "edges", "[LNetworkCenters$Edge;", true)
  | _ => ("NetworkCenters$Network", "stretches", "[LNetworkCenters$Stretch;", true)
def tyX2 : Nat → FieldType := fun k => match k with
  | 0 => .array .int
  | 1 => .array .int
  | 2 => .array (.object "NetworkCenters$Edge")
  | _ => .array (.object "NetworkCenters$Stretch")
abbrev wsX20 : List Cond := u_ws RX2 TX2 4
theorem nmX2 : ∀ a, a < 4 → ∀ b, b < 4 → a ≠ b → (TX2 a).2.1 ≠ (TX2 b).2.1 := by decide +kernel
theorem tyX2_ok : ∀ k, k < 4 → parseFieldDescriptor (TX2 k).2.2.1 = some (tyX2 k) := by decide +kernel
abbrev cX2_init : ByteArray := prog_11_method_1_code
def yX2_init : MethodName := ⟨RX2, "<init>", "(I)V"⟩
def dkwX2_init_1 : List UInt8 := [162, 0, 16, 42, 180, 0, 13, 28, 4, 79, 132, 2, 1, 167, 255, 241, 177]
abbrev dktX2_init_1 : List UInt8 := dkwX2_init_1 ++ []
def dkwX2_init_0 : List UInt8 := [42, 27, 188, 10, 27, 188, 10, 3, 189, 0, 3, 3, 189, 0, 5, 183, 0, 7, 3, 61, 28, 27]
abbrev dktX2_init_0 : List UInt8 := dkwX2_init_0 ++ dktX2_init_1
theorem dksX2_init_0 : cX2_init.data.toList.drop 0 = dktX2_init_0 := by decide +kernel
theorem dksX2_init_1 : cX2_init.data.toList.drop 22 = dktX2_init_1 := dk_seg dksX2_init_0 22 rfl rfl
theorem dX2_init_0 : decode cX2_init 0 = .ok (.aload_n 0, 1) := dk_42 (dk_at dksX2_init_0 0 rfl rfl)
theorem dX2_init_1 : decode cX2_init 1 = .ok (.iload_n 1, 1) := dk_27 (dk_at dksX2_init_0 1 rfl rfl)
theorem dX2_init_2 : decode cX2_init 2 = .ok (.newarray .int, 2) := dk_188_10 (dk_at dksX2_init_0 2 rfl rfl)
theorem dX2_init_4 : decode cX2_init 4 = .ok (.iload_n 1, 1) := dk_27 (dk_at dksX2_init_0 4 rfl rfl)
theorem dX2_init_5 : decode cX2_init 5 = .ok (.newarray .int, 2) := dk_188_10 (dk_at dksX2_init_0 5 rfl rfl)
theorem dX2_init_7 : decode cX2_init 7 = .ok (.iconst 0, 1) := dk_3 (dk_at dksX2_init_0 7 rfl rfl)
theorem dX2_init_8 : decode cX2_init 8 = .ok (.anewarray 3, 3) := dk_189 0 3 (dk_at dksX2_init_0 8 rfl rfl)
theorem dX2_init_11 : decode cX2_init 11 = .ok (.iconst 0, 1) := dk_3 (dk_at dksX2_init_0 11 rfl rfl)
theorem dX2_init_12 : decode cX2_init 12 = .ok (.anewarray 5, 3) := dk_189 0 5 (dk_at dksX2_init_0 12 rfl rfl)
theorem dX2_init_15 : decode cX2_init 15 = .ok (.invokespecial 7, 3) := dk_183 0 7 (dk_at dksX2_init_0 15 rfl rfl)
theorem dX2_init_18 : decode cX2_init 18 = .ok (.iconst 0, 1) := dk_3 (dk_at dksX2_init_0 18 rfl rfl)
theorem dX2_init_19 : decode cX2_init 19 = .ok (.istore_n 2, 1) := dk_61 (dk_at dksX2_init_0 19 rfl rfl)
theorem dX2_init_20 : decode cX2_init 20 = .ok (.iload_n 2, 1) := dk_28 (dk_at dksX2_init_0 20 rfl rfl)
theorem dX2_init_21 : decode cX2_init 21 = .ok (.iload_n 1, 1) := dk_27 (dk_at dksX2_init_0 21 rfl rfl)
theorem dX2_init_22 : decode cX2_init 22 = .ok (.if_icmp .ge 16, 3) := dk_162 0 16 (dk_at dksX2_init_1 0 rfl rfl)
theorem dX2_init_25 : decode cX2_init 25 = .ok (.aload_n 0, 1) := dk_42 (dk_at dksX2_init_1 3 rfl rfl)
theorem dX2_init_26 : decode cX2_init 26 = .ok (.getfield 13, 3) := dk_180 0 13 (dk_at dksX2_init_1 4 rfl rfl)
theorem dX2_init_29 : decode cX2_init 29 = .ok (.iload_n 2, 1) := dk_28 (dk_at dksX2_init_1 7 rfl rfl)
theorem dX2_init_30 : decode cX2_init 30 = .ok (.iconst 1, 1) := dk_4 (dk_at dksX2_init_1 8 rfl rfl)
theorem dX2_init_31 : decode cX2_init 31 = .ok (.iastore, 1) := dk_79 (dk_at dksX2_init_1 9 rfl rfl)
theorem dX2_init_32 : decode cX2_init 32 = .ok (.iinc 2 1, 3) := dk_132 2 1 (dk_at dksX2_init_1 10 rfl rfl)
theorem dX2_init_35 : decode cX2_init 35 = .ok (.goto (-15), 3) := dk_167 255 241 (dk_at dksX2_init_1 13 rfl rfl)
theorem dX2_init_38 : decode cX2_init 38 = .ok (.return_, 1) := dk_177 (dk_at dksX2_init_1 16 rfl rfl)
abbrev cX2_init_2 : ByteArray := prog_11_method_2_code
def yX2_init_2 : MethodName := ⟨RX2, "<init>", "([I[I[LNetworkCenters$Edge;[LNetworkCenters$Stretch;)V"⟩
def dkwX2_init_2_1 : List UInt8 := [181, 0, 29, 177]
abbrev dktX2_init_2_1 : List UInt8 := dkwX2_init_2_1 ++ []
def dkwX2_init_2_0 : List UInt8 := [42, 183, 0, 17, 42, 43, 181, 0, 13, 42, 44, 181, 0, 22, 42, 45, 181, 0, 25, 42, 25, 4]
abbrev dktX2_init_2_0 : List UInt8 := dkwX2_init_2_0 ++ dktX2_init_2_1
theorem dksX2_init_2_0 : cX2_init_2.data.toList.drop 0 = dktX2_init_2_0 := by decide +kernel
theorem dksX2_init_2_1 : cX2_init_2.data.toList.drop 22 = dktX2_init_2_1 := dk_seg dksX2_init_2_0 22 rfl rfl
theorem dX2_init_2_0 : decode cX2_init_2 0 = .ok (.aload_n 0, 1) := dk_42 (dk_at dksX2_init_2_0 0 rfl rfl)
theorem dX2_init_2_1 : decode cX2_init_2 1 = .ok (.invokespecial 17, 3) := dk_183 0 17 (dk_at dksX2_init_2_0 1 rfl rfl)
theorem dX2_init_2_4 : decode cX2_init_2 4 = .ok (.aload_n 0, 1) := dk_42 (dk_at dksX2_init_2_0 4 rfl rfl)
theorem dX2_init_2_5 : decode cX2_init_2 5 = .ok (.aload_n 1, 1) := dk_43 (dk_at dksX2_init_2_0 5 rfl rfl)
theorem dX2_init_2_6 : decode cX2_init_2 6 = .ok (.putfield 13, 3) := dk_181 0 13 (dk_at dksX2_init_2_0 6 rfl rfl)
theorem dX2_init_2_9 : decode cX2_init_2 9 = .ok (.aload_n 0, 1) := dk_42 (dk_at dksX2_init_2_0 9 rfl rfl)
theorem dX2_init_2_10 : decode cX2_init_2 10 = .ok (.aload_n 2, 1) := dk_44 (dk_at dksX2_init_2_0 10 rfl rfl)
theorem dX2_init_2_11 : decode cX2_init_2 11 = .ok (.putfield 22, 3) := dk_181 0 22 (dk_at dksX2_init_2_0 11 rfl rfl)
theorem dX2_init_2_14 : decode cX2_init_2 14 = .ok (.aload_n 0, 1) := dk_42 (dk_at dksX2_init_2_0 14 rfl rfl)
theorem dX2_init_2_15 : decode cX2_init_2 15 = .ok (.aload_n 3, 1) := dk_45 (dk_at dksX2_init_2_0 15 rfl rfl)
theorem dX2_init_2_16 : decode cX2_init_2 16 = .ok (.putfield 25, 3) := dk_181 0 25 (dk_at dksX2_init_2_0 16 rfl rfl)
theorem dX2_init_2_19 : decode cX2_init_2 19 = .ok (.aload_n 0, 1) := dk_42 (dk_at dksX2_init_2_0 19 rfl rfl)
theorem dX2_init_2_20 : decode cX2_init_2 20 = .ok (.aload 4, 2) := dk_25 4 (dk_at dksX2_init_2_0 20 rfl rfl)
theorem dX2_init_2_22 : decode cX2_init_2 22 = .ok (.putfield 29, 3) := dk_181 0 29 (dk_at dksX2_init_2_1 0 rfl rfl)
theorem dX2_init_2_25 : decode cX2_init_2 25 = .ok (.return_, 1) := dk_177 (dk_at dksX2_init_2_1 3 rfl rfl)
abbrev cX2_size : ByteArray := prog_11_method_3_code
def yX2_size : MethodName := ⟨RX2, "size", "()I"⟩
def dkwX2_size_0 : List UInt8 := [42, 180, 0, 13, 190, 172]
abbrev dktX2_size_0 : List UInt8 := dkwX2_size_0 ++ []
theorem dksX2_size_0 : cX2_size.data.toList.drop 0 = dktX2_size_0 := by decide +kernel
theorem dX2_size_0 : decode cX2_size 0 = .ok (.aload_n 0, 1) := dk_42 (dk_at dksX2_size_0 0 rfl rfl)
theorem dX2_size_1 : decode cX2_size 1 = .ok (.getfield 13, 3) := dk_180 0 13 (dk_at dksX2_size_0 1 rfl rfl)
theorem dX2_size_4 : decode cX2_size 4 = .ok (.arraylength, 1) := dk_190 (dk_at dksX2_size_0 4 rfl rfl)
theorem dX2_size_5 : decode cX2_size 5 = .ok (.ireturn, 1) := dk_172 (dk_at dksX2_size_0 5 rfl rfl)
abbrev cX2_degree : ByteArray := prog_11_method_14_code
def yX2_degree : MethodName := ⟨RX2, "degree", "(I)I"⟩
def dkwX2_degree_2 : List UInt8 := [132, 3, 1, 167, 255, 210, 28, 172]
abbrev dktX2_degree_2 : List UInt8 := dkwX2_degree_2 ++ []
def dkwX2_degree_1 : List UInt8 := [159, 0, 16, 42, 180, 0, 25, 29, 50, 180, 0, 101, 27, 160, 0, 7, 4, 167, 0, 4, 3, 96, 61]
abbrev dktX2_degree_1 : List UInt8 := dkwX2_degree_1 ++ dktX2_degree_2
def dkwX2_degree_0 : List UInt8 := [3, 61, 3, 62, 29, 42, 180, 0, 25, 190, 162, 0, 43, 28, 42, 180, 0, 25, 29, 50, 180, 0, 100, 27]
abbrev dktX2_degree_0 : List UInt8 := dkwX2_degree_0 ++ dktX2_degree_1
theorem dksX2_degree_0 : cX2_degree.data.toList.drop 0 = dktX2_degree_0 := by decide +kernel
theorem dksX2_degree_1 : cX2_degree.data.toList.drop 24 = dktX2_degree_1 := dk_seg dksX2_degree_0 24 rfl rfl
theorem dksX2_degree_2 : cX2_degree.data.toList.drop 47 = dktX2_degree_2 := dk_seg dksX2_degree_1 23 rfl rfl
theorem dX2_degree_0 : decode cX2_degree 0 = .ok (.iconst 0, 1) := dk_3 (dk_at dksX2_degree_0 0 rfl rfl)
theorem dX2_degree_1 : decode cX2_degree 1 = .ok (.istore_n 2, 1) := dk_61 (dk_at dksX2_degree_0 1 rfl rfl)
theorem dX2_degree_2 : decode cX2_degree 2 = .ok (.iconst 0, 1) := dk_3 (dk_at dksX2_degree_0 2 rfl rfl)
theorem dX2_degree_3 : decode cX2_degree 3 = .ok (.istore_n 3, 1) := dk_62 (dk_at dksX2_degree_0 3 rfl rfl)
theorem dX2_degree_4 : decode cX2_degree 4 = .ok (.iload_n 3, 1) := dk_29 (dk_at dksX2_degree_0 4 rfl rfl)
theorem dX2_degree_5 : decode cX2_degree 5 = .ok (.aload_n 0, 1) := dk_42 (dk_at dksX2_degree_0 5 rfl rfl)
theorem dX2_degree_6 : decode cX2_degree 6 = .ok (.getfield 25, 3) := dk_180 0 25 (dk_at dksX2_degree_0 6 rfl rfl)
theorem dX2_degree_9 : decode cX2_degree 9 = .ok (.arraylength, 1) := dk_190 (dk_at dksX2_degree_0 9 rfl rfl)
theorem dX2_degree_10 : decode cX2_degree 10 = .ok (.if_icmp .ge 43, 3) := dk_162 0 43 (dk_at dksX2_degree_0 10 rfl rfl)
theorem dX2_degree_13 : decode cX2_degree 13 = .ok (.iload_n 2, 1) := dk_28 (dk_at dksX2_degree_0 13 rfl rfl)
theorem dX2_degree_14 : decode cX2_degree 14 = .ok (.aload_n 0, 1) := dk_42 (dk_at dksX2_degree_0 14 rfl rfl)
theorem dX2_degree_15 : decode cX2_degree 15 = .ok (.getfield 25, 3) := dk_180 0 25 (dk_at dksX2_degree_0 15 rfl rfl)
theorem dX2_degree_18 : decode cX2_degree 18 = .ok (.iload_n 3, 1) := dk_29 (dk_at dksX2_degree_0 18 rfl rfl)
theorem dX2_degree_19 : decode cX2_degree 19 = .ok (.aaload, 1) := dk_50 (dk_at dksX2_degree_0 19 rfl rfl)
theorem dX2_degree_20 : decode cX2_degree 20 = .ok (.getfield 100, 3) := dk_180 0 100 (dk_at dksX2_degree_0 20 rfl rfl)
theorem dX2_degree_23 : decode cX2_degree 23 = .ok (.iload_n 1, 1) := dk_27 (dk_at dksX2_degree_0 23 rfl rfl)
theorem dX2_degree_24 : decode cX2_degree 24 = .ok (.if_icmp .eq 16, 3) := dk_159 0 16 (dk_at dksX2_degree_1 0 rfl rfl)
theorem dX2_degree_27 : decode cX2_degree 27 = .ok (.aload_n 0, 1) := dk_42 (dk_at dksX2_degree_1 3 rfl rfl)
theorem dX2_degree_28 : decode cX2_degree 28 = .ok (.getfield 25, 3) := dk_180 0 25 (dk_at dksX2_degree_1 4 rfl rfl)
theorem dX2_degree_31 : decode cX2_degree 31 = .ok (.iload_n 3, 1) := dk_29 (dk_at dksX2_degree_1 7 rfl rfl)
theorem dX2_degree_32 : decode cX2_degree 32 = .ok (.aaload, 1) := dk_50 (dk_at dksX2_degree_1 8 rfl rfl)
theorem dX2_degree_33 : decode cX2_degree 33 = .ok (.getfield 101, 3) := dk_180 0 101 (dk_at dksX2_degree_1 9 rfl rfl)
theorem dX2_degree_36 : decode cX2_degree 36 = .ok (.iload_n 1, 1) := dk_27 (dk_at dksX2_degree_1 12 rfl rfl)
theorem dX2_degree_37 : decode cX2_degree 37 = .ok (.if_icmp .ne 7, 3) := dk_160 0 7 (dk_at dksX2_degree_1 13 rfl rfl)
theorem dX2_degree_40 : decode cX2_degree 40 = .ok (.iconst 1, 1) := dk_4 (dk_at dksX2_degree_1 16 rfl rfl)
theorem dX2_degree_41 : decode cX2_degree 41 = .ok (.goto 4, 3) := dk_167 0 4 (dk_at dksX2_degree_1 17 rfl rfl)
theorem dX2_degree_44 : decode cX2_degree 44 = .ok (.iconst 0, 1) := dk_3 (dk_at dksX2_degree_1 20 rfl rfl)
theorem dX2_degree_45 : decode cX2_degree 45 = .ok (.iadd, 1) := dk_96 (dk_at dksX2_degree_1 21 rfl rfl)
theorem dX2_degree_46 : decode cX2_degree 46 = .ok (.istore_n 2, 1) := dk_61 (dk_at dksX2_degree_1 22 rfl rfl)
theorem dX2_degree_47 : decode cX2_degree 47 = .ok (.iinc 3 1, 3) := dk_132 3 1 (dk_at dksX2_degree_2 0 rfl rfl)
theorem dX2_degree_50 : decode cX2_degree 50 = .ok (.goto (-46), 3) := dk_167 255 210 (dk_at dksX2_degree_2 3 rfl rfl)
theorem dX2_degree_53 : decode cX2_degree 53 = .ok (.iload_n 2, 1) := dk_28 (dk_at dksX2_degree_2 6 rfl rfl)
theorem dX2_degree_54 : decode cX2_degree 54 = .ok (.ireturn, 1) := dk_172 (dk_at dksX2_degree_2 7 rfl rfl)
abbrev cX2_isAllowed : ByteArray := prog_11_method_15_code
def yX2_isAllowed : MethodName := ⟨RX2, "isAllowed", "(IJJ)Z"⟩
def dkwX2_isAllowed_2 : List UInt8 := [167, 255, 216, 21, 6, 172]
abbrev dktX2_isAllowed_2 : List UInt8 := dkwX2_isAllowed_2 ++ []
def dkwX2_isAllowed_1 : List UInt8 := [50, 27, 32, 22, 4, 182, 0, 102, 154, 0, 7, 4, 167, 0, 4, 3, 126, 54, 6, 132, 7, 1]
abbrev dktX2_isAllowed_1 : List UInt8 := dkwX2_isAllowed_1 ++ dktX2_isAllowed_2
def dkwX2_isAllowed_0 : List UInt8 := [4, 54, 6, 3, 54, 7, 21, 7, 42, 180, 0, 29, 190, 162, 0, 36, 21, 6, 42, 180, 0, 29, 21, 7]
abbrev dktX2_isAllowed_0 : List UInt8 := dkwX2_isAllowed_0 ++ dktX2_isAllowed_1
theorem dksX2_isAllowed_0 : cX2_isAllowed.data.toList.drop 0 = dktX2_isAllowed_0 := by decide +kernel
theorem dksX2_isAllowed_1 : cX2_isAllowed.data.toList.drop 24 = dktX2_isAllowed_1 := dk_seg dksX2_isAllowed_0 24 rfl rfl
theorem dksX2_isAllowed_2 : cX2_isAllowed.data.toList.drop 46 = dktX2_isAllowed_2 := dk_seg dksX2_isAllowed_1 22 rfl rfl
theorem dX2_isAllowed_0 : decode cX2_isAllowed 0 = .ok (.iconst 1, 1) := dk_4 (dk_at dksX2_isAllowed_0 0 rfl rfl)
theorem dX2_isAllowed_1 : decode cX2_isAllowed 1 = .ok (.istore 6, 2) := dk_54 6 (dk_at dksX2_isAllowed_0 1 rfl rfl)
theorem dX2_isAllowed_3 : decode cX2_isAllowed 3 = .ok (.iconst 0, 1) := dk_3 (dk_at dksX2_isAllowed_0 3 rfl rfl)
theorem dX2_isAllowed_4 : decode cX2_isAllowed 4 = .ok (.istore 7, 2) := dk_54 7 (dk_at dksX2_isAllowed_0 4 rfl rfl)
theorem dX2_isAllowed_6 : decode cX2_isAllowed 6 = .ok (.iload 7, 2) := dk_21 7 (dk_at dksX2_isAllowed_0 6 rfl rfl)
theorem dX2_isAllowed_8 : decode cX2_isAllowed 8 = .ok (.aload_n 0, 1) := dk_42 (dk_at dksX2_isAllowed_0 8 rfl rfl)
theorem dX2_isAllowed_9 : decode cX2_isAllowed 9 = .ok (.getfield 29, 3) := dk_180 0 29 (dk_at dksX2_isAllowed_0 9 rfl rfl)
theorem dX2_isAllowed_12 : decode cX2_isAllowed 12 = .ok (.arraylength, 1) := dk_190 (dk_at dksX2_isAllowed_0 12 rfl rfl)
theorem dX2_isAllowed_13 : decode cX2_isAllowed 13 = .ok (.if_icmp .ge 36, 3) := dk_162 0 36 (dk_at dksX2_isAllowed_0 13 rfl rfl)
theorem dX2_isAllowed_16 : decode cX2_isAllowed 16 = .ok (.iload 6, 2) := dk_21 6 (dk_at dksX2_isAllowed_0 16 rfl rfl)
theorem dX2_isAllowed_18 : decode cX2_isAllowed 18 = .ok (.aload_n 0, 1) := dk_42 (dk_at dksX2_isAllowed_0 18 rfl rfl)
theorem dX2_isAllowed_19 : decode cX2_isAllowed 19 = .ok (.getfield 29, 3) := dk_180 0 29 (dk_at dksX2_isAllowed_0 19 rfl rfl)
theorem dX2_isAllowed_22 : decode cX2_isAllowed 22 = .ok (.iload 7, 2) := dk_21 7 (dk_at dksX2_isAllowed_0 22 rfl rfl)
theorem dX2_isAllowed_24 : decode cX2_isAllowed 24 = .ok (.aaload, 1) := dk_50 (dk_at dksX2_isAllowed_1 0 rfl rfl)
theorem dX2_isAllowed_25 : decode cX2_isAllowed 25 = .ok (.iload_n 1, 1) := dk_27 (dk_at dksX2_isAllowed_1 1 rfl rfl)
theorem dX2_isAllowed_26 : decode cX2_isAllowed 26 = .ok (.lload_n 2, 1) := dk_32 (dk_at dksX2_isAllowed_1 2 rfl rfl)
theorem dX2_isAllowed_27 : decode cX2_isAllowed 27 = .ok (.lload 4, 2) := dk_22 4 (dk_at dksX2_isAllowed_1 3 rfl rfl)
theorem dX2_isAllowed_29 : decode cX2_isAllowed 29 = .ok (.invokevirtual 102, 3) := dk_182 0 102 (dk_at dksX2_isAllowed_1 5 rfl rfl)
theorem dX2_isAllowed_32 : decode cX2_isAllowed 32 = .ok (.ifCond .ne 7, 3) := dk_154 0 7 (dk_at dksX2_isAllowed_1 8 rfl rfl)
theorem dX2_isAllowed_35 : decode cX2_isAllowed 35 = .ok (.iconst 1, 1) := dk_4 (dk_at dksX2_isAllowed_1 11 rfl rfl)
theorem dX2_isAllowed_36 : decode cX2_isAllowed 36 = .ok (.goto 4, 3) := dk_167 0 4 (dk_at dksX2_isAllowed_1 12 rfl rfl)
theorem dX2_isAllowed_39 : decode cX2_isAllowed 39 = .ok (.iconst 0, 1) := dk_3 (dk_at dksX2_isAllowed_1 15 rfl rfl)
theorem dX2_isAllowed_40 : decode cX2_isAllowed 40 = .ok (.iand, 1) := dk_126 (dk_at dksX2_isAllowed_1 16 rfl rfl)
theorem dX2_isAllowed_41 : decode cX2_isAllowed 41 = .ok (.istore 6, 2) := dk_54 6 (dk_at dksX2_isAllowed_1 17 rfl rfl)
theorem dX2_isAllowed_43 : decode cX2_isAllowed 43 = .ok (.iinc 7 1, 3) := dk_132 7 1 (dk_at dksX2_isAllowed_1 19 rfl rfl)
theorem dX2_isAllowed_46 : decode cX2_isAllowed 46 = .ok (.goto (-40), 3) := dk_167 255 216 (dk_at dksX2_isAllowed_2 0 rfl rfl)
theorem dX2_isAllowed_49 : decode cX2_isAllowed 49 = .ok (.iload 6, 2) := dk_21 6 (dk_at dksX2_isAllowed_2 3 rfl rfl)
theorem dX2_isAllowed_51 : decode cX2_isAllowed 51 = .ok (.ireturn, 1) := dk_172 (dk_at dksX2_isAllowed_2 5 rfl rfl)
abbrev cX2_isNode : ByteArray := prog_11_method_4_code
def yX2_isNode : MethodName := ⟨RX2, "isNode", "(I)Z"⟩
def dkwX2_isNode_0 : List UInt8 := [27, 3, 42, 182, 0, 33, 4, 100, 184, 0, 37, 172]
abbrev dktX2_isNode_0 : List UInt8 := dkwX2_isNode_0 ++ []
theorem dksX2_isNode_0 : cX2_isNode.data.toList.drop 0 = dktX2_isNode_0 := by decide +kernel
theorem dX2_isNode_0 : decode cX2_isNode 0 = .ok (.iload_n 1, 1) := dk_27 (dk_at dksX2_isNode_0 0 rfl rfl)
theorem dX2_isNode_1 : decode cX2_isNode 1 = .ok (.iconst 0, 1) := dk_3 (dk_at dksX2_isNode_0 1 rfl rfl)
theorem dX2_isNode_2 : decode cX2_isNode 2 = .ok (.aload_n 0, 1) := dk_42 (dk_at dksX2_isNode_0 2 rfl rfl)
theorem dX2_isNode_3 : decode cX2_isNode 3 = .ok (.invokevirtual 33, 3) := dk_182 0 33 (dk_at dksX2_isNode_0 3 rfl rfl)
theorem dX2_isNode_6 : decode cX2_isNode 6 = .ok (.iconst 1, 1) := dk_4 (dk_at dksX2_isNode_0 6 rfl rfl)
theorem dX2_isNode_7 : decode cX2_isNode 7 = .ok (.isub, 1) := dk_100 (dk_at dksX2_isNode_0 7 rfl rfl)
theorem dX2_isNode_8 : decode cX2_isNode 8 = .ok (.invokestatic 37, 3) := dk_184 0 37 (dk_at dksX2_isNode_0 8 rfl rfl)
theorem dX2_isNode_11 : decode cX2_isNode 11 = .ok (.ireturn, 1) := dk_172 (dk_at dksX2_isNode_0 11 rfl rfl)
abbrev cX2_mayConnect : ByteArray := prog_11_method_16_code
def yX2_mayConnect : MethodName := ⟨RX2, "mayConnect", "(III)Z"⟩
def dkwX2_mayConnect_0 : List UInt8 := [27, 28, 159, 0, 17, 29, 4, 16, 50, 184, 0, 37, 153, 0, 7, 4, 167, 0, 4, 3, 172]
abbrev dktX2_mayConnect_0 : List UInt8 := dkwX2_mayConnect_0 ++ []
theorem dksX2_mayConnect_0 : cX2_mayConnect.data.toList.drop 0 = dktX2_mayConnect_0 := by decide +kernel
theorem dX2_mayConnect_0 : decode cX2_mayConnect 0 = .ok (.iload_n 1, 1) := dk_27 (dk_at dksX2_mayConnect_0 0 rfl rfl)
theorem dX2_mayConnect_1 : decode cX2_mayConnect 1 = .ok (.iload_n 2, 1) := dk_28 (dk_at dksX2_mayConnect_0 1 rfl rfl)
theorem dX2_mayConnect_2 : decode cX2_mayConnect 2 = .ok (.if_icmp .eq 17, 3) := dk_159 0 17 (dk_at dksX2_mayConnect_0 2 rfl rfl)
theorem dX2_mayConnect_5 : decode cX2_mayConnect 5 = .ok (.iload_n 3, 1) := dk_29 (dk_at dksX2_mayConnect_0 5 rfl rfl)
theorem dX2_mayConnect_6 : decode cX2_mayConnect 6 = .ok (.iconst 1, 1) := dk_4 (dk_at dksX2_mayConnect_0 6 rfl rfl)
theorem dX2_mayConnect_7 : decode cX2_mayConnect 7 = .ok (.bipush 50, 2) := dk_16 50 (dk_at dksX2_mayConnect_0 7 rfl rfl)
theorem dX2_mayConnect_9 : decode cX2_mayConnect 9 = .ok (.invokestatic 37, 3) := dk_184 0 37 (dk_at dksX2_mayConnect_0 9 rfl rfl)
theorem dX2_mayConnect_12 : decode cX2_mayConnect 12 = .ok (.ifCond .eq 7, 3) := dk_153 0 7 (dk_at dksX2_mayConnect_0 12 rfl rfl)
theorem dX2_mayConnect_15 : decode cX2_mayConnect 15 = .ok (.iconst 1, 1) := dk_4 (dk_at dksX2_mayConnect_0 15 rfl rfl)
theorem dX2_mayConnect_16 : decode cX2_mayConnect 16 = .ok (.goto 4, 3) := dk_167 0 4 (dk_at dksX2_mayConnect_0 16 rfl rfl)
theorem dX2_mayConnect_19 : decode cX2_mayConnect 19 = .ok (.iconst 0, 1) := dk_3 (dk_at dksX2_mayConnect_0 19 rfl rfl)
theorem dX2_mayConnect_20 : decode cX2_mayConnect 20 = .ok (.ireturn, 1) := dk_172 (dk_at dksX2_mayConnect_0 20 rfl rfl)
abbrev cX2_hasRoomFor : ByteArray := prog_11_method_17_code
def yX2_hasRoomFor : MethodName := ⟨RX2, "hasRoomFor", "(II)Z"⟩
def dkwX2_hasRoomFor_1 : List UInt8 := [172]
abbrev dktX2_hasRoomFor_1 : List UInt8 := dkwX2_hasRoomFor_1 ++ []
def dkwX2_hasRoomFor_0 : List UInt8 := [42, 27, 28, 182, 0, 106, 154, 0, 17, 42, 180, 0, 25, 190, 16, 12, 162, 0, 7, 4, 167, 0, 4, 3]
abbrev dktX2_hasRoomFor_0 : List UInt8 := dkwX2_hasRoomFor_0 ++ dktX2_hasRoomFor_1
theorem dksX2_hasRoomFor_0 : cX2_hasRoomFor.data.toList.drop 0 = dktX2_hasRoomFor_0 := by decide +kernel
theorem dksX2_hasRoomFor_1 : cX2_hasRoomFor.data.toList.drop 24 = dktX2_hasRoomFor_1 := dk_seg dksX2_hasRoomFor_0 24 rfl rfl
theorem dX2_hasRoomFor_0 : decode cX2_hasRoomFor 0 = .ok (.aload_n 0, 1) := dk_42 (dk_at dksX2_hasRoomFor_0 0 rfl rfl)
theorem dX2_hasRoomFor_1 : decode cX2_hasRoomFor 1 = .ok (.iload_n 1, 1) := dk_27 (dk_at dksX2_hasRoomFor_0 1 rfl rfl)
theorem dX2_hasRoomFor_2 : decode cX2_hasRoomFor 2 = .ok (.iload_n 2, 1) := dk_28 (dk_at dksX2_hasRoomFor_0 2 rfl rfl)
theorem dX2_hasRoomFor_3 : decode cX2_hasRoomFor 3 = .ok (.invokevirtual 106, 3) := dk_182 0 106 (dk_at dksX2_hasRoomFor_0 3 rfl rfl)
theorem dX2_hasRoomFor_6 : decode cX2_hasRoomFor 6 = .ok (.ifCond .ne 17, 3) := dk_154 0 17 (dk_at dksX2_hasRoomFor_0 6 rfl rfl)
theorem dX2_hasRoomFor_9 : decode cX2_hasRoomFor 9 = .ok (.aload_n 0, 1) := dk_42 (dk_at dksX2_hasRoomFor_0 9 rfl rfl)
theorem dX2_hasRoomFor_10 : decode cX2_hasRoomFor 10 = .ok (.getfield 25, 3) := dk_180 0 25 (dk_at dksX2_hasRoomFor_0 10 rfl rfl)
theorem dX2_hasRoomFor_13 : decode cX2_hasRoomFor 13 = .ok (.arraylength, 1) := dk_190 (dk_at dksX2_hasRoomFor_0 13 rfl rfl)
theorem dX2_hasRoomFor_14 : decode cX2_hasRoomFor 14 = .ok (.bipush 12, 2) := dk_16 12 (dk_at dksX2_hasRoomFor_0 14 rfl rfl)
theorem dX2_hasRoomFor_16 : decode cX2_hasRoomFor 16 = .ok (.if_icmp .ge 7, 3) := dk_162 0 7 (dk_at dksX2_hasRoomFor_0 16 rfl rfl)
theorem dX2_hasRoomFor_19 : decode cX2_hasRoomFor 19 = .ok (.iconst 1, 1) := dk_4 (dk_at dksX2_hasRoomFor_0 19 rfl rfl)
theorem dX2_hasRoomFor_20 : decode cX2_hasRoomFor 20 = .ok (.goto 4, 3) := dk_167 0 4 (dk_at dksX2_hasRoomFor_0 20 rfl rfl)
theorem dX2_hasRoomFor_23 : decode cX2_hasRoomFor 23 = .ok (.iconst 0, 1) := dk_3 (dk_at dksX2_hasRoomFor_0 23 rfl rfl)
theorem dX2_hasRoomFor_24 : decode cX2_hasRoomFor 24 = .ok (.ireturn, 1) := dk_172 (dk_at dksX2_hasRoomFor_1 0 rfl rfl)
abbrev cX2_isJoined : ByteArray := prog_11_method_13_code
def yX2_isJoined : MethodName := ⟨RX2, "isJoined", "(II)Z"⟩
def dkwX2_isJoined_1 : List UInt8 := [28, 182, 0, 96, 128, 62, 132, 4, 1, 167, 255, 228, 29, 172]
abbrev dktX2_isJoined_1 : List UInt8 := dkwX2_isJoined_1 ++ []
def dkwX2_isJoined_0 : List UInt8 := [3, 62, 3, 54, 4, 21, 4, 42, 180, 0, 25, 190, 162, 0, 24, 29, 42, 180, 0, 25, 21, 4, 50, 27]
abbrev dktX2_isJoined_0 : List UInt8 := dkwX2_isJoined_0 ++ dktX2_isJoined_1
theorem dksX2_isJoined_0 : cX2_isJoined.data.toList.drop 0 = dktX2_isJoined_0 := by decide +kernel
theorem dksX2_isJoined_1 : cX2_isJoined.data.toList.drop 24 = dktX2_isJoined_1 := dk_seg dksX2_isJoined_0 24 rfl rfl
theorem dX2_isJoined_0 : decode cX2_isJoined 0 = .ok (.iconst 0, 1) := dk_3 (dk_at dksX2_isJoined_0 0 rfl rfl)
theorem dX2_isJoined_1 : decode cX2_isJoined 1 = .ok (.istore_n 3, 1) := dk_62 (dk_at dksX2_isJoined_0 1 rfl rfl)
theorem dX2_isJoined_2 : decode cX2_isJoined 2 = .ok (.iconst 0, 1) := dk_3 (dk_at dksX2_isJoined_0 2 rfl rfl)
theorem dX2_isJoined_3 : decode cX2_isJoined 3 = .ok (.istore 4, 2) := dk_54 4 (dk_at dksX2_isJoined_0 3 rfl rfl)
theorem dX2_isJoined_5 : decode cX2_isJoined 5 = .ok (.iload 4, 2) := dk_21 4 (dk_at dksX2_isJoined_0 5 rfl rfl)
theorem dX2_isJoined_7 : decode cX2_isJoined 7 = .ok (.aload_n 0, 1) := dk_42 (dk_at dksX2_isJoined_0 7 rfl rfl)
theorem dX2_isJoined_8 : decode cX2_isJoined 8 = .ok (.getfield 25, 3) := dk_180 0 25 (dk_at dksX2_isJoined_0 8 rfl rfl)
theorem dX2_isJoined_11 : decode cX2_isJoined 11 = .ok (.arraylength, 1) := dk_190 (dk_at dksX2_isJoined_0 11 rfl rfl)
theorem dX2_isJoined_12 : decode cX2_isJoined 12 = .ok (.if_icmp .ge 24, 3) := dk_162 0 24 (dk_at dksX2_isJoined_0 12 rfl rfl)
theorem dX2_isJoined_15 : decode cX2_isJoined 15 = .ok (.iload_n 3, 1) := dk_29 (dk_at dksX2_isJoined_0 15 rfl rfl)
theorem dX2_isJoined_16 : decode cX2_isJoined 16 = .ok (.aload_n 0, 1) := dk_42 (dk_at dksX2_isJoined_0 16 rfl rfl)
theorem dX2_isJoined_17 : decode cX2_isJoined 17 = .ok (.getfield 25, 3) := dk_180 0 25 (dk_at dksX2_isJoined_0 17 rfl rfl)
theorem dX2_isJoined_20 : decode cX2_isJoined 20 = .ok (.iload 4, 2) := dk_21 4 (dk_at dksX2_isJoined_0 20 rfl rfl)
theorem dX2_isJoined_22 : decode cX2_isJoined 22 = .ok (.aaload, 1) := dk_50 (dk_at dksX2_isJoined_0 22 rfl rfl)
theorem dX2_isJoined_23 : decode cX2_isJoined 23 = .ok (.iload_n 1, 1) := dk_27 (dk_at dksX2_isJoined_0 23 rfl rfl)
theorem dX2_isJoined_24 : decode cX2_isJoined 24 = .ok (.iload_n 2, 1) := dk_28 (dk_at dksX2_isJoined_1 0 rfl rfl)
theorem dX2_isJoined_25 : decode cX2_isJoined 25 = .ok (.invokevirtual 96, 3) := dk_182 0 96 (dk_at dksX2_isJoined_1 1 rfl rfl)
theorem dX2_isJoined_28 : decode cX2_isJoined 28 = .ok (.ior, 1) := dk_128 (dk_at dksX2_isJoined_1 4 rfl rfl)
theorem dX2_isJoined_29 : decode cX2_isJoined 29 = .ok (.istore_n 3, 1) := dk_62 (dk_at dksX2_isJoined_1 5 rfl rfl)
theorem dX2_isJoined_30 : decode cX2_isJoined 30 = .ok (.iinc 4 1, 3) := dk_132 4 1 (dk_at dksX2_isJoined_1 6 rfl rfl)
theorem dX2_isJoined_33 : decode cX2_isJoined 33 = .ok (.goto (-28), 3) := dk_167 255 228 (dk_at dksX2_isJoined_1 9 rfl rfl)
theorem dX2_isJoined_36 : decode cX2_isJoined 36 = .ok (.iload_n 3, 1) := dk_29 (dk_at dksX2_isJoined_1 12 rfl rfl)
theorem dX2_isJoined_37 : decode cX2_isJoined 37 = .ok (.ireturn, 1) := dk_172 (dk_at dksX2_isJoined_1 13 rfl rfl)
abbrev cX2_withEdge : ByteArray := prog_11_method_8_code
def yX2_withEdge : MethodName := ⟨RX2, "withEdge", "(LNetworkCenters$Edge;)LNetworkCenters$Network;"⟩
def dkwX2_withEdge_2 : List UInt8 := [42, 180, 0, 29, 183, 0, 7, 176]
abbrev dktX2_withEdge_2 : List UInt8 := dkwX2_withEdge_2 ++ []
def dkwX2_withEdge_1 : List UInt8 := [184, 0, 50, 44, 42, 180, 0, 25, 190, 43, 83, 187, 0, 8, 89, 42, 180, 0, 13, 42, 180, 0, 22, 44]
abbrev dktX2_withEdge_1 : List UInt8 := dkwX2_withEdge_1 ++ dktX2_withEdge_2
def dkwX2_withEdge_0 : List UInt8 := [42, 180, 0, 25, 190, 4, 96, 189, 0, 3, 77, 42, 180, 0, 25, 3, 44, 3, 42, 180, 0, 25, 190]
abbrev dktX2_withEdge_0 : List UInt8 := dkwX2_withEdge_0 ++ dktX2_withEdge_1
theorem dksX2_withEdge_0 : cX2_withEdge.data.toList.drop 0 = dktX2_withEdge_0 := by decide +kernel
theorem dksX2_withEdge_1 : cX2_withEdge.data.toList.drop 23 = dktX2_withEdge_1 := dk_seg dksX2_withEdge_0 23 rfl rfl
theorem dksX2_withEdge_2 : cX2_withEdge.data.toList.drop 47 = dktX2_withEdge_2 := dk_seg dksX2_withEdge_1 24 rfl rfl
theorem dX2_withEdge_0 : decode cX2_withEdge 0 = .ok (.aload_n 0, 1) := dk_42 (dk_at dksX2_withEdge_0 0 rfl rfl)
theorem dX2_withEdge_1 : decode cX2_withEdge 1 = .ok (.getfield 25, 3) := dk_180 0 25 (dk_at dksX2_withEdge_0 1 rfl rfl)
theorem dX2_withEdge_4 : decode cX2_withEdge 4 = .ok (.arraylength, 1) := dk_190 (dk_at dksX2_withEdge_0 4 rfl rfl)
theorem dX2_withEdge_5 : decode cX2_withEdge 5 = .ok (.iconst 1, 1) := dk_4 (dk_at dksX2_withEdge_0 5 rfl rfl)
theorem dX2_withEdge_6 : decode cX2_withEdge 6 = .ok (.iadd, 1) := dk_96 (dk_at dksX2_withEdge_0 6 rfl rfl)
theorem dX2_withEdge_7 : decode cX2_withEdge 7 = .ok (.anewarray 3, 3) := dk_189 0 3 (dk_at dksX2_withEdge_0 7 rfl rfl)
theorem dX2_withEdge_10 : decode cX2_withEdge 10 = .ok (.astore_n 2, 1) := dk_77 (dk_at dksX2_withEdge_0 10 rfl rfl)
theorem dX2_withEdge_11 : decode cX2_withEdge 11 = .ok (.aload_n 0, 1) := dk_42 (dk_at dksX2_withEdge_0 11 rfl rfl)
theorem dX2_withEdge_12 : decode cX2_withEdge 12 = .ok (.getfield 25, 3) := dk_180 0 25 (dk_at dksX2_withEdge_0 12 rfl rfl)
theorem dX2_withEdge_15 : decode cX2_withEdge 15 = .ok (.iconst 0, 1) := dk_3 (dk_at dksX2_withEdge_0 15 rfl rfl)
theorem dX2_withEdge_16 : decode cX2_withEdge 16 = .ok (.aload_n 2, 1) := dk_44 (dk_at dksX2_withEdge_0 16 rfl rfl)
theorem dX2_withEdge_17 : decode cX2_withEdge 17 = .ok (.iconst 0, 1) := dk_3 (dk_at dksX2_withEdge_0 17 rfl rfl)
theorem dX2_withEdge_18 : decode cX2_withEdge 18 = .ok (.aload_n 0, 1) := dk_42 (dk_at dksX2_withEdge_0 18 rfl rfl)
theorem dX2_withEdge_19 : decode cX2_withEdge 19 = .ok (.getfield 25, 3) := dk_180 0 25 (dk_at dksX2_withEdge_0 19 rfl rfl)
theorem dX2_withEdge_22 : decode cX2_withEdge 22 = .ok (.arraylength, 1) := dk_190 (dk_at dksX2_withEdge_0 22 rfl rfl)
theorem dX2_withEdge_23 : decode cX2_withEdge 23 = .ok (.invokestatic 50, 3) := dk_184 0 50 (dk_at dksX2_withEdge_1 0 rfl rfl)
theorem dX2_withEdge_26 : decode cX2_withEdge 26 = .ok (.aload_n 2, 1) := dk_44 (dk_at dksX2_withEdge_1 3 rfl rfl)
theorem dX2_withEdge_27 : decode cX2_withEdge 27 = .ok (.aload_n 0, 1) := dk_42 (dk_at dksX2_withEdge_1 4 rfl rfl)
theorem dX2_withEdge_28 : decode cX2_withEdge 28 = .ok (.getfield 25, 3) := dk_180 0 25 (dk_at dksX2_withEdge_1 5 rfl rfl)
theorem dX2_withEdge_31 : decode cX2_withEdge 31 = .ok (.arraylength, 1) := dk_190 (dk_at dksX2_withEdge_1 8 rfl rfl)
theorem dX2_withEdge_32 : decode cX2_withEdge 32 = .ok (.aload_n 1, 1) := dk_43 (dk_at dksX2_withEdge_1 9 rfl rfl)
theorem dX2_withEdge_33 : decode cX2_withEdge 33 = .ok (.aastore, 1) := dk_83 (dk_at dksX2_withEdge_1 10 rfl rfl)
theorem dX2_withEdge_34 : decode cX2_withEdge 34 = .ok (.new 8, 3) := dk_187 0 8 (dk_at dksX2_withEdge_1 11 rfl rfl)
theorem dX2_withEdge_37 : decode cX2_withEdge 37 = .ok (.dup, 1) := dk_89 (dk_at dksX2_withEdge_1 14 rfl rfl)
theorem dX2_withEdge_38 : decode cX2_withEdge 38 = .ok (.aload_n 0, 1) := dk_42 (dk_at dksX2_withEdge_1 15 rfl rfl)
theorem dX2_withEdge_39 : decode cX2_withEdge 39 = .ok (.getfield 13, 3) := dk_180 0 13 (dk_at dksX2_withEdge_1 16 rfl rfl)
theorem dX2_withEdge_42 : decode cX2_withEdge 42 = .ok (.aload_n 0, 1) := dk_42 (dk_at dksX2_withEdge_1 19 rfl rfl)
theorem dX2_withEdge_43 : decode cX2_withEdge 43 = .ok (.getfield 22, 3) := dk_180 0 22 (dk_at dksX2_withEdge_1 20 rfl rfl)
theorem dX2_withEdge_46 : decode cX2_withEdge 46 = .ok (.aload_n 2, 1) := dk_44 (dk_at dksX2_withEdge_1 23 rfl rfl)
theorem dX2_withEdge_47 : decode cX2_withEdge 47 = .ok (.aload_n 0, 1) := dk_42 (dk_at dksX2_withEdge_2 0 rfl rfl)
theorem dX2_withEdge_48 : decode cX2_withEdge 48 = .ok (.getfield 29, 3) := dk_180 0 29 (dk_at dksX2_withEdge_2 1 rfl rfl)
theorem dX2_withEdge_51 : decode cX2_withEdge 51 = .ok (.invokespecial 7, 3) := dk_183 0 7 (dk_at dksX2_withEdge_2 4 rfl rfl)
theorem dX2_withEdge_54 : decode cX2_withEdge 54 = .ok (.areturn, 1) := dk_176 (dk_at dksX2_withEdge_2 7 rfl rfl)
abbrev cX2_withoutEdge : ByteArray := prog_11_method_11_code
def yX2_withoutEdge : MethodName := ⟨RX2, "withoutEdge", "(I)LNetworkCenters$Network;"⟩
def dkwX2_withoutEdge_9 : List UInt8 := [183, 0, 7, 176]
abbrev dktX2_withoutEdge_9 : List UInt8 := dkwX2_withoutEdge_9 ++ []
def dkwX2_withoutEdge_8 : List UInt8 := [25, 7, 83, 132, 6, 1, 167, 255, 193, 187, 0, 8, 89, 42, 180, 0, 13, 42, 180, 0, 22, 44, 25, 5]
abbrev dktX2_withoutEdge_8 : List UInt8 := dkwX2_withoutEdge_8 ++ dktX2_withoutEdge_9
def dkwX2_withoutEdge_7 : List UInt8 := [89, 25, 7, 180, 0, 76, 4, 100, 25, 7, 180, 0, 87, 25, 7, 180, 0, 90, 183, 0, 93, 167, 0, 5]
abbrev dktX2_withoutEdge_7 : List UInt8 := dkwX2_withoutEdge_7 ++ dktX2_withoutEdge_8
def dkwX2_withoutEdge_6 : List UInt8 := [182, 0, 84, 192, 0, 5, 58, 7, 25, 5, 21, 6, 25, 7, 180, 0, 76, 27, 164, 0, 30, 187, 0, 5]
abbrev dktX2_withoutEdge_6 : List UInt8 := dkwX2_withoutEdge_6 ++ dktX2_withoutEdge_7
def dkwX2_withoutEdge_5 : List UInt8 := [167, 255, 222, 45, 182, 0, 83, 189, 0, 5, 58, 5, 3, 54, 6, 21, 6, 25, 5, 190, 162, 0, 61, 45]
abbrev dktX2_withoutEdge_5 : List UInt8 := dkwX2_withoutEdge_5 ++ dktX2_withoutEdge_6
def dkwX2_withoutEdge_4 : List UInt8 := [185, 0, 73, 1, 0, 192, 0, 5, 180, 0, 76, 27, 160, 255, 232, 25, 4, 185, 0, 80, 1, 0]
abbrev dktX2_withoutEdge_4 : List UInt8 := dkwX2_withoutEdge_4 ++ dktX2_withoutEdge_5
def dkwX2_withoutEdge_3 : List UInt8 := [132, 4, 1, 167, 255, 231, 45, 182, 0, 63, 58, 4, 25, 4, 185, 0, 67, 1, 0, 153, 0, 30, 25, 4]
abbrev dktX2_withoutEdge_3 : List UInt8 := dkwX2_withoutEdge_3 ++ dktX2_withoutEdge_4
def dkwX2_withoutEdge_2 : List UInt8 := [54, 4, 21, 4, 42, 180, 0, 29, 190, 162, 0, 21, 45, 42, 180, 0, 29, 21, 4, 50, 182, 0, 59, 87]
abbrev dktX2_withoutEdge_2 : List UInt8 := dkwX2_withoutEdge_2 ++ dktX2_withoutEdge_3
def dkwX2_withoutEdge_1 : List UInt8 := [180, 0, 25, 27, 4, 96, 44, 27, 44, 190, 27, 100, 184, 0, 50, 187, 0, 56, 89, 183, 0, 58, 78, 3]
abbrev dktX2_withoutEdge_1 : List UInt8 := dkwX2_withoutEdge_1 ++ dktX2_withoutEdge_2
def dkwX2_withoutEdge_0 : List UInt8 := [42, 180, 0, 25, 190, 4, 100, 189, 0, 3, 77, 42, 180, 0, 25, 3, 44, 3, 27, 184, 0, 50, 42]
abbrev dktX2_withoutEdge_0 : List UInt8 := dkwX2_withoutEdge_0 ++ dktX2_withoutEdge_1
theorem dksX2_withoutEdge_0 : cX2_withoutEdge.data.toList.drop 0 = dktX2_withoutEdge_0 := by decide +kernel
theorem dksX2_withoutEdge_1 : cX2_withoutEdge.data.toList.drop 23 = dktX2_withoutEdge_1 := dk_seg dksX2_withoutEdge_0 23 rfl rfl
theorem dksX2_withoutEdge_2 : cX2_withoutEdge.data.toList.drop 47 = dktX2_withoutEdge_2 := dk_seg dksX2_withoutEdge_1 24 rfl rfl
theorem dksX2_withoutEdge_3 : cX2_withoutEdge.data.toList.drop 71 = dktX2_withoutEdge_3 := dk_seg dksX2_withoutEdge_2 24 rfl rfl
theorem dksX2_withoutEdge_4 : cX2_withoutEdge.data.toList.drop 95 = dktX2_withoutEdge_4 := dk_seg dksX2_withoutEdge_3 24 rfl rfl
theorem dksX2_withoutEdge_5 : cX2_withoutEdge.data.toList.drop 117 = dktX2_withoutEdge_5 := dk_seg dksX2_withoutEdge_4 22 rfl rfl
theorem dksX2_withoutEdge_6 : cX2_withoutEdge.data.toList.drop 141 = dktX2_withoutEdge_6 := dk_seg dksX2_withoutEdge_5 24 rfl rfl
theorem dksX2_withoutEdge_7 : cX2_withoutEdge.data.toList.drop 165 = dktX2_withoutEdge_7 := dk_seg dksX2_withoutEdge_6 24 rfl rfl
theorem dksX2_withoutEdge_8 : cX2_withoutEdge.data.toList.drop 189 = dktX2_withoutEdge_8 := dk_seg dksX2_withoutEdge_7 24 rfl rfl
theorem dksX2_withoutEdge_9 : cX2_withoutEdge.data.toList.drop 213 = dktX2_withoutEdge_9 := dk_seg dksX2_withoutEdge_8 24 rfl rfl
theorem dX2_withoutEdge_0 : decode cX2_withoutEdge 0 = .ok (.aload_n 0, 1) := dk_42 (dk_at dksX2_withoutEdge_0 0 rfl rfl)
theorem dX2_withoutEdge_1 : decode cX2_withoutEdge 1 = .ok (.getfield 25, 3) := dk_180 0 25 (dk_at dksX2_withoutEdge_0 1 rfl rfl)
theorem dX2_withoutEdge_4 : decode cX2_withoutEdge 4 = .ok (.arraylength, 1) := dk_190 (dk_at dksX2_withoutEdge_0 4 rfl rfl)
theorem dX2_withoutEdge_5 : decode cX2_withoutEdge 5 = .ok (.iconst 1, 1) := dk_4 (dk_at dksX2_withoutEdge_0 5 rfl rfl)
theorem dX2_withoutEdge_6 : decode cX2_withoutEdge 6 = .ok (.isub, 1) := dk_100 (dk_at dksX2_withoutEdge_0 6 rfl rfl)
theorem dX2_withoutEdge_7 : decode cX2_withoutEdge 7 = .ok (.anewarray 3, 3) := dk_189 0 3 (dk_at dksX2_withoutEdge_0 7 rfl rfl)
theorem dX2_withoutEdge_10 : decode cX2_withoutEdge 10 = .ok (.astore_n 2, 1) := dk_77 (dk_at dksX2_withoutEdge_0 10 rfl rfl)
theorem dX2_withoutEdge_11 : decode cX2_withoutEdge 11 = .ok (.aload_n 0, 1) := dk_42 (dk_at dksX2_withoutEdge_0 11 rfl rfl)
theorem dX2_withoutEdge_12 : decode cX2_withoutEdge 12 = .ok (.getfield 25, 3) := dk_180 0 25 (dk_at dksX2_withoutEdge_0 12 rfl rfl)
theorem dX2_withoutEdge_15 : decode cX2_withoutEdge 15 = .ok (.iconst 0, 1) := dk_3 (dk_at dksX2_withoutEdge_0 15 rfl rfl)
theorem dX2_withoutEdge_16 : decode cX2_withoutEdge 16 = .ok (.aload_n 2, 1) := dk_44 (dk_at dksX2_withoutEdge_0 16 rfl rfl)
theorem dX2_withoutEdge_17 : decode cX2_withoutEdge 17 = .ok (.iconst 0, 1) := dk_3 (dk_at dksX2_withoutEdge_0 17 rfl rfl)
theorem dX2_withoutEdge_18 : decode cX2_withoutEdge 18 = .ok (.iload_n 1, 1) := dk_27 (dk_at dksX2_withoutEdge_0 18 rfl rfl)
theorem dX2_withoutEdge_19 : decode cX2_withoutEdge 19 = .ok (.invokestatic 50, 3) := dk_184 0 50 (dk_at dksX2_withoutEdge_0 19 rfl rfl)
theorem dX2_withoutEdge_22 : decode cX2_withoutEdge 22 = .ok (.aload_n 0, 1) := dk_42 (dk_at dksX2_withoutEdge_0 22 rfl rfl)
theorem dX2_withoutEdge_23 : decode cX2_withoutEdge 23 = .ok (.getfield 25, 3) := dk_180 0 25 (dk_at dksX2_withoutEdge_1 0 rfl rfl)
theorem dX2_withoutEdge_26 : decode cX2_withoutEdge 26 = .ok (.iload_n 1, 1) := dk_27 (dk_at dksX2_withoutEdge_1 3 rfl rfl)
theorem dX2_withoutEdge_27 : decode cX2_withoutEdge 27 = .ok (.iconst 1, 1) := dk_4 (dk_at dksX2_withoutEdge_1 4 rfl rfl)
theorem dX2_withoutEdge_28 : decode cX2_withoutEdge 28 = .ok (.iadd, 1) := dk_96 (dk_at dksX2_withoutEdge_1 5 rfl rfl)
theorem dX2_withoutEdge_29 : decode cX2_withoutEdge 29 = .ok (.aload_n 2, 1) := dk_44 (dk_at dksX2_withoutEdge_1 6 rfl rfl)
theorem dX2_withoutEdge_30 : decode cX2_withoutEdge 30 = .ok (.iload_n 1, 1) := dk_27 (dk_at dksX2_withoutEdge_1 7 rfl rfl)
theorem dX2_withoutEdge_31 : decode cX2_withoutEdge 31 = .ok (.aload_n 2, 1) := dk_44 (dk_at dksX2_withoutEdge_1 8 rfl rfl)
theorem dX2_withoutEdge_32 : decode cX2_withoutEdge 32 = .ok (.arraylength, 1) := dk_190 (dk_at dksX2_withoutEdge_1 9 rfl rfl)
theorem dX2_withoutEdge_33 : decode cX2_withoutEdge 33 = .ok (.iload_n 1, 1) := dk_27 (dk_at dksX2_withoutEdge_1 10 rfl rfl)
theorem dX2_withoutEdge_34 : decode cX2_withoutEdge 34 = .ok (.isub, 1) := dk_100 (dk_at dksX2_withoutEdge_1 11 rfl rfl)
theorem dX2_withoutEdge_35 : decode cX2_withoutEdge 35 = .ok (.invokestatic 50, 3) := dk_184 0 50 (dk_at dksX2_withoutEdge_1 12 rfl rfl)
theorem dX2_withoutEdge_38 : decode cX2_withoutEdge 38 = .ok (.new 56, 3) := dk_187 0 56 (dk_at dksX2_withoutEdge_1 15 rfl rfl)
theorem dX2_withoutEdge_41 : decode cX2_withoutEdge 41 = .ok (.dup, 1) := dk_89 (dk_at dksX2_withoutEdge_1 18 rfl rfl)
theorem dX2_withoutEdge_42 : decode cX2_withoutEdge 42 = .ok (.invokespecial 58, 3) := dk_183 0 58 (dk_at dksX2_withoutEdge_1 19 rfl rfl)
theorem dX2_withoutEdge_45 : decode cX2_withoutEdge 45 = .ok (.astore_n 3, 1) := dk_78 (dk_at dksX2_withoutEdge_1 22 rfl rfl)
theorem dX2_withoutEdge_46 : decode cX2_withoutEdge 46 = .ok (.iconst 0, 1) := dk_3 (dk_at dksX2_withoutEdge_1 23 rfl rfl)
theorem dX2_withoutEdge_47 : decode cX2_withoutEdge 47 = .ok (.istore 4, 2) := dk_54 4 (dk_at dksX2_withoutEdge_2 0 rfl rfl)
theorem dX2_withoutEdge_49 : decode cX2_withoutEdge 49 = .ok (.iload 4, 2) := dk_21 4 (dk_at dksX2_withoutEdge_2 2 rfl rfl)
theorem dX2_withoutEdge_51 : decode cX2_withoutEdge 51 = .ok (.aload_n 0, 1) := dk_42 (dk_at dksX2_withoutEdge_2 4 rfl rfl)
theorem dX2_withoutEdge_52 : decode cX2_withoutEdge 52 = .ok (.getfield 29, 3) := dk_180 0 29 (dk_at dksX2_withoutEdge_2 5 rfl rfl)
theorem dX2_withoutEdge_55 : decode cX2_withoutEdge 55 = .ok (.arraylength, 1) := dk_190 (dk_at dksX2_withoutEdge_2 8 rfl rfl)
theorem dX2_withoutEdge_56 : decode cX2_withoutEdge 56 = .ok (.if_icmp .ge 21, 3) := dk_162 0 21 (dk_at dksX2_withoutEdge_2 9 rfl rfl)
theorem dX2_withoutEdge_59 : decode cX2_withoutEdge 59 = .ok (.aload_n 3, 1) := dk_45 (dk_at dksX2_withoutEdge_2 12 rfl rfl)
theorem dX2_withoutEdge_60 : decode cX2_withoutEdge 60 = .ok (.aload_n 0, 1) := dk_42 (dk_at dksX2_withoutEdge_2 13 rfl rfl)
theorem dX2_withoutEdge_61 : decode cX2_withoutEdge 61 = .ok (.getfield 29, 3) := dk_180 0 29 (dk_at dksX2_withoutEdge_2 14 rfl rfl)
theorem dX2_withoutEdge_64 : decode cX2_withoutEdge 64 = .ok (.iload 4, 2) := dk_21 4 (dk_at dksX2_withoutEdge_2 17 rfl rfl)
theorem dX2_withoutEdge_66 : decode cX2_withoutEdge 66 = .ok (.aaload, 1) := dk_50 (dk_at dksX2_withoutEdge_2 19 rfl rfl)
theorem dX2_withoutEdge_67 : decode cX2_withoutEdge 67 = .ok (.invokevirtual 59, 3) := dk_182 0 59 (dk_at dksX2_withoutEdge_2 20 rfl rfl)
theorem dX2_withoutEdge_70 : decode cX2_withoutEdge 70 = .ok (.pop, 1) := dk_87 (dk_at dksX2_withoutEdge_2 23 rfl rfl)
theorem dX2_withoutEdge_71 : decode cX2_withoutEdge 71 = .ok (.iinc 4 1, 3) := dk_132 4 1 (dk_at dksX2_withoutEdge_3 0 rfl rfl)
theorem dX2_withoutEdge_74 : decode cX2_withoutEdge 74 = .ok (.goto (-25), 3) := dk_167 255 231 (dk_at dksX2_withoutEdge_3 3 rfl rfl)
theorem dX2_withoutEdge_77 : decode cX2_withoutEdge 77 = .ok (.aload_n 3, 1) := dk_45 (dk_at dksX2_withoutEdge_3 6 rfl rfl)
theorem dX2_withoutEdge_78 : decode cX2_withoutEdge 78 = .ok (.invokevirtual 63, 3) := dk_182 0 63 (dk_at dksX2_withoutEdge_3 7 rfl rfl)
theorem dX2_withoutEdge_81 : decode cX2_withoutEdge 81 = .ok (.astore 4, 2) := dk_58 4 (dk_at dksX2_withoutEdge_3 10 rfl rfl)
theorem dX2_withoutEdge_83 : decode cX2_withoutEdge 83 = .ok (.aload 4, 2) := dk_25 4 (dk_at dksX2_withoutEdge_3 12 rfl rfl)
theorem dX2_withoutEdge_85 : decode cX2_withoutEdge 85 = .ok (.invokeinterface 67 1, 5) := by decide +kernel
theorem dX2_withoutEdge_90 : decode cX2_withoutEdge 90 = .ok (.ifCond .eq 30, 3) := dk_153 0 30 (dk_at dksX2_withoutEdge_3 19 rfl rfl)
theorem dX2_withoutEdge_93 : decode cX2_withoutEdge 93 = .ok (.aload 4, 2) := dk_25 4 (dk_at dksX2_withoutEdge_3 22 rfl rfl)
theorem dX2_withoutEdge_95 : decode cX2_withoutEdge 95 = .ok (.invokeinterface 73 1, 5) := by decide +kernel
theorem dX2_withoutEdge_100 : decode cX2_withoutEdge 100 = .ok (.checkcast 5, 3) := dk_192 0 5 (dk_at dksX2_withoutEdge_4 5 rfl rfl)
theorem dX2_withoutEdge_103 : decode cX2_withoutEdge 103 = .ok (.getfield 76, 3) := dk_180 0 76 (dk_at dksX2_withoutEdge_4 8 rfl rfl)
theorem dX2_withoutEdge_106 : decode cX2_withoutEdge 106 = .ok (.iload_n 1, 1) := dk_27 (dk_at dksX2_withoutEdge_4 11 rfl rfl)
theorem dX2_withoutEdge_107 : decode cX2_withoutEdge 107 = .ok (.if_icmp .ne (-24), 3) := dk_160 255 232 (dk_at dksX2_withoutEdge_4 12 rfl rfl)
theorem dX2_withoutEdge_110 : decode cX2_withoutEdge 110 = .ok (.aload 4, 2) := dk_25 4 (dk_at dksX2_withoutEdge_4 15 rfl rfl)
theorem dX2_withoutEdge_112 : decode cX2_withoutEdge 112 = .ok (.invokeinterface 80 1, 5) := by decide +kernel
theorem dX2_withoutEdge_117 : decode cX2_withoutEdge 117 = .ok (.goto (-34), 3) := dk_167 255 222 (dk_at dksX2_withoutEdge_5 0 rfl rfl)
theorem dX2_withoutEdge_120 : decode cX2_withoutEdge 120 = .ok (.aload_n 3, 1) := dk_45 (dk_at dksX2_withoutEdge_5 3 rfl rfl)
theorem dX2_withoutEdge_121 : decode cX2_withoutEdge 121 = .ok (.invokevirtual 83, 3) := dk_182 0 83 (dk_at dksX2_withoutEdge_5 4 rfl rfl)
theorem dX2_withoutEdge_124 : decode cX2_withoutEdge 124 = .ok (.anewarray 5, 3) := dk_189 0 5 (dk_at dksX2_withoutEdge_5 7 rfl rfl)
theorem dX2_withoutEdge_127 : decode cX2_withoutEdge 127 = .ok (.astore 5, 2) := dk_58 5 (dk_at dksX2_withoutEdge_5 10 rfl rfl)
theorem dX2_withoutEdge_129 : decode cX2_withoutEdge 129 = .ok (.iconst 0, 1) := dk_3 (dk_at dksX2_withoutEdge_5 12 rfl rfl)
theorem dX2_withoutEdge_130 : decode cX2_withoutEdge 130 = .ok (.istore 6, 2) := dk_54 6 (dk_at dksX2_withoutEdge_5 13 rfl rfl)
theorem dX2_withoutEdge_132 : decode cX2_withoutEdge 132 = .ok (.iload 6, 2) := dk_21 6 (dk_at dksX2_withoutEdge_5 15 rfl rfl)
theorem dX2_withoutEdge_134 : decode cX2_withoutEdge 134 = .ok (.aload 5, 2) := dk_25 5 (dk_at dksX2_withoutEdge_5 17 rfl rfl)
theorem dX2_withoutEdge_136 : decode cX2_withoutEdge 136 = .ok (.arraylength, 1) := dk_190 (dk_at dksX2_withoutEdge_5 19 rfl rfl)
theorem dX2_withoutEdge_137 : decode cX2_withoutEdge 137 = .ok (.if_icmp .ge 61, 3) := dk_162 0 61 (dk_at dksX2_withoutEdge_5 20 rfl rfl)
theorem dX2_withoutEdge_140 : decode cX2_withoutEdge 140 = .ok (.aload_n 3, 1) := dk_45 (dk_at dksX2_withoutEdge_5 23 rfl rfl)
theorem dX2_withoutEdge_141 : decode cX2_withoutEdge 141 = .ok (.invokevirtual 84, 3) := dk_182 0 84 (dk_at dksX2_withoutEdge_6 0 rfl rfl)
theorem dX2_withoutEdge_144 : decode cX2_withoutEdge 144 = .ok (.checkcast 5, 3) := dk_192 0 5 (dk_at dksX2_withoutEdge_6 3 rfl rfl)
theorem dX2_withoutEdge_147 : decode cX2_withoutEdge 147 = .ok (.astore 7, 2) := dk_58 7 (dk_at dksX2_withoutEdge_6 6 rfl rfl)
theorem dX2_withoutEdge_149 : decode cX2_withoutEdge 149 = .ok (.aload 5, 2) := dk_25 5 (dk_at dksX2_withoutEdge_6 8 rfl rfl)
theorem dX2_withoutEdge_151 : decode cX2_withoutEdge 151 = .ok (.iload 6, 2) := dk_21 6 (dk_at dksX2_withoutEdge_6 10 rfl rfl)
theorem dX2_withoutEdge_153 : decode cX2_withoutEdge 153 = .ok (.aload 7, 2) := dk_25 7 (dk_at dksX2_withoutEdge_6 12 rfl rfl)
theorem dX2_withoutEdge_155 : decode cX2_withoutEdge 155 = .ok (.getfield 76, 3) := dk_180 0 76 (dk_at dksX2_withoutEdge_6 14 rfl rfl)
theorem dX2_withoutEdge_158 : decode cX2_withoutEdge 158 = .ok (.iload_n 1, 1) := dk_27 (dk_at dksX2_withoutEdge_6 17 rfl rfl)
theorem dX2_withoutEdge_159 : decode cX2_withoutEdge 159 = .ok (.if_icmp .le 30, 3) := dk_164 0 30 (dk_at dksX2_withoutEdge_6 18 rfl rfl)
theorem dX2_withoutEdge_162 : decode cX2_withoutEdge 162 = .ok (.new 5, 3) := dk_187 0 5 (dk_at dksX2_withoutEdge_6 21 rfl rfl)
theorem dX2_withoutEdge_165 : decode cX2_withoutEdge 165 = .ok (.dup, 1) := dk_89 (dk_at dksX2_withoutEdge_7 0 rfl rfl)
theorem dX2_withoutEdge_166 : decode cX2_withoutEdge 166 = .ok (.aload 7, 2) := dk_25 7 (dk_at dksX2_withoutEdge_7 1 rfl rfl)
theorem dX2_withoutEdge_168 : decode cX2_withoutEdge 168 = .ok (.getfield 76, 3) := dk_180 0 76 (dk_at dksX2_withoutEdge_7 3 rfl rfl)
theorem dX2_withoutEdge_171 : decode cX2_withoutEdge 171 = .ok (.iconst 1, 1) := dk_4 (dk_at dksX2_withoutEdge_7 6 rfl rfl)
theorem dX2_withoutEdge_172 : decode cX2_withoutEdge 172 = .ok (.isub, 1) := dk_100 (dk_at dksX2_withoutEdge_7 7 rfl rfl)
theorem dX2_withoutEdge_173 : decode cX2_withoutEdge 173 = .ok (.aload 7, 2) := dk_25 7 (dk_at dksX2_withoutEdge_7 8 rfl rfl)
theorem dX2_withoutEdge_175 : decode cX2_withoutEdge 175 = .ok (.getfield 87, 3) := dk_180 0 87 (dk_at dksX2_withoutEdge_7 10 rfl rfl)
theorem dX2_withoutEdge_178 : decode cX2_withoutEdge 178 = .ok (.aload 7, 2) := dk_25 7 (dk_at dksX2_withoutEdge_7 13 rfl rfl)
theorem dX2_withoutEdge_180 : decode cX2_withoutEdge 180 = .ok (.getfield 90, 3) := dk_180 0 90 (dk_at dksX2_withoutEdge_7 15 rfl rfl)
theorem dX2_withoutEdge_183 : decode cX2_withoutEdge 183 = .ok (.invokespecial 93, 3) := dk_183 0 93 (dk_at dksX2_withoutEdge_7 18 rfl rfl)
theorem dX2_withoutEdge_186 : decode cX2_withoutEdge 186 = .ok (.goto 5, 3) := dk_167 0 5 (dk_at dksX2_withoutEdge_7 21 rfl rfl)
theorem dX2_withoutEdge_189 : decode cX2_withoutEdge 189 = .ok (.aload 7, 2) := dk_25 7 (dk_at dksX2_withoutEdge_8 0 rfl rfl)
theorem dX2_withoutEdge_191 : decode cX2_withoutEdge 191 = .ok (.aastore, 1) := dk_83 (dk_at dksX2_withoutEdge_8 2 rfl rfl)
theorem dX2_withoutEdge_192 : decode cX2_withoutEdge 192 = .ok (.iinc 6 1, 3) := dk_132 6 1 (dk_at dksX2_withoutEdge_8 3 rfl rfl)
theorem dX2_withoutEdge_195 : decode cX2_withoutEdge 195 = .ok (.goto (-63), 3) := dk_167 255 193 (dk_at dksX2_withoutEdge_8 6 rfl rfl)
theorem dX2_withoutEdge_198 : decode cX2_withoutEdge 198 = .ok (.new 8, 3) := dk_187 0 8 (dk_at dksX2_withoutEdge_8 9 rfl rfl)
theorem dX2_withoutEdge_201 : decode cX2_withoutEdge 201 = .ok (.dup, 1) := dk_89 (dk_at dksX2_withoutEdge_8 12 rfl rfl)
theorem dX2_withoutEdge_202 : decode cX2_withoutEdge 202 = .ok (.aload_n 0, 1) := dk_42 (dk_at dksX2_withoutEdge_8 13 rfl rfl)
theorem dX2_withoutEdge_203 : decode cX2_withoutEdge 203 = .ok (.getfield 13, 3) := dk_180 0 13 (dk_at dksX2_withoutEdge_8 14 rfl rfl)
theorem dX2_withoutEdge_206 : decode cX2_withoutEdge 206 = .ok (.aload_n 0, 1) := dk_42 (dk_at dksX2_withoutEdge_8 17 rfl rfl)
theorem dX2_withoutEdge_207 : decode cX2_withoutEdge 207 = .ok (.getfield 22, 3) := dk_180 0 22 (dk_at dksX2_withoutEdge_8 18 rfl rfl)
theorem dX2_withoutEdge_210 : decode cX2_withoutEdge 210 = .ok (.aload_n 2, 1) := dk_44 (dk_at dksX2_withoutEdge_8 21 rfl rfl)
theorem dX2_withoutEdge_211 : decode cX2_withoutEdge 211 = .ok (.aload 5, 2) := dk_25 5 (dk_at dksX2_withoutEdge_8 22 rfl rfl)
theorem dX2_withoutEdge_213 : decode cX2_withoutEdge 213 = .ok (.invokespecial 7, 3) := dk_183 0 7 (dk_at dksX2_withoutEdge_9 0 rfl rfl)
theorem dX2_withoutEdge_216 : decode cX2_withoutEdge 216 = .ok (.areturn, 1) := dk_176 (dk_at dksX2_withoutEdge_9 3 rfl rfl)
abbrev cX2_withWeight : ByteArray := prog_11_method_6_code
def yX2_withWeight : MethodName := ⟨RX2, "withWeight", "(II)LNetworkCenters$Network;"⟩
def dkwX2_withWeight_1 : List UInt8 := [180, 0, 29, 183, 0, 7, 176]
abbrev dktX2_withWeight_1 : List UInt8 := dkwX2_withWeight_1 ++ []
def dkwX2_withWeight_0 : List UInt8 := [187, 0, 8, 89, 42, 180, 0, 13, 27, 28, 184, 0, 46, 42, 180, 0, 22, 42, 180, 0, 25, 42]
abbrev dktX2_withWeight_0 : List UInt8 := dkwX2_withWeight_0 ++ dktX2_withWeight_1
theorem dksX2_withWeight_0 : cX2_withWeight.data.toList.drop 0 = dktX2_withWeight_0 := by decide +kernel
theorem dksX2_withWeight_1 : cX2_withWeight.data.toList.drop 22 = dktX2_withWeight_1 := dk_seg dksX2_withWeight_0 22 rfl rfl
theorem dX2_withWeight_0 : decode cX2_withWeight 0 = .ok (.new 8, 3) := dk_187 0 8 (dk_at dksX2_withWeight_0 0 rfl rfl)
theorem dX2_withWeight_3 : decode cX2_withWeight 3 = .ok (.dup, 1) := dk_89 (dk_at dksX2_withWeight_0 3 rfl rfl)
theorem dX2_withWeight_4 : decode cX2_withWeight 4 = .ok (.aload_n 0, 1) := dk_42 (dk_at dksX2_withWeight_0 4 rfl rfl)
theorem dX2_withWeight_5 : decode cX2_withWeight 5 = .ok (.getfield 13, 3) := dk_180 0 13 (dk_at dksX2_withWeight_0 5 rfl rfl)
theorem dX2_withWeight_8 : decode cX2_withWeight 8 = .ok (.iload_n 1, 1) := dk_27 (dk_at dksX2_withWeight_0 8 rfl rfl)
theorem dX2_withWeight_9 : decode cX2_withWeight 9 = .ok (.iload_n 2, 1) := dk_28 (dk_at dksX2_withWeight_0 9 rfl rfl)
theorem dX2_withWeight_10 : decode cX2_withWeight 10 = .ok (.invokestatic 46, 3) := dk_184 0 46 (dk_at dksX2_withWeight_0 10 rfl rfl)
theorem dX2_withWeight_13 : decode cX2_withWeight 13 = .ok (.aload_n 0, 1) := dk_42 (dk_at dksX2_withWeight_0 13 rfl rfl)
theorem dX2_withWeight_14 : decode cX2_withWeight 14 = .ok (.getfield 22, 3) := dk_180 0 22 (dk_at dksX2_withWeight_0 14 rfl rfl)
theorem dX2_withWeight_17 : decode cX2_withWeight 17 = .ok (.aload_n 0, 1) := dk_42 (dk_at dksX2_withWeight_0 17 rfl rfl)
theorem dX2_withWeight_18 : decode cX2_withWeight 18 = .ok (.getfield 25, 3) := dk_180 0 25 (dk_at dksX2_withWeight_0 18 rfl rfl)
theorem dX2_withWeight_21 : decode cX2_withWeight 21 = .ok (.aload_n 0, 1) := dk_42 (dk_at dksX2_withWeight_0 21 rfl rfl)
theorem dX2_withWeight_22 : decode cX2_withWeight 22 = .ok (.getfield 29, 3) := dk_180 0 29 (dk_at dksX2_withWeight_1 0 rfl rfl)
theorem dX2_withWeight_25 : decode cX2_withWeight 25 = .ok (.invokespecial 7, 3) := dk_183 0 7 (dk_at dksX2_withWeight_1 3 rfl rfl)
theorem dX2_withWeight_28 : decode cX2_withWeight 28 = .ok (.areturn, 1) := dk_176 (dk_at dksX2_withWeight_1 6 rfl rfl)
abbrev cX2_with : ByteArray := prog_11_method_5_code
def yX2_with : MethodName := ⟨RX2, "with", "([III)[I"⟩
def dkwX2_with_0 : List UInt8 := [42, 182, 0, 41, 192, 0, 42, 78, 45, 27, 28, 79, 45, 176]
abbrev dktX2_with_0 : List UInt8 := dkwX2_with_0 ++ []
theorem dksX2_with_0 : cX2_with.data.toList.drop 0 = dktX2_with_0 := by decide +kernel
theorem dX2_with_0 : decode cX2_with 0 = .ok (.aload_n 0, 1) := dk_42 (dk_at dksX2_with_0 0 rfl rfl)
theorem dX2_with_1 : decode cX2_with 1 = .ok (.invokevirtual 41, 3) := dk_182 0 41 (dk_at dksX2_with_0 1 rfl rfl)
theorem dX2_with_4 : decode cX2_with 4 = .ok (.checkcast 42, 3) := dk_192 0 42 (dk_at dksX2_with_0 4 rfl rfl)
theorem dX2_with_7 : decode cX2_with 7 = .ok (.astore_n 3, 1) := dk_78 (dk_at dksX2_with_0 7 rfl rfl)
theorem dX2_with_8 : decode cX2_with 8 = .ok (.aload_n 3, 1) := dk_45 (dk_at dksX2_with_0 8 rfl rfl)
theorem dX2_with_9 : decode cX2_with 9 = .ok (.iload_n 1, 1) := dk_27 (dk_at dksX2_with_0 9 rfl rfl)
theorem dX2_with_10 : decode cX2_with 10 = .ok (.iload_n 2, 1) := dk_28 (dk_at dksX2_with_0 10 rfl rfl)
theorem dX2_with_11 : decode cX2_with 11 = .ok (.iastore, 1) := dk_79 (dk_at dksX2_with_0 11 rfl rfl)
theorem dX2_with_12 : decode cX2_with 12 = .ok (.aload_n 3, 1) := dk_45 (dk_at dksX2_with_0 12 rfl rfl)
theorem dX2_with_13 : decode cX2_with 13 = .ok (.areturn, 1) := dk_176 (dk_at dksX2_with_0 13 rfl rfl)
abbrev cX2_withTrend : ByteArray := prog_11_method_7_code
def yX2_withTrend : MethodName := ⟨RX2, "withTrend", "(II)LNetworkCenters$Network;"⟩
def dkwX2_withTrend_1 : List UInt8 := [180, 0, 29, 183, 0, 7, 176]
abbrev dktX2_withTrend_1 : List UInt8 := dkwX2_withTrend_1 ++ []
def dkwX2_withTrend_0 : List UInt8 := [187, 0, 8, 89, 42, 180, 0, 13, 42, 180, 0, 22, 27, 28, 184, 0, 46, 42, 180, 0, 25, 42]
abbrev dktX2_withTrend_0 : List UInt8 := dkwX2_withTrend_0 ++ dktX2_withTrend_1
theorem dksX2_withTrend_0 : cX2_withTrend.data.toList.drop 0 = dktX2_withTrend_0 := by decide +kernel
theorem dksX2_withTrend_1 : cX2_withTrend.data.toList.drop 22 = dktX2_withTrend_1 := dk_seg dksX2_withTrend_0 22 rfl rfl
theorem dX2_withTrend_0 : decode cX2_withTrend 0 = .ok (.new 8, 3) := dk_187 0 8 (dk_at dksX2_withTrend_0 0 rfl rfl)
theorem dX2_withTrend_3 : decode cX2_withTrend 3 = .ok (.dup, 1) := dk_89 (dk_at dksX2_withTrend_0 3 rfl rfl)
theorem dX2_withTrend_4 : decode cX2_withTrend 4 = .ok (.aload_n 0, 1) := dk_42 (dk_at dksX2_withTrend_0 4 rfl rfl)
theorem dX2_withTrend_5 : decode cX2_withTrend 5 = .ok (.getfield 13, 3) := dk_180 0 13 (dk_at dksX2_withTrend_0 5 rfl rfl)
theorem dX2_withTrend_8 : decode cX2_withTrend 8 = .ok (.aload_n 0, 1) := dk_42 (dk_at dksX2_withTrend_0 8 rfl rfl)
theorem dX2_withTrend_9 : decode cX2_withTrend 9 = .ok (.getfield 22, 3) := dk_180 0 22 (dk_at dksX2_withTrend_0 9 rfl rfl)
theorem dX2_withTrend_12 : decode cX2_withTrend 12 = .ok (.iload_n 1, 1) := dk_27 (dk_at dksX2_withTrend_0 12 rfl rfl)
theorem dX2_withTrend_13 : decode cX2_withTrend 13 = .ok (.iload_n 2, 1) := dk_28 (dk_at dksX2_withTrend_0 13 rfl rfl)
theorem dX2_withTrend_14 : decode cX2_withTrend 14 = .ok (.invokestatic 46, 3) := dk_184 0 46 (dk_at dksX2_withTrend_0 14 rfl rfl)
theorem dX2_withTrend_17 : decode cX2_withTrend 17 = .ok (.aload_n 0, 1) := dk_42 (dk_at dksX2_withTrend_0 17 rfl rfl)
theorem dX2_withTrend_18 : decode cX2_withTrend 18 = .ok (.getfield 25, 3) := dk_180 0 25 (dk_at dksX2_withTrend_0 18 rfl rfl)
theorem dX2_withTrend_21 : decode cX2_withTrend 21 = .ok (.aload_n 0, 1) := dk_42 (dk_at dksX2_withTrend_0 21 rfl rfl)
theorem dX2_withTrend_22 : decode cX2_withTrend 22 = .ok (.getfield 29, 3) := dk_180 0 29 (dk_at dksX2_withTrend_1 0 rfl rfl)
theorem dX2_withTrend_25 : decode cX2_withTrend 25 = .ok (.invokespecial 7, 3) := dk_183 0 7 (dk_at dksX2_withTrend_1 3 rfl rfl)
theorem dX2_withTrend_28 : decode cX2_withTrend 28 = .ok (.areturn, 1) := dk_176 (dk_at dksX2_withTrend_1 6 rfl rfl)
abbrev cX2_mayForbid : ByteArray := prog_11_method_18_code
def yX2_mayForbid : MethodName := ⟨RX2, "mayForbid", "(III)Z"⟩
def dkwX2_mayForbid_1 : List UInt8 := [167, 0, 4, 3, 172]
abbrev dktX2_mayForbid_1 : List UInt8 := dkwX2_mayForbid_1 ++ []
def dkwX2_mayForbid_0 : List UInt8 := [28, 155, 0, 25, 28, 29, 162, 0, 20, 29, 42, 180, 0, 25, 27, 50, 180, 0, 109, 163, 0, 7, 4]
abbrev dktX2_mayForbid_0 : List UInt8 := dkwX2_mayForbid_0 ++ dktX2_mayForbid_1
theorem dksX2_mayForbid_0 : cX2_mayForbid.data.toList.drop 0 = dktX2_mayForbid_0 := by decide +kernel
theorem dksX2_mayForbid_1 : cX2_mayForbid.data.toList.drop 23 = dktX2_mayForbid_1 := dk_seg dksX2_mayForbid_0 23 rfl rfl
theorem dX2_mayForbid_0 : decode cX2_mayForbid 0 = .ok (.iload_n 2, 1) := dk_28 (dk_at dksX2_mayForbid_0 0 rfl rfl)
theorem dX2_mayForbid_1 : decode cX2_mayForbid 1 = .ok (.ifCond .lt 25, 3) := dk_155 0 25 (dk_at dksX2_mayForbid_0 1 rfl rfl)
theorem dX2_mayForbid_4 : decode cX2_mayForbid 4 = .ok (.iload_n 2, 1) := dk_28 (dk_at dksX2_mayForbid_0 4 rfl rfl)
theorem dX2_mayForbid_5 : decode cX2_mayForbid 5 = .ok (.iload_n 3, 1) := dk_29 (dk_at dksX2_mayForbid_0 5 rfl rfl)
theorem dX2_mayForbid_6 : decode cX2_mayForbid 6 = .ok (.if_icmp .ge 20, 3) := dk_162 0 20 (dk_at dksX2_mayForbid_0 6 rfl rfl)
theorem dX2_mayForbid_9 : decode cX2_mayForbid 9 = .ok (.iload_n 3, 1) := dk_29 (dk_at dksX2_mayForbid_0 9 rfl rfl)
theorem dX2_mayForbid_10 : decode cX2_mayForbid 10 = .ok (.aload_n 0, 1) := dk_42 (dk_at dksX2_mayForbid_0 10 rfl rfl)
theorem dX2_mayForbid_11 : decode cX2_mayForbid 11 = .ok (.getfield 25, 3) := dk_180 0 25 (dk_at dksX2_mayForbid_0 11 rfl rfl)
theorem dX2_mayForbid_14 : decode cX2_mayForbid 14 = .ok (.iload_n 1, 1) := dk_27 (dk_at dksX2_mayForbid_0 14 rfl rfl)
theorem dX2_mayForbid_15 : decode cX2_mayForbid 15 = .ok (.aaload, 1) := dk_50 (dk_at dksX2_mayForbid_0 15 rfl rfl)
theorem dX2_mayForbid_16 : decode cX2_mayForbid 16 = .ok (.getfield 109, 3) := dk_180 0 109 (dk_at dksX2_mayForbid_0 16 rfl rfl)
theorem dX2_mayForbid_19 : decode cX2_mayForbid 19 = .ok (.if_icmp .gt 7, 3) := dk_163 0 7 (dk_at dksX2_mayForbid_0 19 rfl rfl)
theorem dX2_mayForbid_22 : decode cX2_mayForbid 22 = .ok (.iconst 1, 1) := dk_4 (dk_at dksX2_mayForbid_0 22 rfl rfl)
theorem dX2_mayForbid_23 : decode cX2_mayForbid 23 = .ok (.goto 4, 3) := dk_167 0 4 (dk_at dksX2_mayForbid_1 0 rfl rfl)
theorem dX2_mayForbid_26 : decode cX2_mayForbid 26 = .ok (.iconst 0, 1) := dk_3 (dk_at dksX2_mayForbid_1 3 rfl rfl)
theorem dX2_mayForbid_27 : decode cX2_mayForbid 27 = .ok (.ireturn, 1) := dk_172 (dk_at dksX2_mayForbid_1 4 rfl rfl)
abbrev cX2_withStretch : ByteArray := prog_11_method_9_code
def yX2_withStretch : MethodName := ⟨RX2, "withStretch", "(LNetworkCenters$Stretch;)LNetworkCenters$Network;"⟩
def dkwX2_withStretch_2 : List UInt8 := [180, 0, 25, 44, 183, 0, 7, 176]
abbrev dktX2_withStretch_2 : List UInt8 := dkwX2_withStretch_2 ++ []
def dkwX2_withStretch_1 : List UInt8 := [184, 0, 50, 44, 42, 180, 0, 29, 190, 43, 83, 187, 0, 8, 89, 42, 180, 0, 13, 42, 180, 0, 22, 42]
abbrev dktX2_withStretch_1 : List UInt8 := dkwX2_withStretch_1 ++ dktX2_withStretch_2
def dkwX2_withStretch_0 : List UInt8 := [42, 180, 0, 29, 190, 4, 96, 189, 0, 5, 77, 42, 180, 0, 29, 3, 44, 3, 42, 180, 0, 29, 190]
abbrev dktX2_withStretch_0 : List UInt8 := dkwX2_withStretch_0 ++ dktX2_withStretch_1
theorem dksX2_withStretch_0 : cX2_withStretch.data.toList.drop 0 = dktX2_withStretch_0 := by decide +kernel
theorem dksX2_withStretch_1 : cX2_withStretch.data.toList.drop 23 = dktX2_withStretch_1 := dk_seg dksX2_withStretch_0 23 rfl rfl
theorem dksX2_withStretch_2 : cX2_withStretch.data.toList.drop 47 = dktX2_withStretch_2 := dk_seg dksX2_withStretch_1 24 rfl rfl
theorem dX2_withStretch_0 : decode cX2_withStretch 0 = .ok (.aload_n 0, 1) := dk_42 (dk_at dksX2_withStretch_0 0 rfl rfl)
theorem dX2_withStretch_1 : decode cX2_withStretch 1 = .ok (.getfield 29, 3) := dk_180 0 29 (dk_at dksX2_withStretch_0 1 rfl rfl)
theorem dX2_withStretch_4 : decode cX2_withStretch 4 = .ok (.arraylength, 1) := dk_190 (dk_at dksX2_withStretch_0 4 rfl rfl)
theorem dX2_withStretch_5 : decode cX2_withStretch 5 = .ok (.iconst 1, 1) := dk_4 (dk_at dksX2_withStretch_0 5 rfl rfl)
theorem dX2_withStretch_6 : decode cX2_withStretch 6 = .ok (.iadd, 1) := dk_96 (dk_at dksX2_withStretch_0 6 rfl rfl)
theorem dX2_withStretch_7 : decode cX2_withStretch 7 = .ok (.anewarray 5, 3) := dk_189 0 5 (dk_at dksX2_withStretch_0 7 rfl rfl)
theorem dX2_withStretch_10 : decode cX2_withStretch 10 = .ok (.astore_n 2, 1) := dk_77 (dk_at dksX2_withStretch_0 10 rfl rfl)
theorem dX2_withStretch_11 : decode cX2_withStretch 11 = .ok (.aload_n 0, 1) := dk_42 (dk_at dksX2_withStretch_0 11 rfl rfl)
theorem dX2_withStretch_12 : decode cX2_withStretch 12 = .ok (.getfield 29, 3) := dk_180 0 29 (dk_at dksX2_withStretch_0 12 rfl rfl)
theorem dX2_withStretch_15 : decode cX2_withStretch 15 = .ok (.iconst 0, 1) := dk_3 (dk_at dksX2_withStretch_0 15 rfl rfl)
theorem dX2_withStretch_16 : decode cX2_withStretch 16 = .ok (.aload_n 2, 1) := dk_44 (dk_at dksX2_withStretch_0 16 rfl rfl)
theorem dX2_withStretch_17 : decode cX2_withStretch 17 = .ok (.iconst 0, 1) := dk_3 (dk_at dksX2_withStretch_0 17 rfl rfl)
theorem dX2_withStretch_18 : decode cX2_withStretch 18 = .ok (.aload_n 0, 1) := dk_42 (dk_at dksX2_withStretch_0 18 rfl rfl)
theorem dX2_withStretch_19 : decode cX2_withStretch 19 = .ok (.getfield 29, 3) := dk_180 0 29 (dk_at dksX2_withStretch_0 19 rfl rfl)
theorem dX2_withStretch_22 : decode cX2_withStretch 22 = .ok (.arraylength, 1) := dk_190 (dk_at dksX2_withStretch_0 22 rfl rfl)
theorem dX2_withStretch_23 : decode cX2_withStretch 23 = .ok (.invokestatic 50, 3) := dk_184 0 50 (dk_at dksX2_withStretch_1 0 rfl rfl)
theorem dX2_withStretch_26 : decode cX2_withStretch 26 = .ok (.aload_n 2, 1) := dk_44 (dk_at dksX2_withStretch_1 3 rfl rfl)
theorem dX2_withStretch_27 : decode cX2_withStretch 27 = .ok (.aload_n 0, 1) := dk_42 (dk_at dksX2_withStretch_1 4 rfl rfl)
theorem dX2_withStretch_28 : decode cX2_withStretch 28 = .ok (.getfield 29, 3) := dk_180 0 29 (dk_at dksX2_withStretch_1 5 rfl rfl)
theorem dX2_withStretch_31 : decode cX2_withStretch 31 = .ok (.arraylength, 1) := dk_190 (dk_at dksX2_withStretch_1 8 rfl rfl)
theorem dX2_withStretch_32 : decode cX2_withStretch 32 = .ok (.aload_n 1, 1) := dk_43 (dk_at dksX2_withStretch_1 9 rfl rfl)
theorem dX2_withStretch_33 : decode cX2_withStretch 33 = .ok (.aastore, 1) := dk_83 (dk_at dksX2_withStretch_1 10 rfl rfl)
theorem dX2_withStretch_34 : decode cX2_withStretch 34 = .ok (.new 8, 3) := dk_187 0 8 (dk_at dksX2_withStretch_1 11 rfl rfl)
theorem dX2_withStretch_37 : decode cX2_withStretch 37 = .ok (.dup, 1) := dk_89 (dk_at dksX2_withStretch_1 14 rfl rfl)
theorem dX2_withStretch_38 : decode cX2_withStretch 38 = .ok (.aload_n 0, 1) := dk_42 (dk_at dksX2_withStretch_1 15 rfl rfl)
theorem dX2_withStretch_39 : decode cX2_withStretch 39 = .ok (.getfield 13, 3) := dk_180 0 13 (dk_at dksX2_withStretch_1 16 rfl rfl)
theorem dX2_withStretch_42 : decode cX2_withStretch 42 = .ok (.aload_n 0, 1) := dk_42 (dk_at dksX2_withStretch_1 19 rfl rfl)
theorem dX2_withStretch_43 : decode cX2_withStretch 43 = .ok (.getfield 22, 3) := dk_180 0 22 (dk_at dksX2_withStretch_1 20 rfl rfl)
theorem dX2_withStretch_46 : decode cX2_withStretch 46 = .ok (.aload_n 0, 1) := dk_42 (dk_at dksX2_withStretch_1 23 rfl rfl)
theorem dX2_withStretch_47 : decode cX2_withStretch 47 = .ok (.getfield 25, 3) := dk_180 0 25 (dk_at dksX2_withStretch_2 0 rfl rfl)
theorem dX2_withStretch_50 : decode cX2_withStretch 50 = .ok (.aload_n 2, 1) := dk_44 (dk_at dksX2_withStretch_2 3 rfl rfl)
theorem dX2_withStretch_51 : decode cX2_withStretch 51 = .ok (.invokespecial 7, 3) := dk_183 0 7 (dk_at dksX2_withStretch_2 4 rfl rfl)
theorem dX2_withStretch_54 : decode cX2_withStretch 54 = .ok (.areturn, 1) := dk_176 (dk_at dksX2_withStretch_2 7 rfl rfl)
abbrev cX2_withoutStretch : ByteArray := prog_11_method_10_code
def yX2_withoutStretch : MethodName := ⟨RX2, "withoutStretch", "(I)LNetworkCenters$Network;"⟩
def dkwX2_withoutStretch_2 : List UInt8 := [180, 0, 22, 42, 180, 0, 25, 44, 183, 0, 7, 176]
abbrev dktX2_withoutStretch_2 : List UInt8 := dkwX2_withoutStretch_2 ++ []
def dkwX2_withoutStretch_1 : List UInt8 := [180, 0, 29, 27, 4, 96, 44, 27, 44, 190, 27, 100, 184, 0, 50, 187, 0, 8, 89, 42, 180, 0, 13, 42]
abbrev dktX2_withoutStretch_1 : List UInt8 := dkwX2_withoutStretch_1 ++ dktX2_withoutStretch_2
def dkwX2_withoutStretch_0 : List UInt8 := [42, 180, 0, 29, 190, 4, 100, 189, 0, 5, 77, 42, 180, 0, 29, 3, 44, 3, 27, 184, 0, 50, 42]
abbrev dktX2_withoutStretch_0 : List UInt8 := dkwX2_withoutStretch_0 ++ dktX2_withoutStretch_1
theorem dksX2_withoutStretch_0 : cX2_withoutStretch.data.toList.drop 0 = dktX2_withoutStretch_0 := by decide +kernel
theorem dksX2_withoutStretch_1 : cX2_withoutStretch.data.toList.drop 23 = dktX2_withoutStretch_1 := dk_seg dksX2_withoutStretch_0 23 rfl rfl
theorem dksX2_withoutStretch_2 : cX2_withoutStretch.data.toList.drop 47 = dktX2_withoutStretch_2 := dk_seg dksX2_withoutStretch_1 24 rfl rfl
theorem dX2_withoutStretch_0 : decode cX2_withoutStretch 0 = .ok (.aload_n 0, 1) := dk_42 (dk_at dksX2_withoutStretch_0 0 rfl rfl)
theorem dX2_withoutStretch_1 : decode cX2_withoutStretch 1 = .ok (.getfield 29, 3) := dk_180 0 29 (dk_at dksX2_withoutStretch_0 1 rfl rfl)
theorem dX2_withoutStretch_4 : decode cX2_withoutStretch 4 = .ok (.arraylength, 1) := dk_190 (dk_at dksX2_withoutStretch_0 4 rfl rfl)
theorem dX2_withoutStretch_5 : decode cX2_withoutStretch 5 = .ok (.iconst 1, 1) := dk_4 (dk_at dksX2_withoutStretch_0 5 rfl rfl)
theorem dX2_withoutStretch_6 : decode cX2_withoutStretch 6 = .ok (.isub, 1) := dk_100 (dk_at dksX2_withoutStretch_0 6 rfl rfl)
theorem dX2_withoutStretch_7 : decode cX2_withoutStretch 7 = .ok (.anewarray 5, 3) := dk_189 0 5 (dk_at dksX2_withoutStretch_0 7 rfl rfl)
theorem dX2_withoutStretch_10 : decode cX2_withoutStretch 10 = .ok (.astore_n 2, 1) := dk_77 (dk_at dksX2_withoutStretch_0 10 rfl rfl)
theorem dX2_withoutStretch_11 : decode cX2_withoutStretch 11 = .ok (.aload_n 0, 1) := dk_42 (dk_at dksX2_withoutStretch_0 11 rfl rfl)
theorem dX2_withoutStretch_12 : decode cX2_withoutStretch 12 = .ok (.getfield 29, 3) := dk_180 0 29 (dk_at dksX2_withoutStretch_0 12 rfl rfl)
theorem dX2_withoutStretch_15 : decode cX2_withoutStretch 15 = .ok (.iconst 0, 1) := dk_3 (dk_at dksX2_withoutStretch_0 15 rfl rfl)
theorem dX2_withoutStretch_16 : decode cX2_withoutStretch 16 = .ok (.aload_n 2, 1) := dk_44 (dk_at dksX2_withoutStretch_0 16 rfl rfl)
theorem dX2_withoutStretch_17 : decode cX2_withoutStretch 17 = .ok (.iconst 0, 1) := dk_3 (dk_at dksX2_withoutStretch_0 17 rfl rfl)
theorem dX2_withoutStretch_18 : decode cX2_withoutStretch 18 = .ok (.iload_n 1, 1) := dk_27 (dk_at dksX2_withoutStretch_0 18 rfl rfl)
theorem dX2_withoutStretch_19 : decode cX2_withoutStretch 19 = .ok (.invokestatic 50, 3) := dk_184 0 50 (dk_at dksX2_withoutStretch_0 19 rfl rfl)
theorem dX2_withoutStretch_22 : decode cX2_withoutStretch 22 = .ok (.aload_n 0, 1) := dk_42 (dk_at dksX2_withoutStretch_0 22 rfl rfl)
theorem dX2_withoutStretch_23 : decode cX2_withoutStretch 23 = .ok (.getfield 29, 3) := dk_180 0 29 (dk_at dksX2_withoutStretch_1 0 rfl rfl)
theorem dX2_withoutStretch_26 : decode cX2_withoutStretch 26 = .ok (.iload_n 1, 1) := dk_27 (dk_at dksX2_withoutStretch_1 3 rfl rfl)
theorem dX2_withoutStretch_27 : decode cX2_withoutStretch 27 = .ok (.iconst 1, 1) := dk_4 (dk_at dksX2_withoutStretch_1 4 rfl rfl)
theorem dX2_withoutStretch_28 : decode cX2_withoutStretch 28 = .ok (.iadd, 1) := dk_96 (dk_at dksX2_withoutStretch_1 5 rfl rfl)
theorem dX2_withoutStretch_29 : decode cX2_withoutStretch 29 = .ok (.aload_n 2, 1) := dk_44 (dk_at dksX2_withoutStretch_1 6 rfl rfl)
theorem dX2_withoutStretch_30 : decode cX2_withoutStretch 30 = .ok (.iload_n 1, 1) := dk_27 (dk_at dksX2_withoutStretch_1 7 rfl rfl)
theorem dX2_withoutStretch_31 : decode cX2_withoutStretch 31 = .ok (.aload_n 2, 1) := dk_44 (dk_at dksX2_withoutStretch_1 8 rfl rfl)
theorem dX2_withoutStretch_32 : decode cX2_withoutStretch 32 = .ok (.arraylength, 1) := dk_190 (dk_at dksX2_withoutStretch_1 9 rfl rfl)
theorem dX2_withoutStretch_33 : decode cX2_withoutStretch 33 = .ok (.iload_n 1, 1) := dk_27 (dk_at dksX2_withoutStretch_1 10 rfl rfl)
theorem dX2_withoutStretch_34 : decode cX2_withoutStretch 34 = .ok (.isub, 1) := dk_100 (dk_at dksX2_withoutStretch_1 11 rfl rfl)
theorem dX2_withoutStretch_35 : decode cX2_withoutStretch 35 = .ok (.invokestatic 50, 3) := dk_184 0 50 (dk_at dksX2_withoutStretch_1 12 rfl rfl)
theorem dX2_withoutStretch_38 : decode cX2_withoutStretch 38 = .ok (.new 8, 3) := dk_187 0 8 (dk_at dksX2_withoutStretch_1 15 rfl rfl)
theorem dX2_withoutStretch_41 : decode cX2_withoutStretch 41 = .ok (.dup, 1) := dk_89 (dk_at dksX2_withoutStretch_1 18 rfl rfl)
theorem dX2_withoutStretch_42 : decode cX2_withoutStretch 42 = .ok (.aload_n 0, 1) := dk_42 (dk_at dksX2_withoutStretch_1 19 rfl rfl)
theorem dX2_withoutStretch_43 : decode cX2_withoutStretch 43 = .ok (.getfield 13, 3) := dk_180 0 13 (dk_at dksX2_withoutStretch_1 20 rfl rfl)
theorem dX2_withoutStretch_46 : decode cX2_withoutStretch 46 = .ok (.aload_n 0, 1) := dk_42 (dk_at dksX2_withoutStretch_1 23 rfl rfl)
theorem dX2_withoutStretch_47 : decode cX2_withoutStretch 47 = .ok (.getfield 22, 3) := dk_180 0 22 (dk_at dksX2_withoutStretch_2 0 rfl rfl)
theorem dX2_withoutStretch_50 : decode cX2_withoutStretch 50 = .ok (.aload_n 0, 1) := dk_42 (dk_at dksX2_withoutStretch_2 3 rfl rfl)
theorem dX2_withoutStretch_51 : decode cX2_withoutStretch 51 = .ok (.getfield 25, 3) := dk_180 0 25 (dk_at dksX2_withoutStretch_2 4 rfl rfl)
theorem dX2_withoutStretch_54 : decode cX2_withoutStretch 54 = .ok (.aload_n 2, 1) := dk_44 (dk_at dksX2_withoutStretch_2 7 rfl rfl)
theorem dX2_withoutStretch_55 : decode cX2_withoutStretch 55 = .ok (.invokespecial 7, 3) := dk_183 0 7 (dk_at dksX2_withoutStretch_2 8 rfl rfl)
theorem dX2_withoutStretch_58 : decode cX2_withoutStretch 58 = .ok (.areturn, 1) := dk_176 (dk_at dksX2_withoutStretch_2 11 rfl rfl)
abbrev cX2_changed : ByteArray := prog_11_method_12_code
def yX2_changed : MethodName := ⟨RX2, "changed", "(I)LNetworkCenters$Network;"⟩
def dkwX2_changed_2 : List UInt8 := [42, 180, 0, 25, 42, 180, 0, 29, 183, 0, 7, 176]
abbrev dktX2_changed_2 : List UInt8 := dkwX2_changed_2 ++ []
def dkwX2_changed_1 : List UInt8 := [42, 180, 0, 22, 29, 46, 104, 96, 79, 132, 3, 1, 167, 255, 233, 187, 0, 8, 89, 44, 42, 180, 0, 22]
abbrev dktX2_changed_1 : List UInt8 := dkwX2_changed_1 ++ dktX2_changed_2
def dkwX2_changed_0 : List UInt8 := [42, 180, 0, 13, 182, 0, 41, 192, 0, 42, 77, 3, 62, 29, 44, 190, 162, 0, 23, 44, 29, 92, 46, 27]
abbrev dktX2_changed_0 : List UInt8 := dkwX2_changed_0 ++ dktX2_changed_1
theorem dksX2_changed_0 : cX2_changed.data.toList.drop 0 = dktX2_changed_0 := by decide +kernel
theorem dksX2_changed_1 : cX2_changed.data.toList.drop 24 = dktX2_changed_1 := dk_seg dksX2_changed_0 24 rfl rfl
theorem dksX2_changed_2 : cX2_changed.data.toList.drop 48 = dktX2_changed_2 := dk_seg dksX2_changed_1 24 rfl rfl
theorem dX2_changed_0 : decode cX2_changed 0 = .ok (.aload_n 0, 1) := dk_42 (dk_at dksX2_changed_0 0 rfl rfl)
theorem dX2_changed_1 : decode cX2_changed 1 = .ok (.getfield 13, 3) := dk_180 0 13 (dk_at dksX2_changed_0 1 rfl rfl)
theorem dX2_changed_4 : decode cX2_changed 4 = .ok (.invokevirtual 41, 3) := dk_182 0 41 (dk_at dksX2_changed_0 4 rfl rfl)
theorem dX2_changed_7 : decode cX2_changed 7 = .ok (.checkcast 42, 3) := dk_192 0 42 (dk_at dksX2_changed_0 7 rfl rfl)
theorem dX2_changed_10 : decode cX2_changed 10 = .ok (.astore_n 2, 1) := dk_77 (dk_at dksX2_changed_0 10 rfl rfl)
theorem dX2_changed_11 : decode cX2_changed 11 = .ok (.iconst 0, 1) := dk_3 (dk_at dksX2_changed_0 11 rfl rfl)
theorem dX2_changed_12 : decode cX2_changed 12 = .ok (.istore_n 3, 1) := dk_62 (dk_at dksX2_changed_0 12 rfl rfl)
theorem dX2_changed_13 : decode cX2_changed 13 = .ok (.iload_n 3, 1) := dk_29 (dk_at dksX2_changed_0 13 rfl rfl)
theorem dX2_changed_14 : decode cX2_changed 14 = .ok (.aload_n 2, 1) := dk_44 (dk_at dksX2_changed_0 14 rfl rfl)
theorem dX2_changed_15 : decode cX2_changed 15 = .ok (.arraylength, 1) := dk_190 (dk_at dksX2_changed_0 15 rfl rfl)
theorem dX2_changed_16 : decode cX2_changed 16 = .ok (.if_icmp .ge 23, 3) := dk_162 0 23 (dk_at dksX2_changed_0 16 rfl rfl)
theorem dX2_changed_19 : decode cX2_changed 19 = .ok (.aload_n 2, 1) := dk_44 (dk_at dksX2_changed_0 19 rfl rfl)
theorem dX2_changed_20 : decode cX2_changed 20 = .ok (.iload_n 3, 1) := dk_29 (dk_at dksX2_changed_0 20 rfl rfl)
theorem dX2_changed_21 : decode cX2_changed 21 = .ok (.dup2, 1) := dk_92 (dk_at dksX2_changed_0 21 rfl rfl)
theorem dX2_changed_22 : decode cX2_changed 22 = .ok (.iaload, 1) := dk_46 (dk_at dksX2_changed_0 22 rfl rfl)
theorem dX2_changed_23 : decode cX2_changed 23 = .ok (.iload_n 1, 1) := dk_27 (dk_at dksX2_changed_0 23 rfl rfl)
theorem dX2_changed_24 : decode cX2_changed 24 = .ok (.aload_n 0, 1) := dk_42 (dk_at dksX2_changed_1 0 rfl rfl)
theorem dX2_changed_25 : decode cX2_changed 25 = .ok (.getfield 22, 3) := dk_180 0 22 (dk_at dksX2_changed_1 1 rfl rfl)
theorem dX2_changed_28 : decode cX2_changed 28 = .ok (.iload_n 3, 1) := dk_29 (dk_at dksX2_changed_1 4 rfl rfl)
theorem dX2_changed_29 : decode cX2_changed 29 = .ok (.iaload, 1) := dk_46 (dk_at dksX2_changed_1 5 rfl rfl)
theorem dX2_changed_30 : decode cX2_changed 30 = .ok (.imul, 1) := dk_104 (dk_at dksX2_changed_1 6 rfl rfl)
theorem dX2_changed_31 : decode cX2_changed 31 = .ok (.iadd, 1) := dk_96 (dk_at dksX2_changed_1 7 rfl rfl)
theorem dX2_changed_32 : decode cX2_changed 32 = .ok (.iastore, 1) := dk_79 (dk_at dksX2_changed_1 8 rfl rfl)
theorem dX2_changed_33 : decode cX2_changed 33 = .ok (.iinc 3 1, 3) := dk_132 3 1 (dk_at dksX2_changed_1 9 rfl rfl)
theorem dX2_changed_36 : decode cX2_changed 36 = .ok (.goto (-23), 3) := dk_167 255 233 (dk_at dksX2_changed_1 12 rfl rfl)
theorem dX2_changed_39 : decode cX2_changed 39 = .ok (.new 8, 3) := dk_187 0 8 (dk_at dksX2_changed_1 15 rfl rfl)
theorem dX2_changed_42 : decode cX2_changed 42 = .ok (.dup, 1) := dk_89 (dk_at dksX2_changed_1 18 rfl rfl)
theorem dX2_changed_43 : decode cX2_changed 43 = .ok (.aload_n 2, 1) := dk_44 (dk_at dksX2_changed_1 19 rfl rfl)
theorem dX2_changed_44 : decode cX2_changed 44 = .ok (.aload_n 0, 1) := dk_42 (dk_at dksX2_changed_1 20 rfl rfl)
theorem dX2_changed_45 : decode cX2_changed 45 = .ok (.getfield 22, 3) := dk_180 0 22 (dk_at dksX2_changed_1 21 rfl rfl)
theorem dX2_changed_48 : decode cX2_changed 48 = .ok (.aload_n 0, 1) := dk_42 (dk_at dksX2_changed_2 0 rfl rfl)
theorem dX2_changed_49 : decode cX2_changed 49 = .ok (.getfield 25, 3) := dk_180 0 25 (dk_at dksX2_changed_2 1 rfl rfl)
theorem dX2_changed_52 : decode cX2_changed 52 = .ok (.aload_n 0, 1) := dk_42 (dk_at dksX2_changed_2 4 rfl rfl)
theorem dX2_changed_53 : decode cX2_changed 53 = .ok (.getfield 29, 3) := dk_180 0 29 (dk_at dksX2_changed_2 5 rfl rfl)
theorem dX2_changed_56 : decode cX2_changed 56 = .ok (.invokespecial 7, 3) := dk_183 0 7 (dk_at dksX2_changed_2 8 rfl rfl)
theorem dX2_changed_59 : decode cX2_changed 59 = .ok (.areturn, 1) := dk_176 (dk_at dksX2_changed_2 11 rfl rfl)
theorem q106 : (Jvm.Cond.initialized "NetworkCenters$Network") ∈ lw_all := lw_g (lw_at lw_m1 2 rfl) rfl
theorem q160 : (Jvm.Cond.instantiable "NetworkCenters$Network" (4 : Nat)) ∈ lw_all := lw_g (lw_at lw_m1 56 rfl) rfl
theorem q162 : (Jvm.Cond.instanceMethod ({ cls := "NetworkCenters$Network", name := "<init>", desc := "(I)V" } : Jvm.MethodName)) ∈ lw_all := lw_g (lw_at lw_m1 58 rfl) rfl
theorem q163 : (Jvm.Cond.code ({ cls := "NetworkCenters$Network", name := "<init>", desc := "(I)V" } : Jvm.MethodName) prog_11_method_1_code (3 : Nat) (Option.none : Option Jvm.ClassFile.FieldType)) ∈ lw_all := lw_g (lw_at lw_m1 59 rfl) rfl
theorem q164 : (Jvm.Cond.classLink "NetworkCenters$Network" (3 : Nat) "NetworkCenters$Edge") ∈ lw_all := lw_g (lw_at lw_m1 60 rfl) rfl
theorem q166 : (Jvm.Cond.classLink "NetworkCenters$Network" (5 : Nat) "NetworkCenters$Stretch") ∈ lw_all := lw_g (lw_at lw_m1 62 rfl) rfl
theorem q168 : (Jvm.Cond.methodLink "NetworkCenters$Network" (7 : Nat) ({ cls := "NetworkCenters$Network", name := "<init>", desc := "([I[I[LNetworkCenters$Edge;[LNetworkCenters$Stretch;)V" } : Jvm.MethodName)) ∈ lw_all := lw_g (lw_at lw_m1 64 rfl) rfl
theorem q169 : (Jvm.Cond.instanceMethod ({ cls := "NetworkCenters$Network", name := "<init>", desc := "([I[I[LNetworkCenters$Edge;[LNetworkCenters$Stretch;)V" } : Jvm.MethodName)) ∈ lw_all := lw_g (lw_at lw_m1 65 rfl) rfl
theorem q170 : (Jvm.Cond.code ({ cls := "NetworkCenters$Network", name := "<init>", desc := "([I[I[LNetworkCenters$Edge;[LNetworkCenters$Stretch;)V" } : Jvm.MethodName) prog_11_method_2_code (5 : Nat) (Option.none : Option Jvm.ClassFile.FieldType)) ∈ lw_all := lw_g (lw_at lw_m1 66 rfl) rfl
theorem q171 : (Jvm.Cond.methodLink "NetworkCenters$Network" (17 : Nat) ({ cls := "java/lang/Object", name := "<init>", desc := "()V" } : Jvm.MethodName)) ∈ lw_all := lw_g (lw_at lw_m1 67 rfl) rfl
theorem q172 : (Jvm.Cond.fieldLink "NetworkCenters$Network" (13 : Nat) "NetworkCenters$Network" "weights" "[I") ∈ lw_all := lw_g (lw_at lw_m1 68 rfl) rfl
theorem q175 : (Jvm.Cond.fieldLink "NetworkCenters$Network" (22 : Nat) "NetworkCenters$Network" "trends" "[I") ∈ lw_all := lw_g (lw_at lw_m1 71 rfl) rfl
theorem q179 : (Jvm.Cond.fieldLink "NetworkCenters$Network" (25 : Nat) "NetworkCenters$Network" "edges" "[LNetworkCenters$Edge;") ∈ lw_all := lw_g (lw_at lw_m1 75 rfl) rfl
theorem q181 : (Jvm.Cond.fieldLink "NetworkCenters$Network" (29 : Nat) "NetworkCenters$Network" "stretches" "[LNetworkCenters$Stretch;") ∈ lw_all := lw_g (lw_at lw_m1 77 rfl) rfl
theorem q185 : (Jvm.Cond.laysFinal "NetworkCenters$Network" "NetworkCenters$Network" "weights" "[I") ∈ lw_all := lw_g (lw_at lw_m1 81 rfl) rfl
theorem q186 : (Jvm.Cond.soleField "NetworkCenters$Network" "weights") ∈ lw_all := lw_g (lw_at lw_m1 82 rfl) rfl
theorem q187 : (Jvm.Cond.laysFinal "NetworkCenters$Network" "NetworkCenters$Network" "trends" "[I") ∈ lw_all := lw_g (lw_at lw_m1 83 rfl) rfl
theorem q188 : (Jvm.Cond.soleField "NetworkCenters$Network" "trends") ∈ lw_all := lw_g (lw_at lw_m1 84 rfl) rfl
theorem q189 : (Jvm.Cond.laysFinal "NetworkCenters$Network" "NetworkCenters$Network" "edges" "[LNetworkCenters$Edge;") ∈ lw_all := lw_g (lw_at lw_m1 85 rfl) rfl
theorem q190 : (Jvm.Cond.soleField "NetworkCenters$Network" "edges") ∈ lw_all := lw_g (lw_at lw_m1 86 rfl) rfl
theorem q191 : (Jvm.Cond.laysFinal "NetworkCenters$Network" "NetworkCenters$Network" "stretches" "[LNetworkCenters$Stretch;") ∈ lw_all := lw_g (lw_at lw_m1 87 rfl) rfl
theorem q192 : (Jvm.Cond.soleField "NetworkCenters$Network" "stretches") ∈ lw_all := lw_g (lw_at lw_m1 88 rfl) rfl
theorem q193 : (Jvm.Cond.superclass "NetworkCenters$Network" "java/lang/Object") ∈ lw_all := lw_g (lw_at lw_m1 89 rfl) rfl
theorem q202 : (Jvm.Cond.instanceMethod ({ cls := "NetworkCenters$Network", name := "size", desc := "()I" } : Jvm.MethodName)) ∈ lw_all := lw_g (lw_at lw_m1 98 rfl) rfl
theorem q203 : (Jvm.Cond.selects "NetworkCenters$Network" ({ cls := "NetworkCenters$Network", name := "size", desc := "()I" } : Jvm.MethodName) ({ cls := "NetworkCenters$Network", name := "size", desc := "()I" } : Jvm.MethodName)) ∈ lw_all := lw_g (lw_at lw_m1 99 rfl) rfl
theorem q204 : (Jvm.Cond.code ({ cls := "NetworkCenters$Network", name := "size", desc := "()I" } : Jvm.MethodName) prog_11_method_3_code (1 : Nat) (Option.some Jvm.ClassFile.FieldType.int)) ∈ lw_all := lw_g (lw_at lw_m1 100 rfl) rfl
theorem q832 : (Jvm.Cond.instanceMethod ({ cls := "NetworkCenters$Network", name := "degree", desc := "(I)I" } : Jvm.MethodName)) ∈ lw_all := lw_g (lw_at lw_m4 8 rfl) rfl
theorem q833 : (Jvm.Cond.selects "NetworkCenters$Network" ({ cls := "NetworkCenters$Network", name := "degree", desc := "(I)I" } : Jvm.MethodName) ({ cls := "NetworkCenters$Network", name := "degree", desc := "(I)I" } : Jvm.MethodName)) ∈ lw_all := lw_g (lw_at lw_m4 9 rfl) rfl
theorem q834 : (Jvm.Cond.code ({ cls := "NetworkCenters$Network", name := "degree", desc := "(I)I" } : Jvm.MethodName) prog_11_method_14_code (4 : Nat) (Option.some Jvm.ClassFile.FieldType.int)) ∈ lw_all := lw_g (lw_at lw_m4 10 rfl) rfl
theorem q1000 : (Jvm.Cond.instanceMethod ({ cls := "NetworkCenters$Network", name := "isAllowed", desc := "(IJJ)Z" } : Jvm.MethodName)) ∈ lw_all := lw_g (lw_at lw_m4 176 rfl) rfl
theorem q1001 : (Jvm.Cond.selects "NetworkCenters$Network" ({ cls := "NetworkCenters$Network", name := "isAllowed", desc := "(IJJ)Z" } : Jvm.MethodName) ({ cls := "NetworkCenters$Network", name := "isAllowed", desc := "(IJJ)Z" } : Jvm.MethodName)) ∈ lw_all := lw_g (lw_at lw_m4 177 rfl) rfl
theorem q1002 : (Jvm.Cond.code ({ cls := "NetworkCenters$Network", name := "isAllowed", desc := "(IJJ)Z" } : Jvm.MethodName) prog_11_method_15_code (8 : Nat) (Option.some Jvm.ClassFile.FieldType.boolean)) ∈ lw_all := lw_g (lw_at lw_m4 178 rfl) rfl
theorem q1003 : (Jvm.Cond.methodLink "NetworkCenters$Network" (102 : Nat) ({ cls := "NetworkCenters$Stretch", name := "contains", desc := "(IJJ)Z" } : Jvm.MethodName)) ∈ lw_all := lw_g (lw_at lw_m4 179 rfl) rfl
theorem q1244 : (Jvm.Cond.selects "NetworkCenters$Network" ({ cls := "java/lang/Object", name := "getClass", desc := "()Ljava/lang/Class;" } : Jvm.MethodName) ({ cls := "java/lang/Object", name := "getClass", desc := "()Ljava/lang/Class;" } : Jvm.MethodName)) ∈ lw_all := lw_g (lw_at lw_m5 180 rfl) rfl
theorem q1293 : (Jvm.Cond.instanceMethod ({ cls := "NetworkCenters$Network", name := "isNode", desc := "(I)Z" } : Jvm.MethodName)) ∈ lw_all := lw_g (lw_at lw_m5 229 rfl) rfl
theorem q1294 : (Jvm.Cond.selects "NetworkCenters$Network" ({ cls := "NetworkCenters$Network", name := "isNode", desc := "(I)Z" } : Jvm.MethodName) ({ cls := "NetworkCenters$Network", name := "isNode", desc := "(I)Z" } : Jvm.MethodName)) ∈ lw_all := lw_g (lw_at lw_m5 230 rfl) rfl
theorem q1295 : (Jvm.Cond.code ({ cls := "NetworkCenters$Network", name := "isNode", desc := "(I)Z" } : Jvm.MethodName) prog_11_method_4_code (2 : Nat) (Option.some Jvm.ClassFile.FieldType.boolean)) ∈ lw_all := lw_g (lw_at lw_m5 231 rfl) rfl
theorem q1296 : (Jvm.Cond.methodLink "NetworkCenters$Network" (33 : Nat) ({ cls := "NetworkCenters$Network", name := "size", desc := "()I" } : Jvm.MethodName)) ∈ lw_all := lw_g (lw_at lw_m5 232 rfl) rfl
theorem q1297 : (Jvm.Cond.methodLinkNest "NetworkCenters$Network" (37 : Nat) ({ cls := "NetworkCenters", name := "isIn", desc := "(III)Z" } : Jvm.MethodName) "NetworkCenters") ∈ lw_tbl := lw_at lw_m5 233 rfl
theorem q1307 : (Jvm.Cond.instanceMethod ({ cls := "NetworkCenters$Network", name := "mayConnect", desc := "(III)Z" } : Jvm.MethodName)) ∈ lw_all := lw_g (lw_at lw_m6 3 rfl) rfl
theorem q1308 : (Jvm.Cond.selects "NetworkCenters$Network" ({ cls := "NetworkCenters$Network", name := "mayConnect", desc := "(III)Z" } : Jvm.MethodName) ({ cls := "NetworkCenters$Network", name := "mayConnect", desc := "(III)Z" } : Jvm.MethodName)) ∈ lw_all := lw_g (lw_at lw_m6 4 rfl) rfl
theorem q1309 : (Jvm.Cond.code ({ cls := "NetworkCenters$Network", name := "mayConnect", desc := "(III)Z" } : Jvm.MethodName) prog_11_method_16_code (4 : Nat) (Option.some Jvm.ClassFile.FieldType.boolean)) ∈ lw_all := lw_g (lw_at lw_m6 5 rfl) rfl
theorem q1311 : (Jvm.Cond.instanceMethod ({ cls := "NetworkCenters$Network", name := "hasRoomFor", desc := "(II)Z" } : Jvm.MethodName)) ∈ lw_all := lw_g (lw_at lw_m6 7 rfl) rfl
theorem q1312 : (Jvm.Cond.selects "NetworkCenters$Network" ({ cls := "NetworkCenters$Network", name := "hasRoomFor", desc := "(II)Z" } : Jvm.MethodName) ({ cls := "NetworkCenters$Network", name := "hasRoomFor", desc := "(II)Z" } : Jvm.MethodName)) ∈ lw_all := lw_g (lw_at lw_m6 8 rfl) rfl
theorem q1313 : (Jvm.Cond.code ({ cls := "NetworkCenters$Network", name := "hasRoomFor", desc := "(II)Z" } : Jvm.MethodName) prog_11_method_17_code (3 : Nat) (Option.some Jvm.ClassFile.FieldType.boolean)) ∈ lw_all := lw_g (lw_at lw_m6 9 rfl) rfl
theorem q1314 : (Jvm.Cond.methodLink "NetworkCenters$Network" (106 : Nat) ({ cls := "NetworkCenters$Network", name := "isJoined", desc := "(II)Z" } : Jvm.MethodName)) ∈ lw_all := lw_g (lw_at lw_m6 10 rfl) rfl
theorem q1315 : (Jvm.Cond.instanceMethod ({ cls := "NetworkCenters$Network", name := "isJoined", desc := "(II)Z" } : Jvm.MethodName)) ∈ lw_all := lw_g (lw_at lw_m6 11 rfl) rfl
theorem q1316 : (Jvm.Cond.selects "NetworkCenters$Network" ({ cls := "NetworkCenters$Network", name := "isJoined", desc := "(II)Z" } : Jvm.MethodName) ({ cls := "NetworkCenters$Network", name := "isJoined", desc := "(II)Z" } : Jvm.MethodName)) ∈ lw_all := lw_g (lw_at lw_m6 12 rfl) rfl
theorem q1317 : (Jvm.Cond.code ({ cls := "NetworkCenters$Network", name := "isJoined", desc := "(II)Z" } : Jvm.MethodName) prog_11_method_13_code (5 : Nat) (Option.some Jvm.ClassFile.FieldType.boolean)) ∈ lw_all := lw_g (lw_at lw_m6 13 rfl) rfl
theorem q1318 : (Jvm.Cond.methodLink "NetworkCenters$Network" (96 : Nat) ({ cls := "NetworkCenters$Edge", name := "joins", desc := "(II)Z" } : Jvm.MethodName)) ∈ lw_all := lw_g (lw_at lw_m6 14 rfl) rfl
theorem q1338 : (Jvm.Cond.fieldLinkNest "NetworkCenters$Network" (100 : Nat) "NetworkCenters$Edge" "a" "I" "NetworkCenters") ∈ lw_tbl := lw_at lw_m6 34 rfl
theorem q1342 : (Jvm.Cond.fieldLinkNest "NetworkCenters$Network" (101 : Nat) "NetworkCenters$Edge" "b" "I" "NetworkCenters") ∈ lw_tbl := lw_at lw_m6 38 rfl
theorem q1347 : (Jvm.Cond.fieldLinkNest "NetworkCenters$Network" (109 : Nat) "NetworkCenters$Edge" "length" "I" "NetworkCenters") ∈ lw_tbl := lw_at lw_m6 43 rfl
theorem q1356 : (Jvm.Cond.instanceMethod ({ cls := "NetworkCenters$Network", name := "withEdge", desc := "(LNetworkCenters$Edge;)LNetworkCenters$Network;" } : Jvm.MethodName)) ∈ lw_all := lw_g (lw_at lw_m6 52 rfl) rfl
theorem q1357 : (Jvm.Cond.selects "NetworkCenters$Network" ({ cls := "NetworkCenters$Network", name := "withEdge", desc := "(LNetworkCenters$Edge;)LNetworkCenters$Network;" } : Jvm.MethodName) ({ cls := "NetworkCenters$Network", name := "withEdge", desc := "(LNetworkCenters$Edge;)LNetworkCenters$Network;" } : Jvm.MethodName)) ∈ lw_all := lw_g (lw_at lw_m6 53 rfl) rfl
theorem q1358 : (Jvm.Cond.code ({ cls := "NetworkCenters$Network", name := "withEdge", desc := "(LNetworkCenters$Edge;)LNetworkCenters$Network;" } : Jvm.MethodName) prog_11_method_8_code (3 : Nat) (Option.some (Jvm.ClassFile.FieldType.object "NetworkCenters$Network"))) ∈ lw_all := lw_g (lw_at lw_m6 54 rfl) rfl
theorem q1359 : (Jvm.Cond.methodLink "NetworkCenters$Network" (50 : Nat) ({ cls := "java/lang/System", name := "arraycopy", desc := "(Ljava/lang/Object;ILjava/lang/Object;II)V" } : Jvm.MethodName)) ∈ lw_all := lw_g (lw_at lw_m6 55 rfl) rfl
theorem q1360 : (Jvm.Cond.classLink "NetworkCenters$Network" (8 : Nat) "NetworkCenters$Network") ∈ lw_all := lw_g (lw_at lw_m6 56 rfl) rfl
theorem q1373 : (Jvm.Cond.instanceMethod ({ cls := "NetworkCenters$Network", name := "withoutEdge", desc := "(I)LNetworkCenters$Network;" } : Jvm.MethodName)) ∈ lw_all := lw_g (lw_at lw_m6 69 rfl) rfl
theorem q1374 : (Jvm.Cond.selects "NetworkCenters$Network" ({ cls := "NetworkCenters$Network", name := "withoutEdge", desc := "(I)LNetworkCenters$Network;" } : Jvm.MethodName) ({ cls := "NetworkCenters$Network", name := "withoutEdge", desc := "(I)LNetworkCenters$Network;" } : Jvm.MethodName)) ∈ lw_all := lw_g (lw_at lw_m6 70 rfl) rfl
theorem q1375 : (Jvm.Cond.code ({ cls := "NetworkCenters$Network", name := "withoutEdge", desc := "(I)LNetworkCenters$Network;" } : Jvm.MethodName) prog_11_method_11_code (8 : Nat) (Option.some (Jvm.ClassFile.FieldType.object "NetworkCenters$Network"))) ∈ lw_all := lw_g (lw_at lw_m6 71 rfl) rfl
theorem q1376 : (Jvm.Cond.classLink "NetworkCenters$Network" (56 : Nat) "java/util/LinkedList") ∈ lw_all := lw_g (lw_at lw_m6 72 rfl) rfl
theorem q1378 : (Jvm.Cond.methodLink "NetworkCenters$Network" (58 : Nat) ({ cls := "java/util/LinkedList", name := "<init>", desc := "()V" } : Jvm.MethodName)) ∈ lw_all := lw_g (lw_at lw_m6 74 rfl) rfl
theorem q1406 : (Jvm.Cond.methodLink "NetworkCenters$Network" (59 : Nat) ({ cls := "java/util/LinkedList", name := "add", desc := "(Ljava/lang/Object;)Z" } : Jvm.MethodName)) ∈ lw_all := lw_g (lw_at lw_m6 102 rfl) rfl
theorem q1435 : (Jvm.Cond.methodLink "NetworkCenters$Network" (63 : Nat) ({ cls := "java/util/LinkedList", name := "iterator", desc := "()Ljava/util/Iterator;" } : Jvm.MethodName)) ∈ lw_all := lw_g (lw_at lw_m6 131 rfl) rfl
theorem q1501 : (Jvm.Cond.interfaceEntry "NetworkCenters$Network" (67 : Nat)) ∈ lw_tbl := lw_at lw_m6 197 rfl
theorem q1502 : (Jvm.Cond.methodLink "NetworkCenters$Network" (67 : Nat) ({ cls := "java/util/Iterator", name := "hasNext", desc := "()Z" } : Jvm.MethodName)) ∈ lw_all := lw_g (lw_at lw_m6 198 rfl) rfl
theorem q1523 : (Jvm.Cond.interfaceEntry "NetworkCenters$Network" (73 : Nat)) ∈ lw_tbl := lw_at lw_m6 219 rfl
theorem q1524 : (Jvm.Cond.methodLink "NetworkCenters$Network" (73 : Nat) ({ cls := "java/util/Iterator", name := "next", desc := "()Ljava/lang/Object;" } : Jvm.MethodName)) ∈ lw_all := lw_g (lw_at lw_m6 220 rfl) rfl
theorem q1627 : (Jvm.Cond.interfaceEntry "NetworkCenters$Network" (80 : Nat)) ∈ lw_tbl := lw_at lw_m7 83 rfl
theorem q1628 : (Jvm.Cond.methodLink "NetworkCenters$Network" (80 : Nat) ({ cls := "java/util/Iterator", name := "remove", desc := "()V" } : Jvm.MethodName)) ∈ lw_all := lw_g (lw_at lw_m7 84 rfl) rfl
theorem q1670 : (Jvm.Cond.methodLink "NetworkCenters$Network" (83 : Nat) ({ cls := "java/util/LinkedList", name := "size", desc := "()I" } : Jvm.MethodName)) ∈ lw_all := lw_g (lw_at lw_m7 126 rfl) rfl
theorem q1671 : (Jvm.Cond.methodLink "NetworkCenters$Network" (84 : Nat) ({ cls := "java/util/LinkedList", name := "removeFirst", desc := "()Ljava/lang/Object;" } : Jvm.MethodName)) ∈ lw_all := lw_g (lw_at lw_m7 127 rfl) rfl
theorem q1680 : (Jvm.Cond.methodLink "NetworkCenters$Network" (93 : Nat) ({ cls := "NetworkCenters$Stretch", name := "<init>", desc := "(III)V" } : Jvm.MethodName)) ∈ lw_all := lw_g (lw_at lw_m7 136 rfl) rfl
theorem q1686 : (Jvm.Cond.fieldLinkNest "NetworkCenters$Network" (76 : Nat) "NetworkCenters$Stretch" "edge" "I" "NetworkCenters") ∈ lw_tbl := lw_at lw_m7 142 rfl
theorem q1690 : (Jvm.Cond.fieldLinkNest "NetworkCenters$Network" (87 : Nat) "NetworkCenters$Stretch" "a" "I" "NetworkCenters") ∈ lw_tbl := lw_at lw_m7 146 rfl
theorem q1693 : (Jvm.Cond.fieldLinkNest "NetworkCenters$Network" (90 : Nat) "NetworkCenters$Stretch" "b" "I" "NetworkCenters") ∈ lw_tbl := lw_at lw_m7 149 rfl
theorem q1709 : (Jvm.Cond.instanceMethod ({ cls := "NetworkCenters$Network", name := "withWeight", desc := "(II)LNetworkCenters$Network;" } : Jvm.MethodName)) ∈ lw_all := lw_g (lw_at lw_m7 165 rfl) rfl
theorem q1710 : (Jvm.Cond.selects "NetworkCenters$Network" ({ cls := "NetworkCenters$Network", name := "withWeight", desc := "(II)LNetworkCenters$Network;" } : Jvm.MethodName) ({ cls := "NetworkCenters$Network", name := "withWeight", desc := "(II)LNetworkCenters$Network;" } : Jvm.MethodName)) ∈ lw_all := lw_g (lw_at lw_m7 166 rfl) rfl
theorem q1711 : (Jvm.Cond.code ({ cls := "NetworkCenters$Network", name := "withWeight", desc := "(II)LNetworkCenters$Network;" } : Jvm.MethodName) prog_11_method_6_code (3 : Nat) (Option.some (Jvm.ClassFile.FieldType.object "NetworkCenters$Network"))) ∈ lw_all := lw_g (lw_at lw_m7 167 rfl) rfl
theorem q1712 : (Jvm.Cond.methodLink "NetworkCenters$Network" (46 : Nat) ({ cls := "NetworkCenters$Network", name := "with", desc := "([III)[I" } : Jvm.MethodName)) ∈ lw_all := lw_g (lw_at lw_m7 168 rfl) rfl
theorem q1713 : (Jvm.Cond.static ({ cls := "NetworkCenters$Network", name := "with", desc := "([III)[I" } : Jvm.MethodName)) ∈ lw_all := lw_g (lw_at lw_m7 169 rfl) rfl
theorem q1714 : (Jvm.Cond.code ({ cls := "NetworkCenters$Network", name := "with", desc := "([III)[I" } : Jvm.MethodName) prog_11_method_5_code (4 : Nat) (Option.some (Jvm.ClassFile.FieldType.array Jvm.ClassFile.FieldType.int))) ∈ lw_all := lw_g (lw_at lw_m7 170 rfl) rfl
theorem q1715 : (Jvm.Cond.methodLink "NetworkCenters$Network" (41 : Nat) ({ cls := "[I", name := "clone", desc := "()Ljava/lang/Object;" } : Jvm.MethodName)) ∈ lw_all := lw_g (lw_at lw_m7 171 rfl) rfl
theorem q1719 : (Jvm.Cond.classLink "NetworkCenters$Network" (42 : Nat) "[I") ∈ lw_all := lw_g (lw_at lw_m7 175 rfl) rfl
theorem q1728 : (Jvm.Cond.instanceMethod ({ cls := "NetworkCenters$Network", name := "withTrend", desc := "(II)LNetworkCenters$Network;" } : Jvm.MethodName)) ∈ lw_all := lw_g (lw_at lw_m7 184 rfl) rfl
theorem q1729 : (Jvm.Cond.selects "NetworkCenters$Network" ({ cls := "NetworkCenters$Network", name := "withTrend", desc := "(II)LNetworkCenters$Network;" } : Jvm.MethodName) ({ cls := "NetworkCenters$Network", name := "withTrend", desc := "(II)LNetworkCenters$Network;" } : Jvm.MethodName)) ∈ lw_all := lw_g (lw_at lw_m7 185 rfl) rfl
theorem q1730 : (Jvm.Cond.code ({ cls := "NetworkCenters$Network", name := "withTrend", desc := "(II)LNetworkCenters$Network;" } : Jvm.MethodName) prog_11_method_7_code (3 : Nat) (Option.some (Jvm.ClassFile.FieldType.object "NetworkCenters$Network"))) ∈ lw_all := lw_g (lw_at lw_m7 186 rfl) rfl
theorem q1739 : (Jvm.Cond.instanceMethod ({ cls := "NetworkCenters$Network", name := "mayForbid", desc := "(III)Z" } : Jvm.MethodName)) ∈ lw_all := lw_g (lw_at lw_m7 195 rfl) rfl
theorem q1740 : (Jvm.Cond.selects "NetworkCenters$Network" ({ cls := "NetworkCenters$Network", name := "mayForbid", desc := "(III)Z" } : Jvm.MethodName) ({ cls := "NetworkCenters$Network", name := "mayForbid", desc := "(III)Z" } : Jvm.MethodName)) ∈ lw_all := lw_g (lw_at lw_m7 196 rfl) rfl
theorem q1741 : (Jvm.Cond.code ({ cls := "NetworkCenters$Network", name := "mayForbid", desc := "(III)Z" } : Jvm.MethodName) prog_11_method_18_code (4 : Nat) (Option.some Jvm.ClassFile.FieldType.boolean)) ∈ lw_all := lw_g (lw_at lw_m7 197 rfl) rfl
theorem q1745 : (Jvm.Cond.instanceMethod ({ cls := "NetworkCenters$Network", name := "withStretch", desc := "(LNetworkCenters$Stretch;)LNetworkCenters$Network;" } : Jvm.MethodName)) ∈ lw_all := lw_g (lw_at lw_m7 201 rfl) rfl
theorem q1746 : (Jvm.Cond.selects "NetworkCenters$Network" ({ cls := "NetworkCenters$Network", name := "withStretch", desc := "(LNetworkCenters$Stretch;)LNetworkCenters$Network;" } : Jvm.MethodName) ({ cls := "NetworkCenters$Network", name := "withStretch", desc := "(LNetworkCenters$Stretch;)LNetworkCenters$Network;" } : Jvm.MethodName)) ∈ lw_all := lw_g (lw_at lw_m7 202 rfl) rfl
theorem q1747 : (Jvm.Cond.code ({ cls := "NetworkCenters$Network", name := "withStretch", desc := "(LNetworkCenters$Stretch;)LNetworkCenters$Network;" } : Jvm.MethodName) prog_11_method_9_code (3 : Nat) (Option.some (Jvm.ClassFile.FieldType.object "NetworkCenters$Network"))) ∈ lw_all := lw_g (lw_at lw_m7 203 rfl) rfl
theorem q1760 : (Jvm.Cond.instanceMethod ({ cls := "NetworkCenters$Network", name := "withoutStretch", desc := "(I)LNetworkCenters$Network;" } : Jvm.MethodName)) ∈ lw_all := lw_g (lw_at lw_m7 216 rfl) rfl
theorem q1761 : (Jvm.Cond.selects "NetworkCenters$Network" ({ cls := "NetworkCenters$Network", name := "withoutStretch", desc := "(I)LNetworkCenters$Network;" } : Jvm.MethodName) ({ cls := "NetworkCenters$Network", name := "withoutStretch", desc := "(I)LNetworkCenters$Network;" } : Jvm.MethodName)) ∈ lw_all := lw_g (lw_at lw_m7 217 rfl) rfl
theorem q1762 : (Jvm.Cond.code ({ cls := "NetworkCenters$Network", name := "withoutStretch", desc := "(I)LNetworkCenters$Network;" } : Jvm.MethodName) prog_11_method_10_code (3 : Nat) (Option.some (Jvm.ClassFile.FieldType.object "NetworkCenters$Network"))) ∈ lw_all := lw_g (lw_at lw_m7 218 rfl) rfl
theorem q1932 : (Jvm.Cond.instanceMethod ({ cls := "NetworkCenters$Network", name := "changed", desc := "(I)LNetworkCenters$Network;" } : Jvm.MethodName)) ∈ lw_all := lw_g (lw_at lw_m8 148 rfl) rfl
theorem q1933 : (Jvm.Cond.selects "NetworkCenters$Network" ({ cls := "NetworkCenters$Network", name := "changed", desc := "(I)LNetworkCenters$Network;" } : Jvm.MethodName) ({ cls := "NetworkCenters$Network", name := "changed", desc := "(I)LNetworkCenters$Network;" } : Jvm.MethodName)) ∈ lw_all := lw_g (lw_at lw_m8 149 rfl) rfl
theorem q1934 : (Jvm.Cond.code ({ cls := "NetworkCenters$Network", name := "changed", desc := "(I)LNetworkCenters$Network;" } : Jvm.MethodName) prog_11_method_12_code (4 : Nat) (Option.some (Jvm.ClassFile.FieldType.object "NetworkCenters$Network"))) ∈ lw_all := lw_g (lw_at lw_m8 150 rfl) rfl
theorem q2540 : (Jvm.Cond.castable "NetworkCenters$Network" "java/lang/Object") ∈ lw_tbl := lw_at lw_m11 36 rfl
theorem in_X2 : ∀ w ∈ wsX20, w ∈ lw_all := lw_in wsX20 [185, 187, 189, 191] (by decide +kernel) (by decide +kernel)
/-! NetworkCenters$Plan -/
set_option maxRecDepth 100000
def RX3 : String := "NetworkCenters$Plan"
def TX3 : u_T := fun k => match k with
  | 0 => ("NetworkCenters$Plan", "net", "LNetworkCenters$Network;", true)
  | 1 => ("NetworkCenters$Plan", "n", "I", true)
  | 2 => ("NetworkCenters$Plan", "distances", "[I", true)
  | 3 => ("NetworkCenters$Plan", "points", "LNetworkCenters$Points;", false)
  | 4 => ("NetworkCenters$Plan", "allowed", "Ljava/util/BitSet;", false)
  | 5 => ("NetworkCenters$Plan", "centers", "[I", false)
  | _ => ("NetworkCenters$Plan", "heights", "[J", false)
def tyX3 : Nat → FieldType := fun k => match k with
  | 0 => .object "NetworkCenters$Network"
  | 1 => .int
  | 2 => .array .int
  | 3 => .object "NetworkCenters$Points"
  | 4 => .object "java/util/BitSet"
  | 5 => .array .int
  | _ => .array .long
abbrev wsX30 : List Cond := u_ws RX3 TX3 7
theorem nmX3 : ∀ a, a < 7 → ∀ b, b < 7 → a ≠ b → (TX3 a).2.1 ≠ (TX3 b).2.1 := by decide +kernel
theorem tyX3_ok : ∀ k, k < 7 → parseFieldDescriptor (TX3 k).2.2.1 = some (tyX3 k) := by decide +kernel
abbrev cX3_init : ByteArray := prog_12_method_1_code
def yX3_init : MethodName := ⟨RX3, "<init>", "(LNetworkCenters$Network;)V"⟩
def dkwX3_init_9 : List UInt8 := [167, 255, 206, 132, 2, 1, 167, 255, 190, 177]
abbrev dktX3_init_9 : List UInt8 := dkwX3_init_9 ++ []
def dkwX3_init_8 : List UInt8 := [182, 0, 45, 42, 28, 29, 42, 180, 0, 21, 112, 182, 0, 45, 96, 184, 0, 49, 79, 132, 3, 1]
abbrev dktX3_init_8 : List UInt8 := dkwX3_init_8 ++ dktX3_init_9
def dkwX3_init_7 : List UInt8 := [162, 0, 47, 42, 180, 0, 25, 29, 42, 180, 0, 25, 29, 46, 42, 29, 42, 180, 0, 21, 108, 28]
abbrev dktX3_init_7 : List UInt8 := dkwX3_init_7 ++ dktX3_init_8
def dkwX3_init_6 : List UInt8 := [132, 2, 1, 167, 255, 191, 3, 61, 28, 42, 180, 0, 21, 162, 0, 64, 3, 62, 29, 42, 180, 0, 25, 190]
abbrev dktX3_init_6 : List UInt8 := dkwX3_init_6 ++ dktX3_init_7
def dkwX3_init_5 : List UInt8 := [180, 0, 25, 42, 180, 0, 21, 45, 180, 0, 39, 104, 45, 180, 0, 34, 96, 45, 180, 0, 42, 79]
abbrev dktX3_init_5 : List UInt8 := dkwX3_init_5 ++ dktX3_init_6
def dkwX3_init_4 : List UInt8 := [42, 180, 0, 25, 42, 180, 0, 21, 45, 180, 0, 34, 104, 45, 180, 0, 39, 96, 45, 180, 0, 42, 79, 42]
abbrev dktX3_init_4 : List UInt8 := dkwX3_init_4 ++ dktX3_init_5
def dkwX3_init_3 : List UInt8 := [132, 2, 1, 167, 255, 217, 3, 61, 28, 43, 180, 0, 30, 190, 162, 0, 62, 43, 180, 0, 30, 28, 50, 78]
abbrev dktX3_init_3 : List UInt8 := dkwX3_init_3 ++ dktX3_init_4
def dkwX3_init_2 : List UInt8 := [28, 28, 42, 180, 0, 21, 108, 28, 42, 180, 0, 21, 112, 160, 0, 7, 3, 167, 0, 5, 18, 29, 79]
abbrev dktX3_init_2 : List UInt8 := dkwX3_init_2 ++ dktX3_init_3
def dkwX3_init_1 : List UInt8 := [180, 0, 21, 104, 188, 10, 181, 0, 25, 3, 61, 28, 42, 180, 0, 25, 190, 162, 0, 36, 42, 180, 0, 25]
abbrev dktX3_init_1 : List UInt8 := dkwX3_init_1 ++ dktX3_init_2
def dkwX3_init_0 : List UInt8 := [42, 183, 0, 3, 42, 43, 181, 0, 9, 42, 43, 182, 0, 15, 181, 0, 21, 42, 42, 180, 0, 21, 42]
abbrev dktX3_init_0 : List UInt8 := dkwX3_init_0 ++ dktX3_init_1
theorem dksX3_init_0 : cX3_init.data.toList.drop 0 = dktX3_init_0 := by decide +kernel
theorem dksX3_init_1 : cX3_init.data.toList.drop 23 = dktX3_init_1 := dk_seg dksX3_init_0 23 rfl rfl
theorem dksX3_init_2 : cX3_init.data.toList.drop 47 = dktX3_init_2 := dk_seg dksX3_init_1 24 rfl rfl
theorem dksX3_init_3 : cX3_init.data.toList.drop 70 = dktX3_init_3 := dk_seg dksX3_init_2 23 rfl rfl
theorem dksX3_init_4 : cX3_init.data.toList.drop 94 = dktX3_init_4 := dk_seg dksX3_init_3 24 rfl rfl
theorem dksX3_init_5 : cX3_init.data.toList.drop 118 = dktX3_init_5 := dk_seg dksX3_init_4 24 rfl rfl
theorem dksX3_init_6 : cX3_init.data.toList.drop 140 = dktX3_init_6 := dk_seg dksX3_init_5 22 rfl rfl
theorem dksX3_init_7 : cX3_init.data.toList.drop 164 = dktX3_init_7 := dk_seg dksX3_init_6 24 rfl rfl
theorem dksX3_init_8 : cX3_init.data.toList.drop 186 = dktX3_init_8 := dk_seg dksX3_init_7 22 rfl rfl
theorem dksX3_init_9 : cX3_init.data.toList.drop 208 = dktX3_init_9 := dk_seg dksX3_init_8 22 rfl rfl
theorem dX3_init_0 : decode cX3_init 0 = .ok (.aload_n 0, 1) := dk_42 (dk_at dksX3_init_0 0 rfl rfl)
theorem dX3_init_1 : decode cX3_init 1 = .ok (.invokespecial 3, 3) := dk_183 0 3 (dk_at dksX3_init_0 1 rfl rfl)
theorem dX3_init_4 : decode cX3_init 4 = .ok (.aload_n 0, 1) := dk_42 (dk_at dksX3_init_0 4 rfl rfl)
theorem dX3_init_5 : decode cX3_init 5 = .ok (.aload_n 1, 1) := dk_43 (dk_at dksX3_init_0 5 rfl rfl)
theorem dX3_init_6 : decode cX3_init 6 = .ok (.putfield 9, 3) := dk_181 0 9 (dk_at dksX3_init_0 6 rfl rfl)
theorem dX3_init_9 : decode cX3_init 9 = .ok (.aload_n 0, 1) := dk_42 (dk_at dksX3_init_0 9 rfl rfl)
theorem dX3_init_10 : decode cX3_init 10 = .ok (.aload_n 1, 1) := dk_43 (dk_at dksX3_init_0 10 rfl rfl)
theorem dX3_init_11 : decode cX3_init 11 = .ok (.invokevirtual 15, 3) := dk_182 0 15 (dk_at dksX3_init_0 11 rfl rfl)
theorem dX3_init_14 : decode cX3_init 14 = .ok (.putfield 21, 3) := dk_181 0 21 (dk_at dksX3_init_0 14 rfl rfl)
theorem dX3_init_17 : decode cX3_init 17 = .ok (.aload_n 0, 1) := dk_42 (dk_at dksX3_init_0 17 rfl rfl)
theorem dX3_init_18 : decode cX3_init 18 = .ok (.aload_n 0, 1) := dk_42 (dk_at dksX3_init_0 18 rfl rfl)
theorem dX3_init_19 : decode cX3_init 19 = .ok (.getfield 21, 3) := dk_180 0 21 (dk_at dksX3_init_0 19 rfl rfl)
theorem dX3_init_22 : decode cX3_init 22 = .ok (.aload_n 0, 1) := dk_42 (dk_at dksX3_init_0 22 rfl rfl)
theorem dX3_init_23 : decode cX3_init 23 = .ok (.getfield 21, 3) := dk_180 0 21 (dk_at dksX3_init_1 0 rfl rfl)
theorem dX3_init_26 : decode cX3_init 26 = .ok (.imul, 1) := dk_104 (dk_at dksX3_init_1 3 rfl rfl)
theorem dX3_init_27 : decode cX3_init 27 = .ok (.newarray .int, 2) := dk_188_10 (dk_at dksX3_init_1 4 rfl rfl)
theorem dX3_init_29 : decode cX3_init 29 = .ok (.putfield 25, 3) := dk_181 0 25 (dk_at dksX3_init_1 6 rfl rfl)
theorem dX3_init_32 : decode cX3_init 32 = .ok (.iconst 0, 1) := dk_3 (dk_at dksX3_init_1 9 rfl rfl)
theorem dX3_init_33 : decode cX3_init 33 = .ok (.istore_n 2, 1) := dk_61 (dk_at dksX3_init_1 10 rfl rfl)
theorem dX3_init_34 : decode cX3_init 34 = .ok (.iload_n 2, 1) := dk_28 (dk_at dksX3_init_1 11 rfl rfl)
theorem dX3_init_35 : decode cX3_init 35 = .ok (.aload_n 0, 1) := dk_42 (dk_at dksX3_init_1 12 rfl rfl)
theorem dX3_init_36 : decode cX3_init 36 = .ok (.getfield 25, 3) := dk_180 0 25 (dk_at dksX3_init_1 13 rfl rfl)
theorem dX3_init_39 : decode cX3_init 39 = .ok (.arraylength, 1) := dk_190 (dk_at dksX3_init_1 16 rfl rfl)
theorem dX3_init_40 : decode cX3_init 40 = .ok (.if_icmp .ge 36, 3) := dk_162 0 36 (dk_at dksX3_init_1 17 rfl rfl)
theorem dX3_init_43 : decode cX3_init 43 = .ok (.aload_n 0, 1) := dk_42 (dk_at dksX3_init_1 20 rfl rfl)
theorem dX3_init_44 : decode cX3_init 44 = .ok (.getfield 25, 3) := dk_180 0 25 (dk_at dksX3_init_1 21 rfl rfl)
theorem dX3_init_47 : decode cX3_init 47 = .ok (.iload_n 2, 1) := dk_28 (dk_at dksX3_init_2 0 rfl rfl)
theorem dX3_init_48 : decode cX3_init 48 = .ok (.iload_n 2, 1) := dk_28 (dk_at dksX3_init_2 1 rfl rfl)
theorem dX3_init_49 : decode cX3_init 49 = .ok (.aload_n 0, 1) := dk_42 (dk_at dksX3_init_2 2 rfl rfl)
theorem dX3_init_50 : decode cX3_init 50 = .ok (.getfield 21, 3) := dk_180 0 21 (dk_at dksX3_init_2 3 rfl rfl)
theorem dX3_init_53 : decode cX3_init 53 = .ok (.idiv, 1) := dk_108 (dk_at dksX3_init_2 6 rfl rfl)
theorem dX3_init_54 : decode cX3_init 54 = .ok (.iload_n 2, 1) := dk_28 (dk_at dksX3_init_2 7 rfl rfl)
theorem dX3_init_55 : decode cX3_init 55 = .ok (.aload_n 0, 1) := dk_42 (dk_at dksX3_init_2 8 rfl rfl)
theorem dX3_init_56 : decode cX3_init 56 = .ok (.getfield 21, 3) := dk_180 0 21 (dk_at dksX3_init_2 9 rfl rfl)
theorem dX3_init_59 : decode cX3_init 59 = .ok (.irem, 1) := dk_112 (dk_at dksX3_init_2 12 rfl rfl)
theorem dX3_init_60 : decode cX3_init 60 = .ok (.if_icmp .ne 7, 3) := dk_160 0 7 (dk_at dksX3_init_2 13 rfl rfl)
theorem dX3_init_63 : decode cX3_init 63 = .ok (.iconst 0, 1) := dk_3 (dk_at dksX3_init_2 16 rfl rfl)
theorem dX3_init_64 : decode cX3_init 64 = .ok (.goto 5, 3) := dk_167 0 5 (dk_at dksX3_init_2 17 rfl rfl)
theorem dX3_init_67 : decode cX3_init 67 = .ok (.ldc 29, 2) := dk_18 29 (dk_at dksX3_init_2 20 rfl rfl)
theorem dX3_init_69 : decode cX3_init 69 = .ok (.iastore, 1) := dk_79 (dk_at dksX3_init_2 22 rfl rfl)
theorem dX3_init_70 : decode cX3_init 70 = .ok (.iinc 2 1, 3) := dk_132 2 1 (dk_at dksX3_init_3 0 rfl rfl)
theorem dX3_init_73 : decode cX3_init 73 = .ok (.goto (-39), 3) := dk_167 255 217 (dk_at dksX3_init_3 3 rfl rfl)
theorem dX3_init_76 : decode cX3_init 76 = .ok (.iconst 0, 1) := dk_3 (dk_at dksX3_init_3 6 rfl rfl)
theorem dX3_init_77 : decode cX3_init 77 = .ok (.istore_n 2, 1) := dk_61 (dk_at dksX3_init_3 7 rfl rfl)
theorem dX3_init_78 : decode cX3_init 78 = .ok (.iload_n 2, 1) := dk_28 (dk_at dksX3_init_3 8 rfl rfl)
theorem dX3_init_79 : decode cX3_init 79 = .ok (.aload_n 1, 1) := dk_43 (dk_at dksX3_init_3 9 rfl rfl)
theorem dX3_init_80 : decode cX3_init 80 = .ok (.getfield 30, 3) := dk_180 0 30 (dk_at dksX3_init_3 10 rfl rfl)
theorem dX3_init_83 : decode cX3_init 83 = .ok (.arraylength, 1) := dk_190 (dk_at dksX3_init_3 13 rfl rfl)
theorem dX3_init_84 : decode cX3_init 84 = .ok (.if_icmp .ge 62, 3) := dk_162 0 62 (dk_at dksX3_init_3 14 rfl rfl)
theorem dX3_init_87 : decode cX3_init 87 = .ok (.aload_n 1, 1) := dk_43 (dk_at dksX3_init_3 17 rfl rfl)
theorem dX3_init_88 : decode cX3_init 88 = .ok (.getfield 30, 3) := dk_180 0 30 (dk_at dksX3_init_3 18 rfl rfl)
theorem dX3_init_91 : decode cX3_init 91 = .ok (.iload_n 2, 1) := dk_28 (dk_at dksX3_init_3 21 rfl rfl)
theorem dX3_init_92 : decode cX3_init 92 = .ok (.aaload, 1) := dk_50 (dk_at dksX3_init_3 22 rfl rfl)
theorem dX3_init_93 : decode cX3_init 93 = .ok (.astore_n 3, 1) := dk_78 (dk_at dksX3_init_3 23 rfl rfl)
theorem dX3_init_94 : decode cX3_init 94 = .ok (.aload_n 0, 1) := dk_42 (dk_at dksX3_init_4 0 rfl rfl)
theorem dX3_init_95 : decode cX3_init 95 = .ok (.getfield 25, 3) := dk_180 0 25 (dk_at dksX3_init_4 1 rfl rfl)
theorem dX3_init_98 : decode cX3_init 98 = .ok (.aload_n 0, 1) := dk_42 (dk_at dksX3_init_4 4 rfl rfl)
theorem dX3_init_99 : decode cX3_init 99 = .ok (.getfield 21, 3) := dk_180 0 21 (dk_at dksX3_init_4 5 rfl rfl)
theorem dX3_init_102 : decode cX3_init 102 = .ok (.aload_n 3, 1) := dk_45 (dk_at dksX3_init_4 8 rfl rfl)
theorem dX3_init_103 : decode cX3_init 103 = .ok (.getfield 34, 3) := dk_180 0 34 (dk_at dksX3_init_4 9 rfl rfl)
theorem dX3_init_106 : decode cX3_init 106 = .ok (.imul, 1) := dk_104 (dk_at dksX3_init_4 12 rfl rfl)
theorem dX3_init_107 : decode cX3_init 107 = .ok (.aload_n 3, 1) := dk_45 (dk_at dksX3_init_4 13 rfl rfl)
theorem dX3_init_108 : decode cX3_init 108 = .ok (.getfield 39, 3) := dk_180 0 39 (dk_at dksX3_init_4 14 rfl rfl)
theorem dX3_init_111 : decode cX3_init 111 = .ok (.iadd, 1) := dk_96 (dk_at dksX3_init_4 17 rfl rfl)
theorem dX3_init_112 : decode cX3_init 112 = .ok (.aload_n 3, 1) := dk_45 (dk_at dksX3_init_4 18 rfl rfl)
theorem dX3_init_113 : decode cX3_init 113 = .ok (.getfield 42, 3) := dk_180 0 42 (dk_at dksX3_init_4 19 rfl rfl)
theorem dX3_init_116 : decode cX3_init 116 = .ok (.iastore, 1) := dk_79 (dk_at dksX3_init_4 22 rfl rfl)
theorem dX3_init_117 : decode cX3_init 117 = .ok (.aload_n 0, 1) := dk_42 (dk_at dksX3_init_4 23 rfl rfl)
theorem dX3_init_118 : decode cX3_init 118 = .ok (.getfield 25, 3) := dk_180 0 25 (dk_at dksX3_init_5 0 rfl rfl)
theorem dX3_init_121 : decode cX3_init 121 = .ok (.aload_n 0, 1) := dk_42 (dk_at dksX3_init_5 3 rfl rfl)
theorem dX3_init_122 : decode cX3_init 122 = .ok (.getfield 21, 3) := dk_180 0 21 (dk_at dksX3_init_5 4 rfl rfl)
theorem dX3_init_125 : decode cX3_init 125 = .ok (.aload_n 3, 1) := dk_45 (dk_at dksX3_init_5 7 rfl rfl)
theorem dX3_init_126 : decode cX3_init 126 = .ok (.getfield 39, 3) := dk_180 0 39 (dk_at dksX3_init_5 8 rfl rfl)
theorem dX3_init_129 : decode cX3_init 129 = .ok (.imul, 1) := dk_104 (dk_at dksX3_init_5 11 rfl rfl)
theorem dX3_init_130 : decode cX3_init 130 = .ok (.aload_n 3, 1) := dk_45 (dk_at dksX3_init_5 12 rfl rfl)
theorem dX3_init_131 : decode cX3_init 131 = .ok (.getfield 34, 3) := dk_180 0 34 (dk_at dksX3_init_5 13 rfl rfl)
theorem dX3_init_134 : decode cX3_init 134 = .ok (.iadd, 1) := dk_96 (dk_at dksX3_init_5 16 rfl rfl)
theorem dX3_init_135 : decode cX3_init 135 = .ok (.aload_n 3, 1) := dk_45 (dk_at dksX3_init_5 17 rfl rfl)
theorem dX3_init_136 : decode cX3_init 136 = .ok (.getfield 42, 3) := dk_180 0 42 (dk_at dksX3_init_5 18 rfl rfl)
theorem dX3_init_139 : decode cX3_init 139 = .ok (.iastore, 1) := dk_79 (dk_at dksX3_init_5 21 rfl rfl)
theorem dX3_init_140 : decode cX3_init 140 = .ok (.iinc 2 1, 3) := dk_132 2 1 (dk_at dksX3_init_6 0 rfl rfl)
theorem dX3_init_143 : decode cX3_init 143 = .ok (.goto (-65), 3) := dk_167 255 191 (dk_at dksX3_init_6 3 rfl rfl)
theorem dX3_init_146 : decode cX3_init 146 = .ok (.iconst 0, 1) := dk_3 (dk_at dksX3_init_6 6 rfl rfl)
theorem dX3_init_147 : decode cX3_init 147 = .ok (.istore_n 2, 1) := dk_61 (dk_at dksX3_init_6 7 rfl rfl)
theorem dX3_init_148 : decode cX3_init 148 = .ok (.iload_n 2, 1) := dk_28 (dk_at dksX3_init_6 8 rfl rfl)
theorem dX3_init_149 : decode cX3_init 149 = .ok (.aload_n 0, 1) := dk_42 (dk_at dksX3_init_6 9 rfl rfl)
theorem dX3_init_150 : decode cX3_init 150 = .ok (.getfield 21, 3) := dk_180 0 21 (dk_at dksX3_init_6 10 rfl rfl)
theorem dX3_init_153 : decode cX3_init 153 = .ok (.if_icmp .ge 64, 3) := dk_162 0 64 (dk_at dksX3_init_6 13 rfl rfl)
theorem dX3_init_156 : decode cX3_init 156 = .ok (.iconst 0, 1) := dk_3 (dk_at dksX3_init_6 16 rfl rfl)
theorem dX3_init_157 : decode cX3_init 157 = .ok (.istore_n 3, 1) := dk_62 (dk_at dksX3_init_6 17 rfl rfl)
theorem dX3_init_158 : decode cX3_init 158 = .ok (.iload_n 3, 1) := dk_29 (dk_at dksX3_init_6 18 rfl rfl)
theorem dX3_init_159 : decode cX3_init 159 = .ok (.aload_n 0, 1) := dk_42 (dk_at dksX3_init_6 19 rfl rfl)
theorem dX3_init_160 : decode cX3_init 160 = .ok (.getfield 25, 3) := dk_180 0 25 (dk_at dksX3_init_6 20 rfl rfl)
theorem dX3_init_163 : decode cX3_init 163 = .ok (.arraylength, 1) := dk_190 (dk_at dksX3_init_6 23 rfl rfl)
theorem dX3_init_164 : decode cX3_init 164 = .ok (.if_icmp .ge 47, 3) := dk_162 0 47 (dk_at dksX3_init_7 0 rfl rfl)
theorem dX3_init_167 : decode cX3_init 167 = .ok (.aload_n 0, 1) := dk_42 (dk_at dksX3_init_7 3 rfl rfl)
theorem dX3_init_168 : decode cX3_init 168 = .ok (.getfield 25, 3) := dk_180 0 25 (dk_at dksX3_init_7 4 rfl rfl)
theorem dX3_init_171 : decode cX3_init 171 = .ok (.iload_n 3, 1) := dk_29 (dk_at dksX3_init_7 7 rfl rfl)
theorem dX3_init_172 : decode cX3_init 172 = .ok (.aload_n 0, 1) := dk_42 (dk_at dksX3_init_7 8 rfl rfl)
theorem dX3_init_173 : decode cX3_init 173 = .ok (.getfield 25, 3) := dk_180 0 25 (dk_at dksX3_init_7 9 rfl rfl)
theorem dX3_init_176 : decode cX3_init 176 = .ok (.iload_n 3, 1) := dk_29 (dk_at dksX3_init_7 12 rfl rfl)
theorem dX3_init_177 : decode cX3_init 177 = .ok (.iaload, 1) := dk_46 (dk_at dksX3_init_7 13 rfl rfl)
theorem dX3_init_178 : decode cX3_init 178 = .ok (.aload_n 0, 1) := dk_42 (dk_at dksX3_init_7 14 rfl rfl)
theorem dX3_init_179 : decode cX3_init 179 = .ok (.iload_n 3, 1) := dk_29 (dk_at dksX3_init_7 15 rfl rfl)
theorem dX3_init_180 : decode cX3_init 180 = .ok (.aload_n 0, 1) := dk_42 (dk_at dksX3_init_7 16 rfl rfl)
theorem dX3_init_181 : decode cX3_init 181 = .ok (.getfield 21, 3) := dk_180 0 21 (dk_at dksX3_init_7 17 rfl rfl)
theorem dX3_init_184 : decode cX3_init 184 = .ok (.idiv, 1) := dk_108 (dk_at dksX3_init_7 20 rfl rfl)
theorem dX3_init_185 : decode cX3_init 185 = .ok (.iload_n 2, 1) := dk_28 (dk_at dksX3_init_7 21 rfl rfl)
theorem dX3_init_186 : decode cX3_init 186 = .ok (.invokevirtual 45, 3) := dk_182 0 45 (dk_at dksX3_init_8 0 rfl rfl)
theorem dX3_init_189 : decode cX3_init 189 = .ok (.aload_n 0, 1) := dk_42 (dk_at dksX3_init_8 3 rfl rfl)
theorem dX3_init_190 : decode cX3_init 190 = .ok (.iload_n 2, 1) := dk_28 (dk_at dksX3_init_8 4 rfl rfl)
theorem dX3_init_191 : decode cX3_init 191 = .ok (.iload_n 3, 1) := dk_29 (dk_at dksX3_init_8 5 rfl rfl)
theorem dX3_init_192 : decode cX3_init 192 = .ok (.aload_n 0, 1) := dk_42 (dk_at dksX3_init_8 6 rfl rfl)
theorem dX3_init_193 : decode cX3_init 193 = .ok (.getfield 21, 3) := dk_180 0 21 (dk_at dksX3_init_8 7 rfl rfl)
theorem dX3_init_196 : decode cX3_init 196 = .ok (.irem, 1) := dk_112 (dk_at dksX3_init_8 10 rfl rfl)
theorem dX3_init_197 : decode cX3_init 197 = .ok (.invokevirtual 45, 3) := dk_182 0 45 (dk_at dksX3_init_8 11 rfl rfl)
theorem dX3_init_200 : decode cX3_init 200 = .ok (.iadd, 1) := dk_96 (dk_at dksX3_init_8 14 rfl rfl)
theorem dX3_init_201 : decode cX3_init 201 = .ok (.invokestatic 49, 3) := dk_184 0 49 (dk_at dksX3_init_8 15 rfl rfl)
theorem dX3_init_204 : decode cX3_init 204 = .ok (.iastore, 1) := dk_79 (dk_at dksX3_init_8 18 rfl rfl)
theorem dX3_init_205 : decode cX3_init 205 = .ok (.iinc 3 1, 3) := dk_132 3 1 (dk_at dksX3_init_8 19 rfl rfl)
theorem dX3_init_208 : decode cX3_init 208 = .ok (.goto (-50), 3) := dk_167 255 206 (dk_at dksX3_init_9 0 rfl rfl)
theorem dX3_init_211 : decode cX3_init 211 = .ok (.iinc 2 1, 3) := dk_132 2 1 (dk_at dksX3_init_9 3 rfl rfl)
theorem dX3_init_214 : decode cX3_init 214 = .ok (.goto (-66), 3) := dk_167 255 190 (dk_at dksX3_init_9 6 rfl rfl)
theorem dX3_init_217 : decode cX3_init 217 = .ok (.return_, 1) := dk_177 (dk_at dksX3_init_9 9 rfl rfl)
abbrev cX3_distance : ByteArray := prog_12_method_2_code
def yX3_distance : MethodName := ⟨RX3, "distance", "(II)I"⟩
def dkwX3_distance_0 : List UInt8 := [42, 180, 0, 25, 42, 180, 0, 21, 27, 104, 28, 96, 46, 172]
abbrev dktX3_distance_0 : List UInt8 := dkwX3_distance_0 ++ []
theorem dksX3_distance_0 : cX3_distance.data.toList.drop 0 = dktX3_distance_0 := by decide +kernel
theorem dX3_distance_0 : decode cX3_distance 0 = .ok (.aload_n 0, 1) := dk_42 (dk_at dksX3_distance_0 0 rfl rfl)
theorem dX3_distance_1 : decode cX3_distance 1 = .ok (.getfield 25, 3) := dk_180 0 25 (dk_at dksX3_distance_0 1 rfl rfl)
theorem dX3_distance_4 : decode cX3_distance 4 = .ok (.aload_n 0, 1) := dk_42 (dk_at dksX3_distance_0 4 rfl rfl)
theorem dX3_distance_5 : decode cX3_distance 5 = .ok (.getfield 21, 3) := dk_180 0 21 (dk_at dksX3_distance_0 5 rfl rfl)
theorem dX3_distance_8 : decode cX3_distance 8 = .ok (.iload_n 1, 1) := dk_27 (dk_at dksX3_distance_0 8 rfl rfl)
theorem dX3_distance_9 : decode cX3_distance 9 = .ok (.imul, 1) := dk_104 (dk_at dksX3_distance_0 9 rfl rfl)
theorem dX3_distance_10 : decode cX3_distance 10 = .ok (.iload_n 2, 1) := dk_28 (dk_at dksX3_distance_0 10 rfl rfl)
theorem dX3_distance_11 : decode cX3_distance 11 = .ok (.iadd, 1) := dk_96 (dk_at dksX3_distance_0 11 rfl rfl)
theorem dX3_distance_12 : decode cX3_distance 12 = .ok (.iaload, 1) := dk_46 (dk_at dksX3_distance_0 12 rfl rfl)
theorem dX3_distance_13 : decode cX3_distance 13 = .ok (.ireturn, 1) := dk_172 (dk_at dksX3_distance_0 13 rfl rfl)
abbrev cX3_isConnected : ByteArray := prog_12_method_3_code
def yX3_isConnected : MethodName := ⟨RX3, "isConnected", "()Z"⟩
def dkwX3_isConnected_1 : List UInt8 := [4, 167, 0, 4, 3, 126, 60, 132, 2, 1, 167, 255, 226, 27, 172]
abbrev dktX3_isConnected_1 : List UInt8 := dkwX3_isConnected_1 ++ []
def dkwX3_isConnected_0 : List UInt8 := [4, 60, 3, 61, 28, 42, 180, 0, 21, 162, 0, 28, 27, 42, 3, 28, 182, 0, 45, 18, 29, 162, 0, 7]
abbrev dktX3_isConnected_0 : List UInt8 := dkwX3_isConnected_0 ++ dktX3_isConnected_1
theorem dksX3_isConnected_0 : cX3_isConnected.data.toList.drop 0 = dktX3_isConnected_0 := by decide +kernel
theorem dksX3_isConnected_1 : cX3_isConnected.data.toList.drop 24 = dktX3_isConnected_1 := dk_seg dksX3_isConnected_0 24 rfl rfl
theorem dX3_isConnected_0 : decode cX3_isConnected 0 = .ok (.iconst 1, 1) := dk_4 (dk_at dksX3_isConnected_0 0 rfl rfl)
theorem dX3_isConnected_1 : decode cX3_isConnected 1 = .ok (.istore_n 1, 1) := dk_60 (dk_at dksX3_isConnected_0 1 rfl rfl)
theorem dX3_isConnected_2 : decode cX3_isConnected 2 = .ok (.iconst 0, 1) := dk_3 (dk_at dksX3_isConnected_0 2 rfl rfl)
theorem dX3_isConnected_3 : decode cX3_isConnected 3 = .ok (.istore_n 2, 1) := dk_61 (dk_at dksX3_isConnected_0 3 rfl rfl)
theorem dX3_isConnected_4 : decode cX3_isConnected 4 = .ok (.iload_n 2, 1) := dk_28 (dk_at dksX3_isConnected_0 4 rfl rfl)
theorem dX3_isConnected_5 : decode cX3_isConnected 5 = .ok (.aload_n 0, 1) := dk_42 (dk_at dksX3_isConnected_0 5 rfl rfl)
theorem dX3_isConnected_6 : decode cX3_isConnected 6 = .ok (.getfield 21, 3) := dk_180 0 21 (dk_at dksX3_isConnected_0 6 rfl rfl)
theorem dX3_isConnected_9 : decode cX3_isConnected 9 = .ok (.if_icmp .ge 28, 3) := dk_162 0 28 (dk_at dksX3_isConnected_0 9 rfl rfl)
theorem dX3_isConnected_12 : decode cX3_isConnected 12 = .ok (.iload_n 1, 1) := dk_27 (dk_at dksX3_isConnected_0 12 rfl rfl)
theorem dX3_isConnected_13 : decode cX3_isConnected 13 = .ok (.aload_n 0, 1) := dk_42 (dk_at dksX3_isConnected_0 13 rfl rfl)
theorem dX3_isConnected_14 : decode cX3_isConnected 14 = .ok (.iconst 0, 1) := dk_3 (dk_at dksX3_isConnected_0 14 rfl rfl)
theorem dX3_isConnected_15 : decode cX3_isConnected 15 = .ok (.iload_n 2, 1) := dk_28 (dk_at dksX3_isConnected_0 15 rfl rfl)
theorem dX3_isConnected_16 : decode cX3_isConnected 16 = .ok (.invokevirtual 45, 3) := dk_182 0 45 (dk_at dksX3_isConnected_0 16 rfl rfl)
theorem dX3_isConnected_19 : decode cX3_isConnected 19 = .ok (.ldc 29, 2) := dk_18 29 (dk_at dksX3_isConnected_0 19 rfl rfl)
theorem dX3_isConnected_21 : decode cX3_isConnected 21 = .ok (.if_icmp .ge 7, 3) := dk_162 0 7 (dk_at dksX3_isConnected_0 21 rfl rfl)
theorem dX3_isConnected_24 : decode cX3_isConnected 24 = .ok (.iconst 1, 1) := dk_4 (dk_at dksX3_isConnected_1 0 rfl rfl)
theorem dX3_isConnected_25 : decode cX3_isConnected 25 = .ok (.goto 4, 3) := dk_167 0 4 (dk_at dksX3_isConnected_1 1 rfl rfl)
theorem dX3_isConnected_28 : decode cX3_isConnected 28 = .ok (.iconst 0, 1) := dk_3 (dk_at dksX3_isConnected_1 4 rfl rfl)
theorem dX3_isConnected_29 : decode cX3_isConnected 29 = .ok (.iand, 1) := dk_126 (dk_at dksX3_isConnected_1 5 rfl rfl)
theorem dX3_isConnected_30 : decode cX3_isConnected 30 = .ok (.istore_n 1, 1) := dk_60 (dk_at dksX3_isConnected_1 6 rfl rfl)
theorem dX3_isConnected_31 : decode cX3_isConnected 31 = .ok (.iinc 2 1, 3) := dk_132 2 1 (dk_at dksX3_isConnected_1 7 rfl rfl)
theorem dX3_isConnected_34 : decode cX3_isConnected 34 = .ok (.goto (-30), 3) := dk_167 255 226 (dk_at dksX3_isConnected_1 10 rfl rfl)
theorem dX3_isConnected_37 : decode cX3_isConnected 37 = .ok (.iload_n 1, 1) := dk_27 (dk_at dksX3_isConnected_1 13 rfl rfl)
theorem dX3_isConnected_38 : decode cX3_isConnected 38 = .ok (.ireturn, 1) := dk_172 (dk_at dksX3_isConnected_1 14 rfl rfl)
abbrev cX3_isUsable : ByteArray := prog_12_method_4_code
def yX3_isUsable : MethodName := ⟨RX3, "isUsable", "()Z"⟩
def dkwX3_isUsable_0 : List UInt8 := [42, 182, 0, 54, 153, 0, 18, 42, 180, 0, 9, 180, 0, 30, 190, 158, 0, 7, 4, 167, 0, 4, 3, 172]
abbrev dktX3_isUsable_0 : List UInt8 := dkwX3_isUsable_0 ++ []
theorem dksX3_isUsable_0 : cX3_isUsable.data.toList.drop 0 = dktX3_isUsable_0 := by decide +kernel
theorem dX3_isUsable_0 : decode cX3_isUsable 0 = .ok (.aload_n 0, 1) := dk_42 (dk_at dksX3_isUsable_0 0 rfl rfl)
theorem dX3_isUsable_1 : decode cX3_isUsable 1 = .ok (.invokevirtual 54, 3) := dk_182 0 54 (dk_at dksX3_isUsable_0 1 rfl rfl)
theorem dX3_isUsable_4 : decode cX3_isUsable 4 = .ok (.ifCond .eq 18, 3) := dk_153 0 18 (dk_at dksX3_isUsable_0 4 rfl rfl)
theorem dX3_isUsable_7 : decode cX3_isUsable 7 = .ok (.aload_n 0, 1) := dk_42 (dk_at dksX3_isUsable_0 7 rfl rfl)
theorem dX3_isUsable_8 : decode cX3_isUsable 8 = .ok (.getfield 9, 3) := dk_180 0 9 (dk_at dksX3_isUsable_0 8 rfl rfl)
theorem dX3_isUsable_11 : decode cX3_isUsable 11 = .ok (.getfield 30, 3) := dk_180 0 30 (dk_at dksX3_isUsable_0 11 rfl rfl)
theorem dX3_isUsable_14 : decode cX3_isUsable 14 = .ok (.arraylength, 1) := dk_190 (dk_at dksX3_isUsable_0 14 rfl rfl)
theorem dX3_isUsable_15 : decode cX3_isUsable 15 = .ok (.ifCond .le 7, 3) := dk_158 0 7 (dk_at dksX3_isUsable_0 15 rfl rfl)
theorem dX3_isUsable_18 : decode cX3_isUsable 18 = .ok (.iconst 1, 1) := dk_4 (dk_at dksX3_isUsable_0 18 rfl rfl)
theorem dX3_isUsable_19 : decode cX3_isUsable 19 = .ok (.goto 4, 3) := dk_167 0 4 (dk_at dksX3_isUsable_0 19 rfl rfl)
theorem dX3_isUsable_22 : decode cX3_isUsable 22 = .ok (.iconst 0, 1) := dk_3 (dk_at dksX3_isUsable_0 22 rfl rfl)
theorem dX3_isUsable_23 : decode cX3_isUsable 23 = .ok (.ireturn, 1) := dk_172 (dk_at dksX3_isUsable_0 23 rfl rfl)
abbrev cX3_radius : ByteArray := prog_12_method_17_code
def yX3_radius : MethodName := ⟨RX3, "radius", "(II)I"⟩
def dkwX3_radius_0 : List UInt8 := [42, 27, 182, 0, 185, 42, 27, 182, 0, 188, 28, 184, 0, 190, 172]
abbrev dktX3_radius_0 : List UInt8 := dkwX3_radius_0 ++ []
theorem dksX3_radius_0 : cX3_radius.data.toList.drop 0 = dktX3_radius_0 := by decide +kernel
theorem dX3_radius_0 : decode cX3_radius 0 = .ok (.aload_n 0, 1) := dk_42 (dk_at dksX3_radius_0 0 rfl rfl)
theorem dX3_radius_1 : decode cX3_radius 1 = .ok (.iload_n 1, 1) := dk_27 (dk_at dksX3_radius_0 1 rfl rfl)
theorem dX3_radius_2 : decode cX3_radius 2 = .ok (.invokevirtual 185, 3) := dk_182 0 185 (dk_at dksX3_radius_0 2 rfl rfl)
theorem dX3_radius_5 : decode cX3_radius 5 = .ok (.aload_n 0, 1) := dk_42 (dk_at dksX3_radius_0 5 rfl rfl)
theorem dX3_radius_6 : decode cX3_radius 6 = .ok (.iload_n 1, 1) := dk_27 (dk_at dksX3_radius_0 6 rfl rfl)
theorem dX3_radius_7 : decode cX3_radius 7 = .ok (.invokevirtual 188, 3) := dk_182 0 188 (dk_at dksX3_radius_0 7 rfl rfl)
theorem dX3_radius_10 : decode cX3_radius 10 = .ok (.iload_n 2, 1) := dk_28 (dk_at dksX3_radius_0 10 rfl rfl)
theorem dX3_radius_11 : decode cX3_radius 11 = .ok (.invokestatic 190, 3) := dk_184 0 190 (dk_at dksX3_radius_0 11 rfl rfl)
theorem dX3_radius_14 : decode cX3_radius 14 = .ok (.ireturn, 1) := dk_172 (dk_at dksX3_radius_0 14 rfl rfl)
abbrev cX3_above : ByteArray := prog_12_method_15_code
def yX3_above : MethodName := ⟨RX3, "above", "(I)J"⟩
def dkwX3_above_0 : List UInt8 := [42, 27, 182, 0, 182, 87, 42, 180, 0, 169, 27, 47, 173]
abbrev dktX3_above_0 : List UInt8 := dkwX3_above_0 ++ []
theorem dksX3_above_0 : cX3_above.data.toList.drop 0 = dktX3_above_0 := by decide +kernel
theorem dX3_above_0 : decode cX3_above 0 = .ok (.aload_n 0, 1) := dk_42 (dk_at dksX3_above_0 0 rfl rfl)
theorem dX3_above_1 : decode cX3_above 1 = .ok (.iload_n 1, 1) := dk_27 (dk_at dksX3_above_0 1 rfl rfl)
theorem dX3_above_2 : decode cX3_above 2 = .ok (.invokevirtual 182, 3) := dk_182 0 182 (dk_at dksX3_above_0 2 rfl rfl)
theorem dX3_above_5 : decode cX3_above 5 = .ok (.pop, 1) := dk_87 (dk_at dksX3_above_0 5 rfl rfl)
theorem dX3_above_6 : decode cX3_above 6 = .ok (.aload_n 0, 1) := dk_42 (dk_at dksX3_above_0 6 rfl rfl)
theorem dX3_above_7 : decode cX3_above 7 = .ok (.getfield 169, 3) := dk_180 0 169 (dk_at dksX3_above_0 7 rfl rfl)
theorem dX3_above_10 : decode cX3_above 10 = .ok (.iload_n 1, 1) := dk_27 (dk_at dksX3_above_0 10 rfl rfl)
theorem dX3_above_11 : decode cX3_above 11 = .ok (.laload, 1) := dk_47 (dk_at dksX3_above_0 11 rfl rfl)
theorem dX3_above_12 : decode cX3_above 12 = .ok (.lreturn, 1) := dk_173 (dk_at dksX3_above_0 12 rfl rfl)
abbrev cX3_center : ByteArray := prog_12_method_14_code
def yX3_center : MethodName := ⟨RX3, "center", "(I)I"⟩
def dkwX3_center_1 : List UInt8 := [46, 172]
abbrev dktX3_center_1 : List UInt8 := dkwX3_center_1 ++ []
def dkwX3_center_0 : List UInt8 := [42, 182, 0, 176, 42, 180, 0, 166, 27, 46, 2, 160, 0, 8, 42, 27, 182, 0, 179, 42, 180, 0, 166, 27]
abbrev dktX3_center_0 : List UInt8 := dkwX3_center_0 ++ dktX3_center_1
theorem dksX3_center_0 : cX3_center.data.toList.drop 0 = dktX3_center_0 := by decide +kernel
theorem dksX3_center_1 : cX3_center.data.toList.drop 24 = dktX3_center_1 := dk_seg dksX3_center_0 24 rfl rfl
theorem dX3_center_0 : decode cX3_center 0 = .ok (.aload_n 0, 1) := dk_42 (dk_at dksX3_center_0 0 rfl rfl)
theorem dX3_center_1 : decode cX3_center 1 = .ok (.invokevirtual 176, 3) := dk_182 0 176 (dk_at dksX3_center_0 1 rfl rfl)
theorem dX3_center_4 : decode cX3_center 4 = .ok (.aload_n 0, 1) := dk_42 (dk_at dksX3_center_0 4 rfl rfl)
theorem dX3_center_5 : decode cX3_center 5 = .ok (.getfield 166, 3) := dk_180 0 166 (dk_at dksX3_center_0 5 rfl rfl)
theorem dX3_center_8 : decode cX3_center 8 = .ok (.iload_n 1, 1) := dk_27 (dk_at dksX3_center_0 8 rfl rfl)
theorem dX3_center_9 : decode cX3_center 9 = .ok (.iaload, 1) := dk_46 (dk_at dksX3_center_0 9 rfl rfl)
theorem dX3_center_10 : decode cX3_center 10 = .ok (.iconst (-1), 1) := dk_2 (dk_at dksX3_center_0 10 rfl rfl)
theorem dX3_center_11 : decode cX3_center 11 = .ok (.if_icmp .ne 8, 3) := dk_160 0 8 (dk_at dksX3_center_0 11 rfl rfl)
theorem dX3_center_14 : decode cX3_center 14 = .ok (.aload_n 0, 1) := dk_42 (dk_at dksX3_center_0 14 rfl rfl)
theorem dX3_center_15 : decode cX3_center 15 = .ok (.iload_n 1, 1) := dk_27 (dk_at dksX3_center_0 15 rfl rfl)
theorem dX3_center_16 : decode cX3_center 16 = .ok (.invokevirtual 179, 3) := dk_182 0 179 (dk_at dksX3_center_0 16 rfl rfl)
theorem dX3_center_19 : decode cX3_center 19 = .ok (.aload_n 0, 1) := dk_42 (dk_at dksX3_center_0 19 rfl rfl)
theorem dX3_center_20 : decode cX3_center 20 = .ok (.getfield 166, 3) := dk_180 0 166 (dk_at dksX3_center_0 20 rfl rfl)
theorem dX3_center_23 : decode cX3_center 23 = .ok (.iload_n 1, 1) := dk_27 (dk_at dksX3_center_0 23 rfl rfl)
theorem dX3_center_24 : decode cX3_center 24 = .ok (.iaload, 1) := dk_46 (dk_at dksX3_center_1 0 rfl rfl)
theorem dX3_center_25 : decode cX3_center 25 = .ok (.ireturn, 1) := dk_172 (dk_at dksX3_center_1 1 rfl rfl)
abbrev cX3_layCenters : ByteArray := prog_12_method_13_code
def yX3_layCenters : MethodName := ⟨RX3, "layCenters", "()V"⟩
def dkwX3_layCenters_2 : List UInt8 := [180, 0, 166, 27, 2, 79, 132, 1, 1, 167, 255, 237, 177]
abbrev dktX3_layCenters_2 : List UInt8 := dkwX3_layCenters_2 ++ []
def dkwX3_layCenters_1 : List UInt8 := [4, 42, 180, 0, 21, 120, 188, 11, 181, 0, 169, 3, 60, 27, 42, 180, 0, 166, 190, 162, 0, 16, 42]
abbrev dktX3_layCenters_1 : List UInt8 := dkwX3_layCenters_1 ++ dktX3_layCenters_2
def dkwX3_layCenters_0 : List UInt8 := [42, 182, 0, 173, 42, 180, 0, 166, 199, 0, 51, 42, 4, 42, 180, 0, 21, 120, 188, 10, 181, 0, 166, 42]
abbrev dktX3_layCenters_0 : List UInt8 := dkwX3_layCenters_0 ++ dktX3_layCenters_1
theorem dksX3_layCenters_0 : cX3_layCenters.data.toList.drop 0 = dktX3_layCenters_0 := by decide +kernel
theorem dksX3_layCenters_1 : cX3_layCenters.data.toList.drop 24 = dktX3_layCenters_1 := dk_seg dksX3_layCenters_0 24 rfl rfl
theorem dksX3_layCenters_2 : cX3_layCenters.data.toList.drop 47 = dktX3_layCenters_2 := dk_seg dksX3_layCenters_1 23 rfl rfl
theorem dX3_layCenters_0 : decode cX3_layCenters 0 = .ok (.aload_n 0, 1) := dk_42 (dk_at dksX3_layCenters_0 0 rfl rfl)
theorem dX3_layCenters_1 : decode cX3_layCenters 1 = .ok (.invokevirtual 173, 3) := dk_182 0 173 (dk_at dksX3_layCenters_0 1 rfl rfl)
theorem dX3_layCenters_4 : decode cX3_layCenters 4 = .ok (.aload_n 0, 1) := dk_42 (dk_at dksX3_layCenters_0 4 rfl rfl)
theorem dX3_layCenters_5 : decode cX3_layCenters 5 = .ok (.getfield 166, 3) := dk_180 0 166 (dk_at dksX3_layCenters_0 5 rfl rfl)
theorem dX3_layCenters_8 : decode cX3_layCenters 8 = .ok (.ifnonnull 51, 3) := dk_199 0 51 (dk_at dksX3_layCenters_0 8 rfl rfl)
theorem dX3_layCenters_11 : decode cX3_layCenters 11 = .ok (.aload_n 0, 1) := dk_42 (dk_at dksX3_layCenters_0 11 rfl rfl)
theorem dX3_layCenters_12 : decode cX3_layCenters 12 = .ok (.iconst 1, 1) := dk_4 (dk_at dksX3_layCenters_0 12 rfl rfl)
theorem dX3_layCenters_13 : decode cX3_layCenters 13 = .ok (.aload_n 0, 1) := dk_42 (dk_at dksX3_layCenters_0 13 rfl rfl)
theorem dX3_layCenters_14 : decode cX3_layCenters 14 = .ok (.getfield 21, 3) := dk_180 0 21 (dk_at dksX3_layCenters_0 14 rfl rfl)
theorem dX3_layCenters_17 : decode cX3_layCenters 17 = .ok (.ishl, 1) := dk_120 (dk_at dksX3_layCenters_0 17 rfl rfl)
theorem dX3_layCenters_18 : decode cX3_layCenters 18 = .ok (.newarray .int, 2) := dk_188_10 (dk_at dksX3_layCenters_0 18 rfl rfl)
theorem dX3_layCenters_20 : decode cX3_layCenters 20 = .ok (.putfield 166, 3) := dk_181 0 166 (dk_at dksX3_layCenters_0 20 rfl rfl)
theorem dX3_layCenters_23 : decode cX3_layCenters 23 = .ok (.aload_n 0, 1) := dk_42 (dk_at dksX3_layCenters_0 23 rfl rfl)
theorem dX3_layCenters_24 : decode cX3_layCenters 24 = .ok (.iconst 1, 1) := dk_4 (dk_at dksX3_layCenters_1 0 rfl rfl)
theorem dX3_layCenters_25 : decode cX3_layCenters 25 = .ok (.aload_n 0, 1) := dk_42 (dk_at dksX3_layCenters_1 1 rfl rfl)
theorem dX3_layCenters_26 : decode cX3_layCenters 26 = .ok (.getfield 21, 3) := dk_180 0 21 (dk_at dksX3_layCenters_1 2 rfl rfl)
theorem dX3_layCenters_29 : decode cX3_layCenters 29 = .ok (.ishl, 1) := dk_120 (dk_at dksX3_layCenters_1 5 rfl rfl)
theorem dX3_layCenters_30 : decode cX3_layCenters 30 = .ok (.newarray .long, 2) := dk_188_11 (dk_at dksX3_layCenters_1 6 rfl rfl)
theorem dX3_layCenters_32 : decode cX3_layCenters 32 = .ok (.putfield 169, 3) := dk_181 0 169 (dk_at dksX3_layCenters_1 8 rfl rfl)
theorem dX3_layCenters_35 : decode cX3_layCenters 35 = .ok (.iconst 0, 1) := dk_3 (dk_at dksX3_layCenters_1 11 rfl rfl)
theorem dX3_layCenters_36 : decode cX3_layCenters 36 = .ok (.istore_n 1, 1) := dk_60 (dk_at dksX3_layCenters_1 12 rfl rfl)
theorem dX3_layCenters_37 : decode cX3_layCenters 37 = .ok (.iload_n 1, 1) := dk_27 (dk_at dksX3_layCenters_1 13 rfl rfl)
theorem dX3_layCenters_38 : decode cX3_layCenters 38 = .ok (.aload_n 0, 1) := dk_42 (dk_at dksX3_layCenters_1 14 rfl rfl)
theorem dX3_layCenters_39 : decode cX3_layCenters 39 = .ok (.getfield 166, 3) := dk_180 0 166 (dk_at dksX3_layCenters_1 15 rfl rfl)
theorem dX3_layCenters_42 : decode cX3_layCenters 42 = .ok (.arraylength, 1) := dk_190 (dk_at dksX3_layCenters_1 18 rfl rfl)
theorem dX3_layCenters_43 : decode cX3_layCenters 43 = .ok (.if_icmp .ge 16, 3) := dk_162 0 16 (dk_at dksX3_layCenters_1 19 rfl rfl)
theorem dX3_layCenters_46 : decode cX3_layCenters 46 = .ok (.aload_n 0, 1) := dk_42 (dk_at dksX3_layCenters_1 22 rfl rfl)
theorem dX3_layCenters_47 : decode cX3_layCenters 47 = .ok (.getfield 166, 3) := dk_180 0 166 (dk_at dksX3_layCenters_2 0 rfl rfl)
theorem dX3_layCenters_50 : decode cX3_layCenters 50 = .ok (.iload_n 1, 1) := dk_27 (dk_at dksX3_layCenters_2 3 rfl rfl)
theorem dX3_layCenters_51 : decode cX3_layCenters 51 = .ok (.iconst (-1), 1) := dk_2 (dk_at dksX3_layCenters_2 4 rfl rfl)
theorem dX3_layCenters_52 : decode cX3_layCenters 52 = .ok (.iastore, 1) := dk_79 (dk_at dksX3_layCenters_2 5 rfl rfl)
theorem dX3_layCenters_53 : decode cX3_layCenters 53 = .ok (.iinc 1 1, 3) := dk_132 1 1 (dk_at dksX3_layCenters_2 6 rfl rfl)
theorem dX3_layCenters_56 : decode cX3_layCenters 56 = .ok (.goto (-19), 3) := dk_167 255 237 (dk_at dksX3_layCenters_2 9 rfl rfl)
theorem dX3_layCenters_59 : decode cX3_layCenters 59 = .ok (.return_, 1) := dk_177 (dk_at dksX3_layCenters_2 12 rfl rfl)
abbrev cX3_layPoints : ByteArray := prog_12_method_9_code
def yX3_layPoints : MethodName := ⟨RX3, "layPoints", "()V"⟩
def dkwX3_layPoints_5 : List UInt8 := [180, 0, 105, 27, 182, 0, 124, 132, 1, 1, 167, 255, 195, 177]
abbrev dktX3_layPoints_5 : List UInt8 := dkwX3_layPoints_5 ++ []
def dkwX3_layPoints_4 : List UInt8 := [180, 0, 114, 27, 46, 133, 42, 180, 0, 88, 180, 0, 117, 27, 46, 133, 182, 0, 120, 153, 0, 11, 42]
abbrev dktX3_layPoints_4 : List UInt8 := dkwX3_layPoints_4 ++ dktX3_layPoints_5
def dkwX3_layPoints_3 : List UInt8 := [180, 0, 109, 162, 0, 56, 42, 180, 0, 9, 42, 180, 0, 88, 180, 0, 112, 27, 46, 42, 180, 0, 88]
abbrev dktX3_layPoints_3 : List UInt8 := dkwX3_layPoints_3 ++ dktX3_layPoints_4
def dkwX3_layPoints_2 : List UInt8 := [132, 1, 1, 167, 255, 229, 42, 187, 0, 102, 89, 183, 0, 104, 181, 0, 105, 3, 60, 27, 42, 180, 0, 88]
abbrev dktX3_layPoints_2 : List UInt8 := dkwX3_layPoints_2 ++ dktX3_layPoints_3
def dkwX3_layPoints_1 : List UInt8 := [180, 0, 9, 180, 0, 30, 190, 162, 0, 21, 42, 27, 182, 0, 95, 42, 180, 0, 88, 182, 0, 99]
abbrev dktX3_layPoints_1 : List UInt8 := dkwX3_layPoints_1 ++ dktX3_layPoints_2
def dkwX3_layPoints_0 : List UInt8 := [42, 180, 0, 88, 198, 0, 4, 177, 42, 187, 0, 92, 89, 183, 0, 94, 181, 0, 88, 3, 60, 27, 42]
abbrev dktX3_layPoints_0 : List UInt8 := dkwX3_layPoints_0 ++ dktX3_layPoints_1
theorem dksX3_layPoints_0 : cX3_layPoints.data.toList.drop 0 = dktX3_layPoints_0 := by decide +kernel
theorem dksX3_layPoints_1 : cX3_layPoints.data.toList.drop 23 = dktX3_layPoints_1 := dk_seg dksX3_layPoints_0 23 rfl rfl
theorem dksX3_layPoints_2 : cX3_layPoints.data.toList.drop 45 = dktX3_layPoints_2 := dk_seg dksX3_layPoints_1 22 rfl rfl
theorem dksX3_layPoints_3 : cX3_layPoints.data.toList.drop 69 = dktX3_layPoints_3 := dk_seg dksX3_layPoints_2 24 rfl rfl
theorem dksX3_layPoints_4 : cX3_layPoints.data.toList.drop 92 = dktX3_layPoints_4 := dk_seg dksX3_layPoints_3 23 rfl rfl
theorem dksX3_layPoints_5 : cX3_layPoints.data.toList.drop 115 = dktX3_layPoints_5 := dk_seg dksX3_layPoints_4 23 rfl rfl
theorem dX3_layPoints_0 : decode cX3_layPoints 0 = .ok (.aload_n 0, 1) := dk_42 (dk_at dksX3_layPoints_0 0 rfl rfl)
theorem dX3_layPoints_1 : decode cX3_layPoints 1 = .ok (.getfield 88, 3) := dk_180 0 88 (dk_at dksX3_layPoints_0 1 rfl rfl)
theorem dX3_layPoints_4 : decode cX3_layPoints 4 = .ok (.ifnull 4, 3) := dk_198 0 4 (dk_at dksX3_layPoints_0 4 rfl rfl)
theorem dX3_layPoints_7 : decode cX3_layPoints 7 = .ok (.return_, 1) := dk_177 (dk_at dksX3_layPoints_0 7 rfl rfl)
theorem dX3_layPoints_8 : decode cX3_layPoints 8 = .ok (.aload_n 0, 1) := dk_42 (dk_at dksX3_layPoints_0 8 rfl rfl)
theorem dX3_layPoints_9 : decode cX3_layPoints 9 = .ok (.new 92, 3) := dk_187 0 92 (dk_at dksX3_layPoints_0 9 rfl rfl)
theorem dX3_layPoints_12 : decode cX3_layPoints 12 = .ok (.dup, 1) := dk_89 (dk_at dksX3_layPoints_0 12 rfl rfl)
theorem dX3_layPoints_13 : decode cX3_layPoints 13 = .ok (.invokespecial 94, 3) := dk_183 0 94 (dk_at dksX3_layPoints_0 13 rfl rfl)
theorem dX3_layPoints_16 : decode cX3_layPoints 16 = .ok (.putfield 88, 3) := dk_181 0 88 (dk_at dksX3_layPoints_0 16 rfl rfl)
theorem dX3_layPoints_19 : decode cX3_layPoints 19 = .ok (.iconst 0, 1) := dk_3 (dk_at dksX3_layPoints_0 19 rfl rfl)
theorem dX3_layPoints_20 : decode cX3_layPoints 20 = .ok (.istore_n 1, 1) := dk_60 (dk_at dksX3_layPoints_0 20 rfl rfl)
theorem dX3_layPoints_21 : decode cX3_layPoints 21 = .ok (.iload_n 1, 1) := dk_27 (dk_at dksX3_layPoints_0 21 rfl rfl)
theorem dX3_layPoints_22 : decode cX3_layPoints 22 = .ok (.aload_n 0, 1) := dk_42 (dk_at dksX3_layPoints_0 22 rfl rfl)
theorem dX3_layPoints_23 : decode cX3_layPoints 23 = .ok (.getfield 9, 3) := dk_180 0 9 (dk_at dksX3_layPoints_1 0 rfl rfl)
theorem dX3_layPoints_26 : decode cX3_layPoints 26 = .ok (.getfield 30, 3) := dk_180 0 30 (dk_at dksX3_layPoints_1 3 rfl rfl)
theorem dX3_layPoints_29 : decode cX3_layPoints 29 = .ok (.arraylength, 1) := dk_190 (dk_at dksX3_layPoints_1 6 rfl rfl)
theorem dX3_layPoints_30 : decode cX3_layPoints 30 = .ok (.if_icmp .ge 21, 3) := dk_162 0 21 (dk_at dksX3_layPoints_1 7 rfl rfl)
theorem dX3_layPoints_33 : decode cX3_layPoints 33 = .ok (.aload_n 0, 1) := dk_42 (dk_at dksX3_layPoints_1 10 rfl rfl)
theorem dX3_layPoints_34 : decode cX3_layPoints 34 = .ok (.iload_n 1, 1) := dk_27 (dk_at dksX3_layPoints_1 11 rfl rfl)
theorem dX3_layPoints_35 : decode cX3_layPoints 35 = .ok (.invokevirtual 95, 3) := dk_182 0 95 (dk_at dksX3_layPoints_1 12 rfl rfl)
theorem dX3_layPoints_38 : decode cX3_layPoints 38 = .ok (.aload_n 0, 1) := dk_42 (dk_at dksX3_layPoints_1 15 rfl rfl)
theorem dX3_layPoints_39 : decode cX3_layPoints 39 = .ok (.getfield 88, 3) := dk_180 0 88 (dk_at dksX3_layPoints_1 16 rfl rfl)
theorem dX3_layPoints_42 : decode cX3_layPoints 42 = .ok (.invokevirtual 99, 3) := dk_182 0 99 (dk_at dksX3_layPoints_1 19 rfl rfl)
theorem dX3_layPoints_45 : decode cX3_layPoints 45 = .ok (.iinc 1 1, 3) := dk_132 1 1 (dk_at dksX3_layPoints_2 0 rfl rfl)
theorem dX3_layPoints_48 : decode cX3_layPoints 48 = .ok (.goto (-27), 3) := dk_167 255 229 (dk_at dksX3_layPoints_2 3 rfl rfl)
theorem dX3_layPoints_51 : decode cX3_layPoints 51 = .ok (.aload_n 0, 1) := dk_42 (dk_at dksX3_layPoints_2 6 rfl rfl)
theorem dX3_layPoints_52 : decode cX3_layPoints 52 = .ok (.new 102, 3) := dk_187 0 102 (dk_at dksX3_layPoints_2 7 rfl rfl)
theorem dX3_layPoints_55 : decode cX3_layPoints 55 = .ok (.dup, 1) := dk_89 (dk_at dksX3_layPoints_2 10 rfl rfl)
theorem dX3_layPoints_56 : decode cX3_layPoints 56 = .ok (.invokespecial 104, 3) := dk_183 0 104 (dk_at dksX3_layPoints_2 11 rfl rfl)
theorem dX3_layPoints_59 : decode cX3_layPoints 59 = .ok (.putfield 105, 3) := dk_181 0 105 (dk_at dksX3_layPoints_2 14 rfl rfl)
theorem dX3_layPoints_62 : decode cX3_layPoints 62 = .ok (.iconst 0, 1) := dk_3 (dk_at dksX3_layPoints_2 17 rfl rfl)
theorem dX3_layPoints_63 : decode cX3_layPoints 63 = .ok (.istore_n 1, 1) := dk_60 (dk_at dksX3_layPoints_2 18 rfl rfl)
theorem dX3_layPoints_64 : decode cX3_layPoints 64 = .ok (.iload_n 1, 1) := dk_27 (dk_at dksX3_layPoints_2 19 rfl rfl)
theorem dX3_layPoints_65 : decode cX3_layPoints 65 = .ok (.aload_n 0, 1) := dk_42 (dk_at dksX3_layPoints_2 20 rfl rfl)
theorem dX3_layPoints_66 : decode cX3_layPoints 66 = .ok (.getfield 88, 3) := dk_180 0 88 (dk_at dksX3_layPoints_2 21 rfl rfl)
theorem dX3_layPoints_69 : decode cX3_layPoints 69 = .ok (.getfield 109, 3) := dk_180 0 109 (dk_at dksX3_layPoints_3 0 rfl rfl)
theorem dX3_layPoints_72 : decode cX3_layPoints 72 = .ok (.if_icmp .ge 56, 3) := dk_162 0 56 (dk_at dksX3_layPoints_3 3 rfl rfl)
theorem dX3_layPoints_75 : decode cX3_layPoints 75 = .ok (.aload_n 0, 1) := dk_42 (dk_at dksX3_layPoints_3 6 rfl rfl)
theorem dX3_layPoints_76 : decode cX3_layPoints 76 = .ok (.getfield 9, 3) := dk_180 0 9 (dk_at dksX3_layPoints_3 7 rfl rfl)
theorem dX3_layPoints_79 : decode cX3_layPoints 79 = .ok (.aload_n 0, 1) := dk_42 (dk_at dksX3_layPoints_3 10 rfl rfl)
theorem dX3_layPoints_80 : decode cX3_layPoints 80 = .ok (.getfield 88, 3) := dk_180 0 88 (dk_at dksX3_layPoints_3 11 rfl rfl)
theorem dX3_layPoints_83 : decode cX3_layPoints 83 = .ok (.getfield 112, 3) := dk_180 0 112 (dk_at dksX3_layPoints_3 14 rfl rfl)
theorem dX3_layPoints_86 : decode cX3_layPoints 86 = .ok (.iload_n 1, 1) := dk_27 (dk_at dksX3_layPoints_3 17 rfl rfl)
theorem dX3_layPoints_87 : decode cX3_layPoints 87 = .ok (.iaload, 1) := dk_46 (dk_at dksX3_layPoints_3 18 rfl rfl)
theorem dX3_layPoints_88 : decode cX3_layPoints 88 = .ok (.aload_n 0, 1) := dk_42 (dk_at dksX3_layPoints_3 19 rfl rfl)
theorem dX3_layPoints_89 : decode cX3_layPoints 89 = .ok (.getfield 88, 3) := dk_180 0 88 (dk_at dksX3_layPoints_3 20 rfl rfl)
theorem dX3_layPoints_92 : decode cX3_layPoints 92 = .ok (.getfield 114, 3) := dk_180 0 114 (dk_at dksX3_layPoints_4 0 rfl rfl)
theorem dX3_layPoints_95 : decode cX3_layPoints 95 = .ok (.iload_n 1, 1) := dk_27 (dk_at dksX3_layPoints_4 3 rfl rfl)
theorem dX3_layPoints_96 : decode cX3_layPoints 96 = .ok (.iaload, 1) := dk_46 (dk_at dksX3_layPoints_4 4 rfl rfl)
theorem dX3_layPoints_97 : decode cX3_layPoints 97 = .ok (.i2l, 1) := dk_133 (dk_at dksX3_layPoints_4 5 rfl rfl)
theorem dX3_layPoints_98 : decode cX3_layPoints 98 = .ok (.aload_n 0, 1) := dk_42 (dk_at dksX3_layPoints_4 6 rfl rfl)
theorem dX3_layPoints_99 : decode cX3_layPoints 99 = .ok (.getfield 88, 3) := dk_180 0 88 (dk_at dksX3_layPoints_4 7 rfl rfl)
theorem dX3_layPoints_102 : decode cX3_layPoints 102 = .ok (.getfield 117, 3) := dk_180 0 117 (dk_at dksX3_layPoints_4 10 rfl rfl)
theorem dX3_layPoints_105 : decode cX3_layPoints 105 = .ok (.iload_n 1, 1) := dk_27 (dk_at dksX3_layPoints_4 13 rfl rfl)
theorem dX3_layPoints_106 : decode cX3_layPoints 106 = .ok (.iaload, 1) := dk_46 (dk_at dksX3_layPoints_4 14 rfl rfl)
theorem dX3_layPoints_107 : decode cX3_layPoints 107 = .ok (.i2l, 1) := dk_133 (dk_at dksX3_layPoints_4 15 rfl rfl)
theorem dX3_layPoints_108 : decode cX3_layPoints 108 = .ok (.invokevirtual 120, 3) := dk_182 0 120 (dk_at dksX3_layPoints_4 16 rfl rfl)
theorem dX3_layPoints_111 : decode cX3_layPoints 111 = .ok (.ifCond .eq 11, 3) := dk_153 0 11 (dk_at dksX3_layPoints_4 19 rfl rfl)
theorem dX3_layPoints_114 : decode cX3_layPoints 114 = .ok (.aload_n 0, 1) := dk_42 (dk_at dksX3_layPoints_4 22 rfl rfl)
theorem dX3_layPoints_115 : decode cX3_layPoints 115 = .ok (.getfield 105, 3) := dk_180 0 105 (dk_at dksX3_layPoints_5 0 rfl rfl)
theorem dX3_layPoints_118 : decode cX3_layPoints 118 = .ok (.iload_n 1, 1) := dk_27 (dk_at dksX3_layPoints_5 3 rfl rfl)
theorem dX3_layPoints_119 : decode cX3_layPoints 119 = .ok (.invokevirtual 124, 3) := dk_182 0 124 (dk_at dksX3_layPoints_5 4 rfl rfl)
theorem dX3_layPoints_122 : decode cX3_layPoints 122 = .ok (.iinc 1 1, 3) := dk_132 1 1 (dk_at dksX3_layPoints_5 7 rfl rfl)
theorem dX3_layPoints_125 : decode cX3_layPoints 125 = .ok (.goto (-61), 3) := dk_167 255 195 (dk_at dksX3_layPoints_5 10 rfl rfl)
theorem dX3_layPoints_128 : decode cX3_layPoints 128 = .ok (.return_, 1) := dk_177 (dk_at dksX3_layPoints_5 13 rfl rfl)
abbrev cX3_layEdge : ByteArray := prog_12_method_10_code
def yX3_layEdge : MethodName := ⟨RX3, "layEdge", "(I)V"⟩
def dkwX3_layEdge_12 : List UInt8 := [167, 255, 179, 177]
abbrev dktX3_layEdge_12 : List UInt8 := dkwX3_layEdge_12 ++ []
def dkwX3_layEdge_11 : List UInt8 := [180, 0, 9, 180, 0, 144, 21, 5, 50, 180, 0, 154, 133, 10, 185, 0, 82, 5, 0, 132, 5, 1]
abbrev dktX3_layEdge_11 : List UInt8 := dkwX3_layEdge_11 ++ dktX3_layEdge_12
def dkwX3_layEdge_10 : List UInt8 := [180, 0, 9, 180, 0, 144, 21, 5, 50, 180, 0, 153, 133, 10, 185, 0, 82, 5, 0, 25, 4, 42]
abbrev dktX3_layEdge_10 : List UInt8 := dkwX3_layEdge_10 ++ dktX3_layEdge_11
def dkwX3_layEdge_9 : List UInt8 := [162, 0, 70, 42, 180, 0, 9, 180, 0, 144, 21, 5, 50, 180, 0, 148, 27, 160, 0, 47, 25, 4, 42]
abbrev dktX3_layEdge_9 : List UInt8 := dkwX3_layEdge_9 ++ dktX3_layEdge_10
def dkwX3_layEdge_8 : List UInt8 := [167, 255, 229, 132, 5, 1, 167, 255, 213, 3, 54, 5, 21, 5, 42, 180, 0, 9, 180, 0, 144, 190]
abbrev dktX3_layEdge_8 : List UInt8 := dkwX3_layEdge_8 ++ dktX3_layEdge_9
def dkwX3_layEdge_7 : List UInt8 := [162, 0, 26, 45, 21, 5, 50, 45, 21, 6, 50, 44, 180, 0, 42, 25, 4, 184, 0, 140, 132, 6, 1]
abbrev dktX3_layEdge_7 : List UInt8 := dkwX3_layEdge_7 ++ dktX3_layEdge_8
def dkwX3_layEdge_6 : List UInt8 := [185, 0, 82, 5, 0, 3, 54, 5, 21, 5, 45, 190, 162, 0, 42, 3, 54, 6, 21, 6, 21, 5]
abbrev dktX3_layEdge_6 : List UInt8 := dkwX3_layEdge_6 ++ dktX3_layEdge_7
def dkwX3_layEdge_5 : List UInt8 := [186, 0, 137, 0, 0, 58, 4, 25, 4, 9, 10, 185, 0, 82, 5, 0, 25, 4, 44, 180, 0, 42, 133, 10]
abbrev dktX3_layEdge_5 : List UInt8 := dkwX3_layEdge_5 ++ dktX3_layEdge_6
def dkwX3_layEdge_4 : List UInt8 := [182, 0, 45, 44, 180, 0, 42, 96, 183, 0, 136, 83, 132, 4, 1, 167, 255, 171, 42, 27]
abbrev dktX3_layEdge_4 : List UInt8 := dkwX3_layEdge_4 ++ dktX3_layEdge_5
def dkwX3_layEdge_3 : List UInt8 := [104, 4, 96, 187, 0, 134, 89, 42, 180, 0, 9, 180, 0, 65, 21, 4, 46, 42, 21, 4, 44, 180, 0, 39]
abbrev dktX3_layEdge_3 : List UInt8 := dkwX3_layEdge_3 ++ dktX3_layEdge_4
def dkwX3_layEdge_2 : List UInt8 := [180, 0, 65, 21, 4, 46, 42, 21, 4, 44, 180, 0, 34, 182, 0, 45, 183, 0, 131, 83, 45, 5, 21, 4]
abbrev dktX3_layEdge_2 : List UInt8 := dkwX3_layEdge_2 ++ dktX3_layEdge_3
def dkwX3_layEdge_1 : List UInt8 := [21, 4, 42, 180, 0, 21, 162, 0, 82, 45, 5, 21, 4, 104, 187, 0, 129, 89, 42, 180, 0, 9]
abbrev dktX3_layEdge_1 : List UInt8 := dkwX3_layEdge_1 ++ dktX3_layEdge_2
def dkwX3_layEdge_0 : List UInt8 := [42, 180, 0, 9, 180, 0, 30, 27, 50, 77, 5, 42, 180, 0, 21, 104, 189, 0, 127, 78, 3, 54, 4]
abbrev dktX3_layEdge_0 : List UInt8 := dkwX3_layEdge_0 ++ dktX3_layEdge_1
theorem dksX3_layEdge_0 : cX3_layEdge.data.toList.drop 0 = dktX3_layEdge_0 := by decide +kernel
theorem dksX3_layEdge_1 : cX3_layEdge.data.toList.drop 23 = dktX3_layEdge_1 := dk_seg dksX3_layEdge_0 23 rfl rfl
theorem dksX3_layEdge_2 : cX3_layEdge.data.toList.drop 45 = dktX3_layEdge_2 := dk_seg dksX3_layEdge_1 22 rfl rfl
theorem dksX3_layEdge_3 : cX3_layEdge.data.toList.drop 69 = dktX3_layEdge_3 := dk_seg dksX3_layEdge_2 24 rfl rfl
theorem dksX3_layEdge_4 : cX3_layEdge.data.toList.drop 93 = dktX3_layEdge_4 := dk_seg dksX3_layEdge_3 24 rfl rfl
theorem dksX3_layEdge_5 : cX3_layEdge.data.toList.drop 113 = dktX3_layEdge_5 := dk_seg dksX3_layEdge_4 20 rfl rfl
theorem dksX3_layEdge_6 : cX3_layEdge.data.toList.drop 137 = dktX3_layEdge_6 := dk_seg dksX3_layEdge_5 24 rfl rfl
theorem dksX3_layEdge_7 : cX3_layEdge.data.toList.drop 159 = dktX3_layEdge_7 := dk_seg dksX3_layEdge_6 22 rfl rfl
theorem dksX3_layEdge_8 : cX3_layEdge.data.toList.drop 182 = dktX3_layEdge_8 := dk_seg dksX3_layEdge_7 23 rfl rfl
theorem dksX3_layEdge_9 : cX3_layEdge.data.toList.drop 204 = dktX3_layEdge_9 := dk_seg dksX3_layEdge_8 22 rfl rfl
theorem dksX3_layEdge_10 : cX3_layEdge.data.toList.drop 227 = dktX3_layEdge_10 := dk_seg dksX3_layEdge_9 23 rfl rfl
theorem dksX3_layEdge_11 : cX3_layEdge.data.toList.drop 249 = dktX3_layEdge_11 := dk_seg dksX3_layEdge_10 22 rfl rfl
theorem dksX3_layEdge_12 : cX3_layEdge.data.toList.drop 271 = dktX3_layEdge_12 := dk_seg dksX3_layEdge_11 22 rfl rfl
theorem dX3_layEdge_0 : decode cX3_layEdge 0 = .ok (.aload_n 0, 1) := dk_42 (dk_at dksX3_layEdge_0 0 rfl rfl)
theorem dX3_layEdge_1 : decode cX3_layEdge 1 = .ok (.getfield 9, 3) := dk_180 0 9 (dk_at dksX3_layEdge_0 1 rfl rfl)
theorem dX3_layEdge_4 : decode cX3_layEdge 4 = .ok (.getfield 30, 3) := dk_180 0 30 (dk_at dksX3_layEdge_0 4 rfl rfl)
theorem dX3_layEdge_7 : decode cX3_layEdge 7 = .ok (.iload_n 1, 1) := dk_27 (dk_at dksX3_layEdge_0 7 rfl rfl)
theorem dX3_layEdge_8 : decode cX3_layEdge 8 = .ok (.aaload, 1) := dk_50 (dk_at dksX3_layEdge_0 8 rfl rfl)
theorem dX3_layEdge_9 : decode cX3_layEdge 9 = .ok (.astore_n 2, 1) := dk_77 (dk_at dksX3_layEdge_0 9 rfl rfl)
theorem dX3_layEdge_10 : decode cX3_layEdge 10 = .ok (.iconst 2, 1) := dk_5 (dk_at dksX3_layEdge_0 10 rfl rfl)
theorem dX3_layEdge_11 : decode cX3_layEdge 11 = .ok (.aload_n 0, 1) := dk_42 (dk_at dksX3_layEdge_0 11 rfl rfl)
theorem dX3_layEdge_12 : decode cX3_layEdge 12 = .ok (.getfield 21, 3) := dk_180 0 21 (dk_at dksX3_layEdge_0 12 rfl rfl)
theorem dX3_layEdge_15 : decode cX3_layEdge 15 = .ok (.imul, 1) := dk_104 (dk_at dksX3_layEdge_0 15 rfl rfl)
theorem dX3_layEdge_16 : decode cX3_layEdge 16 = .ok (.anewarray 127, 3) := dk_189 0 127 (dk_at dksX3_layEdge_0 16 rfl rfl)
theorem dX3_layEdge_19 : decode cX3_layEdge 19 = .ok (.astore_n 3, 1) := dk_78 (dk_at dksX3_layEdge_0 19 rfl rfl)
theorem dX3_layEdge_20 : decode cX3_layEdge 20 = .ok (.iconst 0, 1) := dk_3 (dk_at dksX3_layEdge_0 20 rfl rfl)
theorem dX3_layEdge_21 : decode cX3_layEdge 21 = .ok (.istore 4, 2) := dk_54 4 (dk_at dksX3_layEdge_0 21 rfl rfl)
theorem dX3_layEdge_23 : decode cX3_layEdge 23 = .ok (.iload 4, 2) := dk_21 4 (dk_at dksX3_layEdge_1 0 rfl rfl)
theorem dX3_layEdge_25 : decode cX3_layEdge 25 = .ok (.aload_n 0, 1) := dk_42 (dk_at dksX3_layEdge_1 2 rfl rfl)
theorem dX3_layEdge_26 : decode cX3_layEdge 26 = .ok (.getfield 21, 3) := dk_180 0 21 (dk_at dksX3_layEdge_1 3 rfl rfl)
theorem dX3_layEdge_29 : decode cX3_layEdge 29 = .ok (.if_icmp .ge 82, 3) := dk_162 0 82 (dk_at dksX3_layEdge_1 6 rfl rfl)
theorem dX3_layEdge_32 : decode cX3_layEdge 32 = .ok (.aload_n 3, 1) := dk_45 (dk_at dksX3_layEdge_1 9 rfl rfl)
theorem dX3_layEdge_33 : decode cX3_layEdge 33 = .ok (.iconst 2, 1) := dk_5 (dk_at dksX3_layEdge_1 10 rfl rfl)
theorem dX3_layEdge_34 : decode cX3_layEdge 34 = .ok (.iload 4, 2) := dk_21 4 (dk_at dksX3_layEdge_1 11 rfl rfl)
theorem dX3_layEdge_36 : decode cX3_layEdge 36 = .ok (.imul, 1) := dk_104 (dk_at dksX3_layEdge_1 13 rfl rfl)
theorem dX3_layEdge_37 : decode cX3_layEdge 37 = .ok (.new 129, 3) := dk_187 0 129 (dk_at dksX3_layEdge_1 14 rfl rfl)
theorem dX3_layEdge_40 : decode cX3_layEdge 40 = .ok (.dup, 1) := dk_89 (dk_at dksX3_layEdge_1 17 rfl rfl)
theorem dX3_layEdge_41 : decode cX3_layEdge 41 = .ok (.aload_n 0, 1) := dk_42 (dk_at dksX3_layEdge_1 18 rfl rfl)
theorem dX3_layEdge_42 : decode cX3_layEdge 42 = .ok (.getfield 9, 3) := dk_180 0 9 (dk_at dksX3_layEdge_1 19 rfl rfl)
theorem dX3_layEdge_45 : decode cX3_layEdge 45 = .ok (.getfield 65, 3) := dk_180 0 65 (dk_at dksX3_layEdge_2 0 rfl rfl)
theorem dX3_layEdge_48 : decode cX3_layEdge 48 = .ok (.iload 4, 2) := dk_21 4 (dk_at dksX3_layEdge_2 3 rfl rfl)
theorem dX3_layEdge_50 : decode cX3_layEdge 50 = .ok (.iaload, 1) := dk_46 (dk_at dksX3_layEdge_2 5 rfl rfl)
theorem dX3_layEdge_51 : decode cX3_layEdge 51 = .ok (.aload_n 0, 1) := dk_42 (dk_at dksX3_layEdge_2 6 rfl rfl)
theorem dX3_layEdge_52 : decode cX3_layEdge 52 = .ok (.iload 4, 2) := dk_21 4 (dk_at dksX3_layEdge_2 7 rfl rfl)
theorem dX3_layEdge_54 : decode cX3_layEdge 54 = .ok (.aload_n 2, 1) := dk_44 (dk_at dksX3_layEdge_2 9 rfl rfl)
theorem dX3_layEdge_55 : decode cX3_layEdge 55 = .ok (.getfield 34, 3) := dk_180 0 34 (dk_at dksX3_layEdge_2 10 rfl rfl)
theorem dX3_layEdge_58 : decode cX3_layEdge 58 = .ok (.invokevirtual 45, 3) := dk_182 0 45 (dk_at dksX3_layEdge_2 13 rfl rfl)
theorem dX3_layEdge_61 : decode cX3_layEdge 61 = .ok (.invokespecial 131, 3) := dk_183 0 131 (dk_at dksX3_layEdge_2 16 rfl rfl)
theorem dX3_layEdge_64 : decode cX3_layEdge 64 = .ok (.aastore, 1) := dk_83 (dk_at dksX3_layEdge_2 19 rfl rfl)
theorem dX3_layEdge_65 : decode cX3_layEdge 65 = .ok (.aload_n 3, 1) := dk_45 (dk_at dksX3_layEdge_2 20 rfl rfl)
theorem dX3_layEdge_66 : decode cX3_layEdge 66 = .ok (.iconst 2, 1) := dk_5 (dk_at dksX3_layEdge_2 21 rfl rfl)
theorem dX3_layEdge_67 : decode cX3_layEdge 67 = .ok (.iload 4, 2) := dk_21 4 (dk_at dksX3_layEdge_2 22 rfl rfl)
theorem dX3_layEdge_69 : decode cX3_layEdge 69 = .ok (.imul, 1) := dk_104 (dk_at dksX3_layEdge_3 0 rfl rfl)
theorem dX3_layEdge_70 : decode cX3_layEdge 70 = .ok (.iconst 1, 1) := dk_4 (dk_at dksX3_layEdge_3 1 rfl rfl)
theorem dX3_layEdge_71 : decode cX3_layEdge 71 = .ok (.iadd, 1) := dk_96 (dk_at dksX3_layEdge_3 2 rfl rfl)
theorem dX3_layEdge_72 : decode cX3_layEdge 72 = .ok (.new 134, 3) := dk_187 0 134 (dk_at dksX3_layEdge_3 3 rfl rfl)
theorem dX3_layEdge_75 : decode cX3_layEdge 75 = .ok (.dup, 1) := dk_89 (dk_at dksX3_layEdge_3 6 rfl rfl)
theorem dX3_layEdge_76 : decode cX3_layEdge 76 = .ok (.aload_n 0, 1) := dk_42 (dk_at dksX3_layEdge_3 7 rfl rfl)
theorem dX3_layEdge_77 : decode cX3_layEdge 77 = .ok (.getfield 9, 3) := dk_180 0 9 (dk_at dksX3_layEdge_3 8 rfl rfl)
theorem dX3_layEdge_80 : decode cX3_layEdge 80 = .ok (.getfield 65, 3) := dk_180 0 65 (dk_at dksX3_layEdge_3 11 rfl rfl)
theorem dX3_layEdge_83 : decode cX3_layEdge 83 = .ok (.iload 4, 2) := dk_21 4 (dk_at dksX3_layEdge_3 14 rfl rfl)
theorem dX3_layEdge_85 : decode cX3_layEdge 85 = .ok (.iaload, 1) := dk_46 (dk_at dksX3_layEdge_3 16 rfl rfl)
theorem dX3_layEdge_86 : decode cX3_layEdge 86 = .ok (.aload_n 0, 1) := dk_42 (dk_at dksX3_layEdge_3 17 rfl rfl)
theorem dX3_layEdge_87 : decode cX3_layEdge 87 = .ok (.iload 4, 2) := dk_21 4 (dk_at dksX3_layEdge_3 18 rfl rfl)
theorem dX3_layEdge_89 : decode cX3_layEdge 89 = .ok (.aload_n 2, 1) := dk_44 (dk_at dksX3_layEdge_3 20 rfl rfl)
theorem dX3_layEdge_90 : decode cX3_layEdge 90 = .ok (.getfield 39, 3) := dk_180 0 39 (dk_at dksX3_layEdge_3 21 rfl rfl)
theorem dX3_layEdge_93 : decode cX3_layEdge 93 = .ok (.invokevirtual 45, 3) := dk_182 0 45 (dk_at dksX3_layEdge_4 0 rfl rfl)
theorem dX3_layEdge_96 : decode cX3_layEdge 96 = .ok (.aload_n 2, 1) := dk_44 (dk_at dksX3_layEdge_4 3 rfl rfl)
theorem dX3_layEdge_97 : decode cX3_layEdge 97 = .ok (.getfield 42, 3) := dk_180 0 42 (dk_at dksX3_layEdge_4 4 rfl rfl)
theorem dX3_layEdge_100 : decode cX3_layEdge 100 = .ok (.iadd, 1) := dk_96 (dk_at dksX3_layEdge_4 7 rfl rfl)
theorem dX3_layEdge_101 : decode cX3_layEdge 101 = .ok (.invokespecial 136, 3) := dk_183 0 136 (dk_at dksX3_layEdge_4 8 rfl rfl)
theorem dX3_layEdge_104 : decode cX3_layEdge 104 = .ok (.aastore, 1) := dk_83 (dk_at dksX3_layEdge_4 11 rfl rfl)
theorem dX3_layEdge_105 : decode cX3_layEdge 105 = .ok (.iinc 4 1, 3) := dk_132 4 1 (dk_at dksX3_layEdge_4 12 rfl rfl)
theorem dX3_layEdge_108 : decode cX3_layEdge 108 = .ok (.goto (-85), 3) := dk_167 255 171 (dk_at dksX3_layEdge_4 15 rfl rfl)
theorem dX3_layEdge_111 : decode cX3_layEdge 111 = .ok (.aload_n 0, 1) := dk_42 (dk_at dksX3_layEdge_4 18 rfl rfl)
theorem dX3_layEdge_112 : decode cX3_layEdge 112 = .ok (.iload_n 1, 1) := dk_27 (dk_at dksX3_layEdge_4 19 rfl rfl)
theorem dX3_layEdge_113 : decode cX3_layEdge 113 = .ok (.invokedynamic 137, 5) := by decide +kernel
theorem dX3_layEdge_118 : decode cX3_layEdge 118 = .ok (.astore 4, 2) := dk_58 4 (dk_at dksX3_layEdge_5 5 rfl rfl)
theorem dX3_layEdge_120 : decode cX3_layEdge 120 = .ok (.aload 4, 2) := dk_25 4 (dk_at dksX3_layEdge_5 7 rfl rfl)
theorem dX3_layEdge_122 : decode cX3_layEdge 122 = .ok (.lconst 0, 1) := dk_9 (dk_at dksX3_layEdge_5 9 rfl rfl)
theorem dX3_layEdge_123 : decode cX3_layEdge 123 = .ok (.lconst 1, 1) := dk_10 (dk_at dksX3_layEdge_5 10 rfl rfl)
theorem dX3_layEdge_124 : decode cX3_layEdge 124 = .ok (.invokeinterface 82 5, 5) := by decide +kernel
theorem dX3_layEdge_129 : decode cX3_layEdge 129 = .ok (.aload 4, 2) := dk_25 4 (dk_at dksX3_layEdge_5 16 rfl rfl)
theorem dX3_layEdge_131 : decode cX3_layEdge 131 = .ok (.aload_n 2, 1) := dk_44 (dk_at dksX3_layEdge_5 18 rfl rfl)
theorem dX3_layEdge_132 : decode cX3_layEdge 132 = .ok (.getfield 42, 3) := dk_180 0 42 (dk_at dksX3_layEdge_5 19 rfl rfl)
theorem dX3_layEdge_135 : decode cX3_layEdge 135 = .ok (.i2l, 1) := dk_133 (dk_at dksX3_layEdge_5 22 rfl rfl)
theorem dX3_layEdge_136 : decode cX3_layEdge 136 = .ok (.lconst 1, 1) := dk_10 (dk_at dksX3_layEdge_5 23 rfl rfl)
theorem dX3_layEdge_137 : decode cX3_layEdge 137 = .ok (.invokeinterface 82 5, 5) := by decide +kernel
theorem dX3_layEdge_142 : decode cX3_layEdge 142 = .ok (.iconst 0, 1) := dk_3 (dk_at dksX3_layEdge_6 5 rfl rfl)
theorem dX3_layEdge_143 : decode cX3_layEdge 143 = .ok (.istore 5, 2) := dk_54 5 (dk_at dksX3_layEdge_6 6 rfl rfl)
theorem dX3_layEdge_145 : decode cX3_layEdge 145 = .ok (.iload 5, 2) := dk_21 5 (dk_at dksX3_layEdge_6 8 rfl rfl)
theorem dX3_layEdge_147 : decode cX3_layEdge 147 = .ok (.aload_n 3, 1) := dk_45 (dk_at dksX3_layEdge_6 10 rfl rfl)
theorem dX3_layEdge_148 : decode cX3_layEdge 148 = .ok (.arraylength, 1) := dk_190 (dk_at dksX3_layEdge_6 11 rfl rfl)
theorem dX3_layEdge_149 : decode cX3_layEdge 149 = .ok (.if_icmp .ge 42, 3) := dk_162 0 42 (dk_at dksX3_layEdge_6 12 rfl rfl)
theorem dX3_layEdge_152 : decode cX3_layEdge 152 = .ok (.iconst 0, 1) := dk_3 (dk_at dksX3_layEdge_6 15 rfl rfl)
theorem dX3_layEdge_153 : decode cX3_layEdge 153 = .ok (.istore 6, 2) := dk_54 6 (dk_at dksX3_layEdge_6 16 rfl rfl)
theorem dX3_layEdge_155 : decode cX3_layEdge 155 = .ok (.iload 6, 2) := dk_21 6 (dk_at dksX3_layEdge_6 18 rfl rfl)
theorem dX3_layEdge_157 : decode cX3_layEdge 157 = .ok (.iload 5, 2) := dk_21 5 (dk_at dksX3_layEdge_6 20 rfl rfl)
theorem dX3_layEdge_159 : decode cX3_layEdge 159 = .ok (.if_icmp .ge 26, 3) := dk_162 0 26 (dk_at dksX3_layEdge_7 0 rfl rfl)
theorem dX3_layEdge_162 : decode cX3_layEdge 162 = .ok (.aload_n 3, 1) := dk_45 (dk_at dksX3_layEdge_7 3 rfl rfl)
theorem dX3_layEdge_163 : decode cX3_layEdge 163 = .ok (.iload 5, 2) := dk_21 5 (dk_at dksX3_layEdge_7 4 rfl rfl)
theorem dX3_layEdge_165 : decode cX3_layEdge 165 = .ok (.aaload, 1) := dk_50 (dk_at dksX3_layEdge_7 6 rfl rfl)
theorem dX3_layEdge_166 : decode cX3_layEdge 166 = .ok (.aload_n 3, 1) := dk_45 (dk_at dksX3_layEdge_7 7 rfl rfl)
theorem dX3_layEdge_167 : decode cX3_layEdge 167 = .ok (.iload 6, 2) := dk_21 6 (dk_at dksX3_layEdge_7 8 rfl rfl)
theorem dX3_layEdge_169 : decode cX3_layEdge 169 = .ok (.aaload, 1) := dk_50 (dk_at dksX3_layEdge_7 10 rfl rfl)
theorem dX3_layEdge_170 : decode cX3_layEdge 170 = .ok (.aload_n 2, 1) := dk_44 (dk_at dksX3_layEdge_7 11 rfl rfl)
theorem dX3_layEdge_171 : decode cX3_layEdge 171 = .ok (.getfield 42, 3) := dk_180 0 42 (dk_at dksX3_layEdge_7 12 rfl rfl)
theorem dX3_layEdge_174 : decode cX3_layEdge 174 = .ok (.aload 4, 2) := dk_25 4 (dk_at dksX3_layEdge_7 15 rfl rfl)
theorem dX3_layEdge_176 : decode cX3_layEdge 176 = .ok (.invokestatic 140, 3) := dk_184 0 140 (dk_at dksX3_layEdge_7 17 rfl rfl)
theorem dX3_layEdge_179 : decode cX3_layEdge 179 = .ok (.iinc 6 1, 3) := dk_132 6 1 (dk_at dksX3_layEdge_7 20 rfl rfl)
theorem dX3_layEdge_182 : decode cX3_layEdge 182 = .ok (.goto (-27), 3) := dk_167 255 229 (dk_at dksX3_layEdge_8 0 rfl rfl)
theorem dX3_layEdge_185 : decode cX3_layEdge 185 = .ok (.iinc 5 1, 3) := dk_132 5 1 (dk_at dksX3_layEdge_8 3 rfl rfl)
theorem dX3_layEdge_188 : decode cX3_layEdge 188 = .ok (.goto (-43), 3) := dk_167 255 213 (dk_at dksX3_layEdge_8 6 rfl rfl)
theorem dX3_layEdge_191 : decode cX3_layEdge 191 = .ok (.iconst 0, 1) := dk_3 (dk_at dksX3_layEdge_8 9 rfl rfl)
theorem dX3_layEdge_192 : decode cX3_layEdge 192 = .ok (.istore 5, 2) := dk_54 5 (dk_at dksX3_layEdge_8 10 rfl rfl)
theorem dX3_layEdge_194 : decode cX3_layEdge 194 = .ok (.iload 5, 2) := dk_21 5 (dk_at dksX3_layEdge_8 12 rfl rfl)
theorem dX3_layEdge_196 : decode cX3_layEdge 196 = .ok (.aload_n 0, 1) := dk_42 (dk_at dksX3_layEdge_8 14 rfl rfl)
theorem dX3_layEdge_197 : decode cX3_layEdge 197 = .ok (.getfield 9, 3) := dk_180 0 9 (dk_at dksX3_layEdge_8 15 rfl rfl)
theorem dX3_layEdge_200 : decode cX3_layEdge 200 = .ok (.getfield 144, 3) := dk_180 0 144 (dk_at dksX3_layEdge_8 18 rfl rfl)
theorem dX3_layEdge_203 : decode cX3_layEdge 203 = .ok (.arraylength, 1) := dk_190 (dk_at dksX3_layEdge_8 21 rfl rfl)
theorem dX3_layEdge_204 : decode cX3_layEdge 204 = .ok (.if_icmp .ge 70, 3) := dk_162 0 70 (dk_at dksX3_layEdge_9 0 rfl rfl)
theorem dX3_layEdge_207 : decode cX3_layEdge 207 = .ok (.aload_n 0, 1) := dk_42 (dk_at dksX3_layEdge_9 3 rfl rfl)
theorem dX3_layEdge_208 : decode cX3_layEdge 208 = .ok (.getfield 9, 3) := dk_180 0 9 (dk_at dksX3_layEdge_9 4 rfl rfl)
theorem dX3_layEdge_211 : decode cX3_layEdge 211 = .ok (.getfield 144, 3) := dk_180 0 144 (dk_at dksX3_layEdge_9 7 rfl rfl)
theorem dX3_layEdge_214 : decode cX3_layEdge 214 = .ok (.iload 5, 2) := dk_21 5 (dk_at dksX3_layEdge_9 10 rfl rfl)
theorem dX3_layEdge_216 : decode cX3_layEdge 216 = .ok (.aaload, 1) := dk_50 (dk_at dksX3_layEdge_9 12 rfl rfl)
theorem dX3_layEdge_217 : decode cX3_layEdge 217 = .ok (.getfield 148, 3) := dk_180 0 148 (dk_at dksX3_layEdge_9 13 rfl rfl)
theorem dX3_layEdge_220 : decode cX3_layEdge 220 = .ok (.iload_n 1, 1) := dk_27 (dk_at dksX3_layEdge_9 16 rfl rfl)
theorem dX3_layEdge_221 : decode cX3_layEdge 221 = .ok (.if_icmp .ne 47, 3) := dk_160 0 47 (dk_at dksX3_layEdge_9 17 rfl rfl)
theorem dX3_layEdge_224 : decode cX3_layEdge 224 = .ok (.aload 4, 2) := dk_25 4 (dk_at dksX3_layEdge_9 20 rfl rfl)
theorem dX3_layEdge_226 : decode cX3_layEdge 226 = .ok (.aload_n 0, 1) := dk_42 (dk_at dksX3_layEdge_9 22 rfl rfl)
theorem dX3_layEdge_227 : decode cX3_layEdge 227 = .ok (.getfield 9, 3) := dk_180 0 9 (dk_at dksX3_layEdge_10 0 rfl rfl)
theorem dX3_layEdge_230 : decode cX3_layEdge 230 = .ok (.getfield 144, 3) := dk_180 0 144 (dk_at dksX3_layEdge_10 3 rfl rfl)
theorem dX3_layEdge_233 : decode cX3_layEdge 233 = .ok (.iload 5, 2) := dk_21 5 (dk_at dksX3_layEdge_10 6 rfl rfl)
theorem dX3_layEdge_235 : decode cX3_layEdge 235 = .ok (.aaload, 1) := dk_50 (dk_at dksX3_layEdge_10 8 rfl rfl)
theorem dX3_layEdge_236 : decode cX3_layEdge 236 = .ok (.getfield 153, 3) := dk_180 0 153 (dk_at dksX3_layEdge_10 9 rfl rfl)
theorem dX3_layEdge_239 : decode cX3_layEdge 239 = .ok (.i2l, 1) := dk_133 (dk_at dksX3_layEdge_10 12 rfl rfl)
theorem dX3_layEdge_240 : decode cX3_layEdge 240 = .ok (.lconst 1, 1) := dk_10 (dk_at dksX3_layEdge_10 13 rfl rfl)
theorem dX3_layEdge_241 : decode cX3_layEdge 241 = .ok (.invokeinterface 82 5, 5) := by decide +kernel
theorem dX3_layEdge_246 : decode cX3_layEdge 246 = .ok (.aload 4, 2) := dk_25 4 (dk_at dksX3_layEdge_10 19 rfl rfl)
theorem dX3_layEdge_248 : decode cX3_layEdge 248 = .ok (.aload_n 0, 1) := dk_42 (dk_at dksX3_layEdge_10 21 rfl rfl)
theorem dX3_layEdge_249 : decode cX3_layEdge 249 = .ok (.getfield 9, 3) := dk_180 0 9 (dk_at dksX3_layEdge_11 0 rfl rfl)
theorem dX3_layEdge_252 : decode cX3_layEdge 252 = .ok (.getfield 144, 3) := dk_180 0 144 (dk_at dksX3_layEdge_11 3 rfl rfl)
theorem dX3_layEdge_255 : decode cX3_layEdge 255 = .ok (.iload 5, 2) := dk_21 5 (dk_at dksX3_layEdge_11 6 rfl rfl)
theorem dX3_layEdge_257 : decode cX3_layEdge 257 = .ok (.aaload, 1) := dk_50 (dk_at dksX3_layEdge_11 8 rfl rfl)
theorem dX3_layEdge_258 : decode cX3_layEdge 258 = .ok (.getfield 154, 3) := dk_180 0 154 (dk_at dksX3_layEdge_11 9 rfl rfl)
theorem dX3_layEdge_261 : decode cX3_layEdge 261 = .ok (.i2l, 1) := dk_133 (dk_at dksX3_layEdge_11 12 rfl rfl)
theorem dX3_layEdge_262 : decode cX3_layEdge 262 = .ok (.lconst 1, 1) := dk_10 (dk_at dksX3_layEdge_11 13 rfl rfl)
theorem dX3_layEdge_263 : decode cX3_layEdge 263 = .ok (.invokeinterface 82 5, 5) := by decide +kernel
theorem dX3_layEdge_268 : decode cX3_layEdge 268 = .ok (.iinc 5 1, 3) := dk_132 5 1 (dk_at dksX3_layEdge_11 19 rfl rfl)
theorem dX3_layEdge_271 : decode cX3_layEdge 271 = .ok (.goto (-77), 3) := dk_167 255 179 (dk_at dksX3_layEdge_12 0 rfl rfl)
theorem dX3_layEdge_274 : decode cX3_layEdge 274 = .ok (.return_, 1) := dk_177 (dk_at dksX3_layEdge_12 3 rfl rfl)
abbrev cX3_lambda_layEdge_0 : ByteArray := prog_12_method_29_code
def yX3_lambda_layEdge_0 : MethodName := ⟨RX3, "lambda$layEdge$0", "(IJJ)V"⟩
def dkwX3_lambda_layEdge_0_0 : List UInt8 := [42, 180, 0, 88, 27, 32, 22, 4, 182, 0, 219, 177]
abbrev dktX3_lambda_layEdge_0_0 : List UInt8 := dkwX3_lambda_layEdge_0_0 ++ []
theorem dksX3_lambda_layEdge_0_0 : cX3_lambda_layEdge_0.data.toList.drop 0 = dktX3_lambda_layEdge_0_0 := by decide +kernel
theorem dX3_lambda_layEdge_0_0 : decode cX3_lambda_layEdge_0 0 = .ok (.aload_n 0, 1) := dk_42 (dk_at dksX3_lambda_layEdge_0_0 0 rfl rfl)
theorem dX3_lambda_layEdge_0_1 : decode cX3_lambda_layEdge_0 1 = .ok (.getfield 88, 3) := dk_180 0 88 (dk_at dksX3_lambda_layEdge_0_0 1 rfl rfl)
theorem dX3_lambda_layEdge_0_4 : decode cX3_lambda_layEdge_0 4 = .ok (.iload_n 1, 1) := dk_27 (dk_at dksX3_lambda_layEdge_0_0 4 rfl rfl)
theorem dX3_lambda_layEdge_0_5 : decode cX3_lambda_layEdge_0 5 = .ok (.lload_n 2, 1) := dk_32 (dk_at dksX3_lambda_layEdge_0_0 5 rfl rfl)
theorem dX3_lambda_layEdge_0_6 : decode cX3_lambda_layEdge_0 6 = .ok (.lload 4, 2) := dk_22 4 (dk_at dksX3_lambda_layEdge_0_0 6 rfl rfl)
theorem dX3_lambda_layEdge_0_8 : decode cX3_lambda_layEdge_0 8 = .ok (.invokevirtual 219, 3) := dk_182 0 219 (dk_at dksX3_lambda_layEdge_0_0 8 rfl rfl)
theorem dX3_lambda_layEdge_0_11 : decode cX3_lambda_layEdge_0 11 = .ok (.return_, 1) := dk_177 (dk_at dksX3_lambda_layEdge_0_0 11 rfl rfl)
abbrev cX3_meet : ByteArray := prog_12_method_8_code
def yX3_meet : MethodName := ⟨RX3, "meet", "(LNetworkCenters$Line;LNetworkCenters$Line;ILNetworkCenters$Use;)V"⟩
def dkwX3_meet_4 : List UInt8 := [153, 0, 13, 45, 22, 6, 22, 4, 185, 0, 82, 5, 0, 177]
abbrev dktX3_meet_4 : List UInt8 := dkwX3_meet_4 ++ []
def dkwX3_meet_3 : List UInt8 := [157, 0, 18, 22, 6, 28, 133, 22, 4, 105, 148, 155, 0, 7, 4, 167, 0, 4, 3, 54, 8, 21, 8]
abbrev dktX3_meet_3 : List UInt8 := dkwX3_meet_3 ++ dktX3_meet_4
def dkwX3_meet_2 : List UInt8 := [157, 0, 7, 4, 167, 0, 37, 3, 167, 0, 33, 22, 4, 9, 148, 156, 0, 25, 22, 6, 9, 148]
abbrev dktX3_meet_2 : List UInt8 := dkwX3_meet_2 ++ dktX3_meet_3
def dkwX3_meet_1 : List UInt8 := [22, 4, 9, 148, 158, 0, 29, 22, 6, 9, 148, 155, 0, 18, 22, 6, 28, 133, 22, 4, 105, 148]
abbrev dktX3_meet_1 : List UInt8 := dkwX3_meet_1 ++ dktX3_meet_2
def dkwX3_meet_0 : List UInt8 := [42, 184, 0, 75, 43, 184, 0, 75, 100, 133, 55, 4, 43, 184, 0, 79, 42, 184, 0, 79, 100, 133, 55, 6]
abbrev dktX3_meet_0 : List UInt8 := dkwX3_meet_0 ++ dktX3_meet_1
theorem dksX3_meet_0 : cX3_meet.data.toList.drop 0 = dktX3_meet_0 := by decide +kernel
theorem dksX3_meet_1 : cX3_meet.data.toList.drop 24 = dktX3_meet_1 := dk_seg dksX3_meet_0 24 rfl rfl
theorem dksX3_meet_2 : cX3_meet.data.toList.drop 46 = dktX3_meet_2 := dk_seg dksX3_meet_1 22 rfl rfl
theorem dksX3_meet_3 : cX3_meet.data.toList.drop 68 = dktX3_meet_3 := dk_seg dksX3_meet_2 22 rfl rfl
theorem dksX3_meet_4 : cX3_meet.data.toList.drop 91 = dktX3_meet_4 := dk_seg dksX3_meet_3 23 rfl rfl
theorem dX3_meet_0 : decode cX3_meet 0 = .ok (.aload_n 0, 1) := dk_42 (dk_at dksX3_meet_0 0 rfl rfl)
theorem dX3_meet_1 : decode cX3_meet 1 = .ok (.invokestatic 75, 3) := dk_184 0 75 (dk_at dksX3_meet_0 1 rfl rfl)
theorem dX3_meet_4 : decode cX3_meet 4 = .ok (.aload_n 1, 1) := dk_43 (dk_at dksX3_meet_0 4 rfl rfl)
theorem dX3_meet_5 : decode cX3_meet 5 = .ok (.invokestatic 75, 3) := dk_184 0 75 (dk_at dksX3_meet_0 5 rfl rfl)
theorem dX3_meet_8 : decode cX3_meet 8 = .ok (.isub, 1) := dk_100 (dk_at dksX3_meet_0 8 rfl rfl)
theorem dX3_meet_9 : decode cX3_meet 9 = .ok (.i2l, 1) := dk_133 (dk_at dksX3_meet_0 9 rfl rfl)
theorem dX3_meet_10 : decode cX3_meet 10 = .ok (.lstore 4, 2) := dk_55 4 (dk_at dksX3_meet_0 10 rfl rfl)
theorem dX3_meet_12 : decode cX3_meet 12 = .ok (.aload_n 1, 1) := dk_43 (dk_at dksX3_meet_0 12 rfl rfl)
theorem dX3_meet_13 : decode cX3_meet 13 = .ok (.invokestatic 79, 3) := dk_184 0 79 (dk_at dksX3_meet_0 13 rfl rfl)
theorem dX3_meet_16 : decode cX3_meet 16 = .ok (.aload_n 0, 1) := dk_42 (dk_at dksX3_meet_0 16 rfl rfl)
theorem dX3_meet_17 : decode cX3_meet 17 = .ok (.invokestatic 79, 3) := dk_184 0 79 (dk_at dksX3_meet_0 17 rfl rfl)
theorem dX3_meet_20 : decode cX3_meet 20 = .ok (.isub, 1) := dk_100 (dk_at dksX3_meet_0 20 rfl rfl)
theorem dX3_meet_21 : decode cX3_meet 21 = .ok (.i2l, 1) := dk_133 (dk_at dksX3_meet_0 21 rfl rfl)
theorem dX3_meet_22 : decode cX3_meet 22 = .ok (.lstore 6, 2) := dk_55 6 (dk_at dksX3_meet_0 22 rfl rfl)
theorem dX3_meet_24 : decode cX3_meet 24 = .ok (.lload 4, 2) := dk_22 4 (dk_at dksX3_meet_1 0 rfl rfl)
theorem dX3_meet_26 : decode cX3_meet 26 = .ok (.lconst 0, 1) := dk_9 (dk_at dksX3_meet_1 2 rfl rfl)
theorem dX3_meet_27 : decode cX3_meet 27 = .ok (.lcmp, 1) := dk_148 (dk_at dksX3_meet_1 3 rfl rfl)
theorem dX3_meet_28 : decode cX3_meet 28 = .ok (.ifCond .le 29, 3) := dk_158 0 29 (dk_at dksX3_meet_1 4 rfl rfl)
theorem dX3_meet_31 : decode cX3_meet 31 = .ok (.lload 6, 2) := dk_22 6 (dk_at dksX3_meet_1 7 rfl rfl)
theorem dX3_meet_33 : decode cX3_meet 33 = .ok (.lconst 0, 1) := dk_9 (dk_at dksX3_meet_1 9 rfl rfl)
theorem dX3_meet_34 : decode cX3_meet 34 = .ok (.lcmp, 1) := dk_148 (dk_at dksX3_meet_1 10 rfl rfl)
theorem dX3_meet_35 : decode cX3_meet 35 = .ok (.ifCond .lt 18, 3) := dk_155 0 18 (dk_at dksX3_meet_1 11 rfl rfl)
theorem dX3_meet_38 : decode cX3_meet 38 = .ok (.lload 6, 2) := dk_22 6 (dk_at dksX3_meet_1 14 rfl rfl)
theorem dX3_meet_40 : decode cX3_meet 40 = .ok (.iload_n 2, 1) := dk_28 (dk_at dksX3_meet_1 16 rfl rfl)
theorem dX3_meet_41 : decode cX3_meet 41 = .ok (.i2l, 1) := dk_133 (dk_at dksX3_meet_1 17 rfl rfl)
theorem dX3_meet_42 : decode cX3_meet 42 = .ok (.lload 4, 2) := dk_22 4 (dk_at dksX3_meet_1 18 rfl rfl)
theorem dX3_meet_44 : decode cX3_meet 44 = .ok (.lmul, 1) := dk_105 (dk_at dksX3_meet_1 20 rfl rfl)
theorem dX3_meet_45 : decode cX3_meet 45 = .ok (.lcmp, 1) := dk_148 (dk_at dksX3_meet_1 21 rfl rfl)
theorem dX3_meet_46 : decode cX3_meet 46 = .ok (.ifCond .gt 7, 3) := dk_157 0 7 (dk_at dksX3_meet_2 0 rfl rfl)
theorem dX3_meet_49 : decode cX3_meet 49 = .ok (.iconst 1, 1) := dk_4 (dk_at dksX3_meet_2 3 rfl rfl)
theorem dX3_meet_50 : decode cX3_meet 50 = .ok (.goto 37, 3) := dk_167 0 37 (dk_at dksX3_meet_2 4 rfl rfl)
theorem dX3_meet_53 : decode cX3_meet 53 = .ok (.iconst 0, 1) := dk_3 (dk_at dksX3_meet_2 7 rfl rfl)
theorem dX3_meet_54 : decode cX3_meet 54 = .ok (.goto 33, 3) := dk_167 0 33 (dk_at dksX3_meet_2 8 rfl rfl)
theorem dX3_meet_57 : decode cX3_meet 57 = .ok (.lload 4, 2) := dk_22 4 (dk_at dksX3_meet_2 11 rfl rfl)
theorem dX3_meet_59 : decode cX3_meet 59 = .ok (.lconst 0, 1) := dk_9 (dk_at dksX3_meet_2 13 rfl rfl)
theorem dX3_meet_60 : decode cX3_meet 60 = .ok (.lcmp, 1) := dk_148 (dk_at dksX3_meet_2 14 rfl rfl)
theorem dX3_meet_61 : decode cX3_meet 61 = .ok (.ifCond .ge 25, 3) := dk_156 0 25 (dk_at dksX3_meet_2 15 rfl rfl)
theorem dX3_meet_64 : decode cX3_meet 64 = .ok (.lload 6, 2) := dk_22 6 (dk_at dksX3_meet_2 18 rfl rfl)
theorem dX3_meet_66 : decode cX3_meet 66 = .ok (.lconst 0, 1) := dk_9 (dk_at dksX3_meet_2 20 rfl rfl)
theorem dX3_meet_67 : decode cX3_meet 67 = .ok (.lcmp, 1) := dk_148 (dk_at dksX3_meet_2 21 rfl rfl)
theorem dX3_meet_68 : decode cX3_meet 68 = .ok (.ifCond .gt 18, 3) := dk_157 0 18 (dk_at dksX3_meet_3 0 rfl rfl)
theorem dX3_meet_71 : decode cX3_meet 71 = .ok (.lload 6, 2) := dk_22 6 (dk_at dksX3_meet_3 3 rfl rfl)
theorem dX3_meet_73 : decode cX3_meet 73 = .ok (.iload_n 2, 1) := dk_28 (dk_at dksX3_meet_3 5 rfl rfl)
theorem dX3_meet_74 : decode cX3_meet 74 = .ok (.i2l, 1) := dk_133 (dk_at dksX3_meet_3 6 rfl rfl)
theorem dX3_meet_75 : decode cX3_meet 75 = .ok (.lload 4, 2) := dk_22 4 (dk_at dksX3_meet_3 7 rfl rfl)
theorem dX3_meet_77 : decode cX3_meet 77 = .ok (.lmul, 1) := dk_105 (dk_at dksX3_meet_3 9 rfl rfl)
theorem dX3_meet_78 : decode cX3_meet 78 = .ok (.lcmp, 1) := dk_148 (dk_at dksX3_meet_3 10 rfl rfl)
theorem dX3_meet_79 : decode cX3_meet 79 = .ok (.ifCond .lt 7, 3) := dk_155 0 7 (dk_at dksX3_meet_3 11 rfl rfl)
theorem dX3_meet_82 : decode cX3_meet 82 = .ok (.iconst 1, 1) := dk_4 (dk_at dksX3_meet_3 14 rfl rfl)
theorem dX3_meet_83 : decode cX3_meet 83 = .ok (.goto 4, 3) := dk_167 0 4 (dk_at dksX3_meet_3 15 rfl rfl)
theorem dX3_meet_86 : decode cX3_meet 86 = .ok (.iconst 0, 1) := dk_3 (dk_at dksX3_meet_3 18 rfl rfl)
theorem dX3_meet_87 : decode cX3_meet 87 = .ok (.istore 8, 2) := dk_54 8 (dk_at dksX3_meet_3 19 rfl rfl)
theorem dX3_meet_89 : decode cX3_meet 89 = .ok (.iload 8, 2) := dk_21 8 (dk_at dksX3_meet_3 21 rfl rfl)
theorem dX3_meet_91 : decode cX3_meet 91 = .ok (.ifCond .eq 13, 3) := dk_153 0 13 (dk_at dksX3_meet_4 0 rfl rfl)
theorem dX3_meet_94 : decode cX3_meet 94 = .ok (.aload_n 3, 1) := dk_45 (dk_at dksX3_meet_4 3 rfl rfl)
theorem dX3_meet_95 : decode cX3_meet 95 = .ok (.lload 6, 2) := dk_22 6 (dk_at dksX3_meet_4 4 rfl rfl)
theorem dX3_meet_97 : decode cX3_meet 97 = .ok (.lload 4, 2) := dk_22 4 (dk_at dksX3_meet_4 6 rfl rfl)
theorem dX3_meet_99 : decode cX3_meet 99 = .ok (.invokeinterface 82 5, 5) := by decide +kernel
theorem dX3_meet_104 : decode cX3_meet 104 = .ok (.return_, 1) := dk_177 (dk_at dksX3_meet_4 13 rfl rfl)
abbrev cX3_layCenter : ByteArray := prog_12_method_12_code
def yX3_layCenter : MethodName := ⟨RX3, "layCenter", "(I)V"⟩
def dkwX3_layCenter_5 : List UInt8 := [180, 0, 166, 27, 28, 79, 42, 180, 0, 169, 27, 33, 80, 177]
abbrev dktX3_layCenter_5 : List UInt8 := dkwX3_layCenter_5 ++ []
def dkwX3_layCenter_4 : List UInt8 := [21, 5, 61, 22, 6, 66, 42, 180, 0, 105, 21, 5, 4, 96, 182, 0, 155, 54, 5, 167, 255, 158, 42]
abbrev dktX3_layCenter_4 : List UInt8 := dkwX3_layCenter_4 ++ dktX3_layCenter_5
def dkwX3_layCenter_3 : List UInt8 := [180, 0, 117, 21, 5, 46, 133, 33, 42, 180, 0, 88, 180, 0, 117, 28, 46, 133, 184, 0, 162, 153, 0, 9]
abbrev dktX3_layCenter_3 : List UInt8 := dkwX3_layCenter_3 ++ dktX3_layCenter_4
def dkwX3_layCenter_2 : List UInt8 := [180, 0, 117, 21, 5, 46, 133, 182, 0, 159, 55, 6, 28, 2, 159, 0, 33, 22, 6, 42, 180, 0, 88]
abbrev dktX3_layCenter_2 : List UInt8 := dkwX3_layCenter_2 ++ dktX3_layCenter_3
def dkwX3_layCenter_1 : List UInt8 := [180, 0, 88, 180, 0, 112, 21, 5, 46, 42, 180, 0, 88, 180, 0, 114, 21, 5, 46, 133, 42, 180, 0, 88]
abbrev dktX3_layCenter_1 : List UInt8 := dkwX3_layCenter_1 ++ dktX3_layCenter_2
def dkwX3_layCenter_0 : List UInt8 := [2, 61, 9, 66, 42, 180, 0, 105, 3, 182, 0, 155, 54, 5, 21, 5, 155, 0, 99, 42, 27, 42]
abbrev dktX3_layCenter_0 : List UInt8 := dkwX3_layCenter_0 ++ dktX3_layCenter_1
theorem dksX3_layCenter_0 : cX3_layCenter.data.toList.drop 0 = dktX3_layCenter_0 := by decide +kernel
theorem dksX3_layCenter_1 : cX3_layCenter.data.toList.drop 22 = dktX3_layCenter_1 := dk_seg dksX3_layCenter_0 22 rfl rfl
theorem dksX3_layCenter_2 : cX3_layCenter.data.toList.drop 46 = dktX3_layCenter_2 := dk_seg dksX3_layCenter_1 24 rfl rfl
theorem dksX3_layCenter_3 : cX3_layCenter.data.toList.drop 69 = dktX3_layCenter_3 := dk_seg dksX3_layCenter_2 23 rfl rfl
theorem dksX3_layCenter_4 : cX3_layCenter.data.toList.drop 93 = dktX3_layCenter_4 := dk_seg dksX3_layCenter_3 24 rfl rfl
theorem dksX3_layCenter_5 : cX3_layCenter.data.toList.drop 116 = dktX3_layCenter_5 := dk_seg dksX3_layCenter_4 23 rfl rfl
theorem dX3_layCenter_0 : decode cX3_layCenter 0 = .ok (.iconst (-1), 1) := dk_2 (dk_at dksX3_layCenter_0 0 rfl rfl)
theorem dX3_layCenter_1 : decode cX3_layCenter 1 = .ok (.istore_n 2, 1) := dk_61 (dk_at dksX3_layCenter_0 1 rfl rfl)
theorem dX3_layCenter_2 : decode cX3_layCenter 2 = .ok (.lconst 0, 1) := dk_9 (dk_at dksX3_layCenter_0 2 rfl rfl)
theorem dX3_layCenter_3 : decode cX3_layCenter 3 = .ok (.lstore_n 3, 1) := dk_66 (dk_at dksX3_layCenter_0 3 rfl rfl)
theorem dX3_layCenter_4 : decode cX3_layCenter 4 = .ok (.aload_n 0, 1) := dk_42 (dk_at dksX3_layCenter_0 4 rfl rfl)
theorem dX3_layCenter_5 : decode cX3_layCenter 5 = .ok (.getfield 105, 3) := dk_180 0 105 (dk_at dksX3_layCenter_0 5 rfl rfl)
theorem dX3_layCenter_8 : decode cX3_layCenter 8 = .ok (.iconst 0, 1) := dk_3 (dk_at dksX3_layCenter_0 8 rfl rfl)
theorem dX3_layCenter_9 : decode cX3_layCenter 9 = .ok (.invokevirtual 155, 3) := dk_182 0 155 (dk_at dksX3_layCenter_0 9 rfl rfl)
theorem dX3_layCenter_12 : decode cX3_layCenter 12 = .ok (.istore 5, 2) := dk_54 5 (dk_at dksX3_layCenter_0 12 rfl rfl)
theorem dX3_layCenter_14 : decode cX3_layCenter 14 = .ok (.iload 5, 2) := dk_21 5 (dk_at dksX3_layCenter_0 14 rfl rfl)
theorem dX3_layCenter_16 : decode cX3_layCenter 16 = .ok (.ifCond .lt 99, 3) := dk_155 0 99 (dk_at dksX3_layCenter_0 16 rfl rfl)
theorem dX3_layCenter_19 : decode cX3_layCenter 19 = .ok (.aload_n 0, 1) := dk_42 (dk_at dksX3_layCenter_0 19 rfl rfl)
theorem dX3_layCenter_20 : decode cX3_layCenter 20 = .ok (.iload_n 1, 1) := dk_27 (dk_at dksX3_layCenter_0 20 rfl rfl)
theorem dX3_layCenter_21 : decode cX3_layCenter 21 = .ok (.aload_n 0, 1) := dk_42 (dk_at dksX3_layCenter_0 21 rfl rfl)
theorem dX3_layCenter_22 : decode cX3_layCenter 22 = .ok (.getfield 88, 3) := dk_180 0 88 (dk_at dksX3_layCenter_1 0 rfl rfl)
theorem dX3_layCenter_25 : decode cX3_layCenter 25 = .ok (.getfield 112, 3) := dk_180 0 112 (dk_at dksX3_layCenter_1 3 rfl rfl)
theorem dX3_layCenter_28 : decode cX3_layCenter 28 = .ok (.iload 5, 2) := dk_21 5 (dk_at dksX3_layCenter_1 6 rfl rfl)
theorem dX3_layCenter_30 : decode cX3_layCenter 30 = .ok (.iaload, 1) := dk_46 (dk_at dksX3_layCenter_1 8 rfl rfl)
theorem dX3_layCenter_31 : decode cX3_layCenter 31 = .ok (.aload_n 0, 1) := dk_42 (dk_at dksX3_layCenter_1 9 rfl rfl)
theorem dX3_layCenter_32 : decode cX3_layCenter 32 = .ok (.getfield 88, 3) := dk_180 0 88 (dk_at dksX3_layCenter_1 10 rfl rfl)
theorem dX3_layCenter_35 : decode cX3_layCenter 35 = .ok (.getfield 114, 3) := dk_180 0 114 (dk_at dksX3_layCenter_1 13 rfl rfl)
theorem dX3_layCenter_38 : decode cX3_layCenter 38 = .ok (.iload 5, 2) := dk_21 5 (dk_at dksX3_layCenter_1 16 rfl rfl)
theorem dX3_layCenter_40 : decode cX3_layCenter 40 = .ok (.iaload, 1) := dk_46 (dk_at dksX3_layCenter_1 18 rfl rfl)
theorem dX3_layCenter_41 : decode cX3_layCenter 41 = .ok (.i2l, 1) := dk_133 (dk_at dksX3_layCenter_1 19 rfl rfl)
theorem dX3_layCenter_42 : decode cX3_layCenter 42 = .ok (.aload_n 0, 1) := dk_42 (dk_at dksX3_layCenter_1 20 rfl rfl)
theorem dX3_layCenter_43 : decode cX3_layCenter 43 = .ok (.getfield 88, 3) := dk_180 0 88 (dk_at dksX3_layCenter_1 21 rfl rfl)
theorem dX3_layCenter_46 : decode cX3_layCenter 46 = .ok (.getfield 117, 3) := dk_180 0 117 (dk_at dksX3_layCenter_2 0 rfl rfl)
theorem dX3_layCenter_49 : decode cX3_layCenter 49 = .ok (.iload 5, 2) := dk_21 5 (dk_at dksX3_layCenter_2 3 rfl rfl)
theorem dX3_layCenter_51 : decode cX3_layCenter 51 = .ok (.iaload, 1) := dk_46 (dk_at dksX3_layCenter_2 5 rfl rfl)
theorem dX3_layCenter_52 : decode cX3_layCenter 52 = .ok (.i2l, 1) := dk_133 (dk_at dksX3_layCenter_2 6 rfl rfl)
theorem dX3_layCenter_53 : decode cX3_layCenter 53 = .ok (.invokevirtual 159, 3) := dk_182 0 159 (dk_at dksX3_layCenter_2 7 rfl rfl)
theorem dX3_layCenter_56 : decode cX3_layCenter 56 = .ok (.lstore 6, 2) := dk_55 6 (dk_at dksX3_layCenter_2 10 rfl rfl)
theorem dX3_layCenter_58 : decode cX3_layCenter 58 = .ok (.iload_n 2, 1) := dk_28 (dk_at dksX3_layCenter_2 12 rfl rfl)
theorem dX3_layCenter_59 : decode cX3_layCenter 59 = .ok (.iconst (-1), 1) := dk_2 (dk_at dksX3_layCenter_2 13 rfl rfl)
theorem dX3_layCenter_60 : decode cX3_layCenter 60 = .ok (.if_icmp .eq 33, 3) := dk_159 0 33 (dk_at dksX3_layCenter_2 14 rfl rfl)
theorem dX3_layCenter_63 : decode cX3_layCenter 63 = .ok (.lload 6, 2) := dk_22 6 (dk_at dksX3_layCenter_2 17 rfl rfl)
theorem dX3_layCenter_65 : decode cX3_layCenter 65 = .ok (.aload_n 0, 1) := dk_42 (dk_at dksX3_layCenter_2 19 rfl rfl)
theorem dX3_layCenter_66 : decode cX3_layCenter 66 = .ok (.getfield 88, 3) := dk_180 0 88 (dk_at dksX3_layCenter_2 20 rfl rfl)
theorem dX3_layCenter_69 : decode cX3_layCenter 69 = .ok (.getfield 117, 3) := dk_180 0 117 (dk_at dksX3_layCenter_3 0 rfl rfl)
theorem dX3_layCenter_72 : decode cX3_layCenter 72 = .ok (.iload 5, 2) := dk_21 5 (dk_at dksX3_layCenter_3 3 rfl rfl)
theorem dX3_layCenter_74 : decode cX3_layCenter 74 = .ok (.iaload, 1) := dk_46 (dk_at dksX3_layCenter_3 5 rfl rfl)
theorem dX3_layCenter_75 : decode cX3_layCenter 75 = .ok (.i2l, 1) := dk_133 (dk_at dksX3_layCenter_3 6 rfl rfl)
theorem dX3_layCenter_76 : decode cX3_layCenter 76 = .ok (.lload_n 3, 1) := dk_33 (dk_at dksX3_layCenter_3 7 rfl rfl)
theorem dX3_layCenter_77 : decode cX3_layCenter 77 = .ok (.aload_n 0, 1) := dk_42 (dk_at dksX3_layCenter_3 8 rfl rfl)
theorem dX3_layCenter_78 : decode cX3_layCenter 78 = .ok (.getfield 88, 3) := dk_180 0 88 (dk_at dksX3_layCenter_3 9 rfl rfl)
theorem dX3_layCenter_81 : decode cX3_layCenter 81 = .ok (.getfield 117, 3) := dk_180 0 117 (dk_at dksX3_layCenter_3 12 rfl rfl)
theorem dX3_layCenter_84 : decode cX3_layCenter 84 = .ok (.iload_n 2, 1) := dk_28 (dk_at dksX3_layCenter_3 15 rfl rfl)
theorem dX3_layCenter_85 : decode cX3_layCenter 85 = .ok (.iaload, 1) := dk_46 (dk_at dksX3_layCenter_3 16 rfl rfl)
theorem dX3_layCenter_86 : decode cX3_layCenter 86 = .ok (.i2l, 1) := dk_133 (dk_at dksX3_layCenter_3 17 rfl rfl)
theorem dX3_layCenter_87 : decode cX3_layCenter 87 = .ok (.invokestatic 162, 3) := dk_184 0 162 (dk_at dksX3_layCenter_3 18 rfl rfl)
theorem dX3_layCenter_90 : decode cX3_layCenter 90 = .ok (.ifCond .eq 9, 3) := dk_153 0 9 (dk_at dksX3_layCenter_3 21 rfl rfl)
theorem dX3_layCenter_93 : decode cX3_layCenter 93 = .ok (.iload 5, 2) := dk_21 5 (dk_at dksX3_layCenter_4 0 rfl rfl)
theorem dX3_layCenter_95 : decode cX3_layCenter 95 = .ok (.istore_n 2, 1) := dk_61 (dk_at dksX3_layCenter_4 2 rfl rfl)
theorem dX3_layCenter_96 : decode cX3_layCenter 96 = .ok (.lload 6, 2) := dk_22 6 (dk_at dksX3_layCenter_4 3 rfl rfl)
theorem dX3_layCenter_98 : decode cX3_layCenter 98 = .ok (.lstore_n 3, 1) := dk_66 (dk_at dksX3_layCenter_4 5 rfl rfl)
theorem dX3_layCenter_99 : decode cX3_layCenter 99 = .ok (.aload_n 0, 1) := dk_42 (dk_at dksX3_layCenter_4 6 rfl rfl)
theorem dX3_layCenter_100 : decode cX3_layCenter 100 = .ok (.getfield 105, 3) := dk_180 0 105 (dk_at dksX3_layCenter_4 7 rfl rfl)
theorem dX3_layCenter_103 : decode cX3_layCenter 103 = .ok (.iload 5, 2) := dk_21 5 (dk_at dksX3_layCenter_4 10 rfl rfl)
theorem dX3_layCenter_105 : decode cX3_layCenter 105 = .ok (.iconst 1, 1) := dk_4 (dk_at dksX3_layCenter_4 12 rfl rfl)
theorem dX3_layCenter_106 : decode cX3_layCenter 106 = .ok (.iadd, 1) := dk_96 (dk_at dksX3_layCenter_4 13 rfl rfl)
theorem dX3_layCenter_107 : decode cX3_layCenter 107 = .ok (.invokevirtual 155, 3) := dk_182 0 155 (dk_at dksX3_layCenter_4 14 rfl rfl)
theorem dX3_layCenter_110 : decode cX3_layCenter 110 = .ok (.istore 5, 2) := dk_54 5 (dk_at dksX3_layCenter_4 17 rfl rfl)
theorem dX3_layCenter_112 : decode cX3_layCenter 112 = .ok (.goto (-98), 3) := dk_167 255 158 (dk_at dksX3_layCenter_4 19 rfl rfl)
theorem dX3_layCenter_115 : decode cX3_layCenter 115 = .ok (.aload_n 0, 1) := dk_42 (dk_at dksX3_layCenter_4 22 rfl rfl)
theorem dX3_layCenter_116 : decode cX3_layCenter 116 = .ok (.getfield 166, 3) := dk_180 0 166 (dk_at dksX3_layCenter_5 0 rfl rfl)
theorem dX3_layCenter_119 : decode cX3_layCenter 119 = .ok (.iload_n 1, 1) := dk_27 (dk_at dksX3_layCenter_5 3 rfl rfl)
theorem dX3_layCenter_120 : decode cX3_layCenter 120 = .ok (.iload_n 2, 1) := dk_28 (dk_at dksX3_layCenter_5 4 rfl rfl)
theorem dX3_layCenter_121 : decode cX3_layCenter 121 = .ok (.iastore, 1) := dk_79 (dk_at dksX3_layCenter_5 5 rfl rfl)
theorem dX3_layCenter_122 : decode cX3_layCenter 122 = .ok (.aload_n 0, 1) := dk_42 (dk_at dksX3_layCenter_5 6 rfl rfl)
theorem dX3_layCenter_123 : decode cX3_layCenter 123 = .ok (.getfield 169, 3) := dk_180 0 169 (dk_at dksX3_layCenter_5 7 rfl rfl)
theorem dX3_layCenter_126 : decode cX3_layCenter 126 = .ok (.iload_n 1, 1) := dk_27 (dk_at dksX3_layCenter_5 10 rfl rfl)
theorem dX3_layCenter_127 : decode cX3_layCenter 127 = .ok (.lload_n 3, 1) := dk_33 (dk_at dksX3_layCenter_5 11 rfl rfl)
theorem dX3_layCenter_128 : decode cX3_layCenter 128 = .ok (.lastore, 1) := dk_80 (dk_at dksX3_layCenter_5 12 rfl rfl)
theorem dX3_layCenter_129 : decode cX3_layCenter 129 = .ok (.return_, 1) := dk_177 (dk_at dksX3_layCenter_5 13 rfl rfl)
abbrev cX3_height : ByteArray := prog_12_method_6_code
def yX3_height : MethodName := ⟨RX3, "height", "(IIJJ)J"⟩
def dkwX3_height_2 : List UInt8 := [184, 0, 72, 167, 0, 5, 22, 7, 55, 7, 132, 9, 1, 167, 255, 201, 22, 7, 173]
abbrev dktX3_height_2 : List UInt8 := dkwX3_height_2 ++ []
def dkwX3_height_1 : List UInt8 := [22, 7, 42, 180, 0, 9, 180, 0, 65, 21, 9, 46, 133, 42, 21, 9, 28, 33, 22, 5, 182, 0, 68, 105]
abbrev dktX3_height_1 : List UInt8 := dkwX3_height_1 ++ dktX3_height_2
def dkwX3_height_0 : List UInt8 := [9, 55, 7, 3, 54, 9, 21, 9, 42, 180, 0, 21, 162, 0, 52, 27, 21, 9, 184, 0, 61, 153, 0, 33]
abbrev dktX3_height_0 : List UInt8 := dkwX3_height_0 ++ dktX3_height_1
theorem dksX3_height_0 : cX3_height.data.toList.drop 0 = dktX3_height_0 := by decide +kernel
theorem dksX3_height_1 : cX3_height.data.toList.drop 24 = dktX3_height_1 := dk_seg dksX3_height_0 24 rfl rfl
theorem dksX3_height_2 : cX3_height.data.toList.drop 48 = dktX3_height_2 := dk_seg dksX3_height_1 24 rfl rfl
theorem dX3_height_0 : decode cX3_height 0 = .ok (.lconst 0, 1) := dk_9 (dk_at dksX3_height_0 0 rfl rfl)
theorem dX3_height_1 : decode cX3_height 1 = .ok (.lstore 7, 2) := dk_55 7 (dk_at dksX3_height_0 1 rfl rfl)
theorem dX3_height_3 : decode cX3_height 3 = .ok (.iconst 0, 1) := dk_3 (dk_at dksX3_height_0 3 rfl rfl)
theorem dX3_height_4 : decode cX3_height 4 = .ok (.istore 9, 2) := dk_54 9 (dk_at dksX3_height_0 4 rfl rfl)
theorem dX3_height_6 : decode cX3_height 6 = .ok (.iload 9, 2) := dk_21 9 (dk_at dksX3_height_0 6 rfl rfl)
theorem dX3_height_8 : decode cX3_height 8 = .ok (.aload_n 0, 1) := dk_42 (dk_at dksX3_height_0 8 rfl rfl)
theorem dX3_height_9 : decode cX3_height 9 = .ok (.getfield 21, 3) := dk_180 0 21 (dk_at dksX3_height_0 9 rfl rfl)
theorem dX3_height_12 : decode cX3_height 12 = .ok (.if_icmp .ge 52, 3) := dk_162 0 52 (dk_at dksX3_height_0 12 rfl rfl)
theorem dX3_height_15 : decode cX3_height 15 = .ok (.iload_n 1, 1) := dk_27 (dk_at dksX3_height_0 15 rfl rfl)
theorem dX3_height_16 : decode cX3_height 16 = .ok (.iload 9, 2) := dk_21 9 (dk_at dksX3_height_0 16 rfl rfl)
theorem dX3_height_18 : decode cX3_height 18 = .ok (.invokestatic 61, 3) := dk_184 0 61 (dk_at dksX3_height_0 18 rfl rfl)
theorem dX3_height_21 : decode cX3_height 21 = .ok (.ifCond .eq 33, 3) := dk_153 0 33 (dk_at dksX3_height_0 21 rfl rfl)
theorem dX3_height_24 : decode cX3_height 24 = .ok (.lload 7, 2) := dk_22 7 (dk_at dksX3_height_1 0 rfl rfl)
theorem dX3_height_26 : decode cX3_height 26 = .ok (.aload_n 0, 1) := dk_42 (dk_at dksX3_height_1 2 rfl rfl)
theorem dX3_height_27 : decode cX3_height 27 = .ok (.getfield 9, 3) := dk_180 0 9 (dk_at dksX3_height_1 3 rfl rfl)
theorem dX3_height_30 : decode cX3_height 30 = .ok (.getfield 65, 3) := dk_180 0 65 (dk_at dksX3_height_1 6 rfl rfl)
theorem dX3_height_33 : decode cX3_height 33 = .ok (.iload 9, 2) := dk_21 9 (dk_at dksX3_height_1 9 rfl rfl)
theorem dX3_height_35 : decode cX3_height 35 = .ok (.iaload, 1) := dk_46 (dk_at dksX3_height_1 11 rfl rfl)
theorem dX3_height_36 : decode cX3_height 36 = .ok (.i2l, 1) := dk_133 (dk_at dksX3_height_1 12 rfl rfl)
theorem dX3_height_37 : decode cX3_height 37 = .ok (.aload_n 0, 1) := dk_42 (dk_at dksX3_height_1 13 rfl rfl)
theorem dX3_height_38 : decode cX3_height 38 = .ok (.iload 9, 2) := dk_21 9 (dk_at dksX3_height_1 14 rfl rfl)
theorem dX3_height_40 : decode cX3_height 40 = .ok (.iload_n 2, 1) := dk_28 (dk_at dksX3_height_1 16 rfl rfl)
theorem dX3_height_41 : decode cX3_height 41 = .ok (.lload_n 3, 1) := dk_33 (dk_at dksX3_height_1 17 rfl rfl)
theorem dX3_height_42 : decode cX3_height 42 = .ok (.lload 5, 2) := dk_22 5 (dk_at dksX3_height_1 18 rfl rfl)
theorem dX3_height_44 : decode cX3_height 44 = .ok (.invokevirtual 68, 3) := dk_182 0 68 (dk_at dksX3_height_1 20 rfl rfl)
theorem dX3_height_47 : decode cX3_height 47 = .ok (.lmul, 1) := dk_105 (dk_at dksX3_height_1 23 rfl rfl)
theorem dX3_height_48 : decode cX3_height 48 = .ok (.invokestatic 72, 3) := dk_184 0 72 (dk_at dksX3_height_2 0 rfl rfl)
theorem dX3_height_51 : decode cX3_height 51 = .ok (.goto 5, 3) := dk_167 0 5 (dk_at dksX3_height_2 3 rfl rfl)
theorem dX3_height_54 : decode cX3_height 54 = .ok (.lload 7, 2) := dk_22 7 (dk_at dksX3_height_2 6 rfl rfl)
theorem dX3_height_56 : decode cX3_height 56 = .ok (.lstore 7, 2) := dk_55 7 (dk_at dksX3_height_2 8 rfl rfl)
theorem dX3_height_58 : decode cX3_height 58 = .ok (.iinc 9 1, 3) := dk_132 9 1 (dk_at dksX3_height_2 10 rfl rfl)
theorem dX3_height_61 : decode cX3_height 61 = .ok (.goto (-55), 3) := dk_167 255 201 (dk_at dksX3_height_2 13 rfl rfl)
theorem dX3_height_64 : decode cX3_height 64 = .ok (.lload 7, 2) := dk_22 7 (dk_at dksX3_height_2 16 rfl rfl)
theorem dX3_height_66 : decode cX3_height 66 = .ok (.lreturn, 1) := dk_173 (dk_at dksX3_height_2 18 rfl rfl)
abbrev cX3_distanceTo : ByteArray := prog_12_method_5_code
def yX3_distanceTo : MethodName := ⟨RX3, "distanceTo", "(IIJJ)J"⟩
def dkwX3_distanceTo_2 : List UInt8 := [101, 184, 0, 58, 173]
abbrev dktX3_distanceTo_2 : List UInt8 := dkwX3_distanceTo_2 ++ []
def dkwX3_distanceTo_1 : List UInt8 := [105, 33, 97, 42, 27, 25, 7, 180, 0, 39, 182, 0, 45, 25, 7, 180, 0, 42, 96, 133, 22, 5, 105, 33]
abbrev dktX3_distanceTo_1 : List UInt8 := dkwX3_distanceTo_1 ++ dktX3_distanceTo_2
def dkwX3_distanceTo_0 : List UInt8 := [42, 180, 0, 9, 180, 0, 30, 28, 50, 58, 7, 42, 27, 25, 7, 180, 0, 34, 182, 0, 45, 133, 22, 5]
abbrev dktX3_distanceTo_0 : List UInt8 := dkwX3_distanceTo_0 ++ dktX3_distanceTo_1
theorem dksX3_distanceTo_0 : cX3_distanceTo.data.toList.drop 0 = dktX3_distanceTo_0 := by decide +kernel
theorem dksX3_distanceTo_1 : cX3_distanceTo.data.toList.drop 24 = dktX3_distanceTo_1 := dk_seg dksX3_distanceTo_0 24 rfl rfl
theorem dksX3_distanceTo_2 : cX3_distanceTo.data.toList.drop 48 = dktX3_distanceTo_2 := dk_seg dksX3_distanceTo_1 24 rfl rfl
theorem dX3_distanceTo_0 : decode cX3_distanceTo 0 = .ok (.aload_n 0, 1) := dk_42 (dk_at dksX3_distanceTo_0 0 rfl rfl)
theorem dX3_distanceTo_1 : decode cX3_distanceTo 1 = .ok (.getfield 9, 3) := dk_180 0 9 (dk_at dksX3_distanceTo_0 1 rfl rfl)
theorem dX3_distanceTo_4 : decode cX3_distanceTo 4 = .ok (.getfield 30, 3) := dk_180 0 30 (dk_at dksX3_distanceTo_0 4 rfl rfl)
theorem dX3_distanceTo_7 : decode cX3_distanceTo 7 = .ok (.iload_n 2, 1) := dk_28 (dk_at dksX3_distanceTo_0 7 rfl rfl)
theorem dX3_distanceTo_8 : decode cX3_distanceTo 8 = .ok (.aaload, 1) := dk_50 (dk_at dksX3_distanceTo_0 8 rfl rfl)
theorem dX3_distanceTo_9 : decode cX3_distanceTo 9 = .ok (.astore 7, 2) := dk_58 7 (dk_at dksX3_distanceTo_0 9 rfl rfl)
theorem dX3_distanceTo_11 : decode cX3_distanceTo 11 = .ok (.aload_n 0, 1) := dk_42 (dk_at dksX3_distanceTo_0 11 rfl rfl)
theorem dX3_distanceTo_12 : decode cX3_distanceTo 12 = .ok (.iload_n 1, 1) := dk_27 (dk_at dksX3_distanceTo_0 12 rfl rfl)
theorem dX3_distanceTo_13 : decode cX3_distanceTo 13 = .ok (.aload 7, 2) := dk_25 7 (dk_at dksX3_distanceTo_0 13 rfl rfl)
theorem dX3_distanceTo_15 : decode cX3_distanceTo 15 = .ok (.getfield 34, 3) := dk_180 0 34 (dk_at dksX3_distanceTo_0 15 rfl rfl)
theorem dX3_distanceTo_18 : decode cX3_distanceTo 18 = .ok (.invokevirtual 45, 3) := dk_182 0 45 (dk_at dksX3_distanceTo_0 18 rfl rfl)
theorem dX3_distanceTo_21 : decode cX3_distanceTo 21 = .ok (.i2l, 1) := dk_133 (dk_at dksX3_distanceTo_0 21 rfl rfl)
theorem dX3_distanceTo_22 : decode cX3_distanceTo 22 = .ok (.lload 5, 2) := dk_22 5 (dk_at dksX3_distanceTo_0 22 rfl rfl)
theorem dX3_distanceTo_24 : decode cX3_distanceTo 24 = .ok (.lmul, 1) := dk_105 (dk_at dksX3_distanceTo_1 0 rfl rfl)
theorem dX3_distanceTo_25 : decode cX3_distanceTo 25 = .ok (.lload_n 3, 1) := dk_33 (dk_at dksX3_distanceTo_1 1 rfl rfl)
theorem dX3_distanceTo_26 : decode cX3_distanceTo 26 = .ok (.ladd, 1) := dk_97 (dk_at dksX3_distanceTo_1 2 rfl rfl)
theorem dX3_distanceTo_27 : decode cX3_distanceTo 27 = .ok (.aload_n 0, 1) := dk_42 (dk_at dksX3_distanceTo_1 3 rfl rfl)
theorem dX3_distanceTo_28 : decode cX3_distanceTo 28 = .ok (.iload_n 1, 1) := dk_27 (dk_at dksX3_distanceTo_1 4 rfl rfl)
theorem dX3_distanceTo_29 : decode cX3_distanceTo 29 = .ok (.aload 7, 2) := dk_25 7 (dk_at dksX3_distanceTo_1 5 rfl rfl)
theorem dX3_distanceTo_31 : decode cX3_distanceTo 31 = .ok (.getfield 39, 3) := dk_180 0 39 (dk_at dksX3_distanceTo_1 7 rfl rfl)
theorem dX3_distanceTo_34 : decode cX3_distanceTo 34 = .ok (.invokevirtual 45, 3) := dk_182 0 45 (dk_at dksX3_distanceTo_1 10 rfl rfl)
theorem dX3_distanceTo_37 : decode cX3_distanceTo 37 = .ok (.aload 7, 2) := dk_25 7 (dk_at dksX3_distanceTo_1 13 rfl rfl)
theorem dX3_distanceTo_39 : decode cX3_distanceTo 39 = .ok (.getfield 42, 3) := dk_180 0 42 (dk_at dksX3_distanceTo_1 15 rfl rfl)
theorem dX3_distanceTo_42 : decode cX3_distanceTo 42 = .ok (.iadd, 1) := dk_96 (dk_at dksX3_distanceTo_1 18 rfl rfl)
theorem dX3_distanceTo_43 : decode cX3_distanceTo 43 = .ok (.i2l, 1) := dk_133 (dk_at dksX3_distanceTo_1 19 rfl rfl)
theorem dX3_distanceTo_44 : decode cX3_distanceTo 44 = .ok (.lload 5, 2) := dk_22 5 (dk_at dksX3_distanceTo_1 20 rfl rfl)
theorem dX3_distanceTo_46 : decode cX3_distanceTo 46 = .ok (.lmul, 1) := dk_105 (dk_at dksX3_distanceTo_1 22 rfl rfl)
theorem dX3_distanceTo_47 : decode cX3_distanceTo 47 = .ok (.lload_n 3, 1) := dk_33 (dk_at dksX3_distanceTo_1 23 rfl rfl)
theorem dX3_distanceTo_48 : decode cX3_distanceTo 48 = .ok (.lsub, 1) := dk_101 (dk_at dksX3_distanceTo_2 0 rfl rfl)
theorem dX3_distanceTo_49 : decode cX3_distanceTo 49 = .ok (.invokestatic 58, 3) := dk_184 0 58 (dk_at dksX3_distanceTo_2 1 rfl rfl)
theorem dX3_distanceTo_52 : decode cX3_distanceTo 52 = .ok (.lreturn, 1) := dk_173 (dk_at dksX3_distanceTo_2 4 rfl rfl)
abbrev cX3_isLess : ByteArray := prog_12_method_11_code
def yX3_isLess : MethodName := ⟨RX3, "isLess", "(JJJJ)Z"⟩
def dkwX3_isLess_0 : List UInt8 := [30, 22, 6, 105, 22, 4, 32, 105, 148, 156, 0, 7, 4, 167, 0, 4, 3, 172]
abbrev dktX3_isLess_0 : List UInt8 := dkwX3_isLess_0 ++ []
theorem dksX3_isLess_0 : cX3_isLess.data.toList.drop 0 = dktX3_isLess_0 := by decide +kernel
theorem dX3_isLess_0 : decode cX3_isLess 0 = .ok (.lload_n 0, 1) := dk_30 (dk_at dksX3_isLess_0 0 rfl rfl)
theorem dX3_isLess_1 : decode cX3_isLess 1 = .ok (.lload 6, 2) := dk_22 6 (dk_at dksX3_isLess_0 1 rfl rfl)
theorem dX3_isLess_3 : decode cX3_isLess 3 = .ok (.lmul, 1) := dk_105 (dk_at dksX3_isLess_0 3 rfl rfl)
theorem dX3_isLess_4 : decode cX3_isLess 4 = .ok (.lload 4, 2) := dk_22 4 (dk_at dksX3_isLess_0 4 rfl rfl)
theorem dX3_isLess_6 : decode cX3_isLess 6 = .ok (.lload_n 2, 1) := dk_32 (dk_at dksX3_isLess_0 6 rfl rfl)
theorem dX3_isLess_7 : decode cX3_isLess 7 = .ok (.lmul, 1) := dk_105 (dk_at dksX3_isLess_0 7 rfl rfl)
theorem dX3_isLess_8 : decode cX3_isLess 8 = .ok (.lcmp, 1) := dk_148 (dk_at dksX3_isLess_0 8 rfl rfl)
theorem dX3_isLess_9 : decode cX3_isLess 9 = .ok (.ifCond .ge 7, 3) := dk_156 0 7 (dk_at dksX3_isLess_0 9 rfl rfl)
theorem dX3_isLess_12 : decode cX3_isLess 12 = .ok (.iconst 1, 1) := dk_4 (dk_at dksX3_isLess_0 12 rfl rfl)
theorem dX3_isLess_13 : decode cX3_isLess 13 = .ok (.goto 4, 3) := dk_167 0 4 (dk_at dksX3_isLess_0 13 rfl rfl)
theorem dX3_isLess_16 : decode cX3_isLess 16 = .ok (.iconst 0, 1) := dk_3 (dk_at dksX3_isLess_0 16 rfl rfl)
theorem dX3_isLess_17 : decode cX3_isLess 17 = .ok (.ireturn, 1) := dk_172 (dk_at dksX3_isLess_0 17 rfl rfl)
abbrev cX3_below : ByteArray := prog_12_method_16_code
def yX3_below : MethodName := ⟨RX3, "below", "(I)J"⟩
def dkwX3_below_0 : List UInt8 := [42, 180, 0, 88, 180, 0, 117, 42, 27, 182, 0, 182, 46, 133, 173]
abbrev dktX3_below_0 : List UInt8 := dkwX3_below_0 ++ []
theorem dksX3_below_0 : cX3_below.data.toList.drop 0 = dktX3_below_0 := by decide +kernel
theorem dX3_below_0 : decode cX3_below 0 = .ok (.aload_n 0, 1) := dk_42 (dk_at dksX3_below_0 0 rfl rfl)
theorem dX3_below_1 : decode cX3_below 1 = .ok (.getfield 88, 3) := dk_180 0 88 (dk_at dksX3_below_0 1 rfl rfl)
theorem dX3_below_4 : decode cX3_below 4 = .ok (.getfield 117, 3) := dk_180 0 117 (dk_at dksX3_below_0 4 rfl rfl)
theorem dX3_below_7 : decode cX3_below 7 = .ok (.aload_n 0, 1) := dk_42 (dk_at dksX3_below_0 7 rfl rfl)
theorem dX3_below_8 : decode cX3_below 8 = .ok (.iload_n 1, 1) := dk_27 (dk_at dksX3_below_0 8 rfl rfl)
theorem dX3_below_9 : decode cX3_below 9 = .ok (.invokevirtual 182, 3) := dk_182 0 182 (dk_at dksX3_below_0 9 rfl rfl)
theorem dX3_below_12 : decode cX3_below 12 = .ok (.iaload, 1) := dk_46 (dk_at dksX3_below_0 12 rfl rfl)
theorem dX3_below_13 : decode cX3_below 13 = .ok (.i2l, 1) := dk_133 (dk_at dksX3_below_0 13 rfl rfl)
theorem dX3_below_14 : decode cX3_below 14 = .ok (.lreturn, 1) := dk_173 (dk_at dksX3_below_0 14 rfl rfl)
abbrev cX3_critical : ByteArray := prog_12_method_19_code
def yX3_critical : MethodName := ⟨RX3, "critical", "(I)I"⟩
def dkwX3_critical_4 : List UInt8 := [21, 5, 153, 0, 10, 4, 21, 4, 120, 167, 0, 4, 3, 128, 62, 132, 4, 1, 167, 255, 155, 29, 172]
abbrev dktX3_critical_4 : List UInt8 := dkwX3_critical_4 ++ []
def dkwX3_critical_3 : List UInt8 := [133, 182, 0, 68, 105, 42, 180, 0, 169, 27, 47, 148, 154, 0, 7, 4, 167, 0, 4, 3, 54, 5, 29]
abbrev dktX3_critical_3 : List UInt8 := dkwX3_critical_3 ++ dktX3_critical_4
def dkwX3_critical_2 : List UInt8 := [180, 0, 112, 28, 46, 42, 180, 0, 88, 180, 0, 114, 28, 46, 133, 42, 180, 0, 88, 180, 0, 117, 28, 46]
abbrev dktX3_critical_2 : List UInt8 := dkwX3_critical_2 ++ dktX3_critical_3
def dkwX3_critical_1 : List UInt8 := [184, 0, 61, 153, 0, 64, 42, 180, 0, 9, 180, 0, 65, 21, 4, 46, 133, 42, 21, 4, 42, 180, 0, 88]
abbrev dktX3_critical_1 : List UInt8 := dkwX3_critical_1 ++ dktX3_critical_2
def dkwX3_critical_0 : List UInt8 := [42, 27, 182, 0, 182, 61, 3, 62, 3, 54, 4, 21, 4, 42, 180, 0, 21, 162, 0, 98, 27, 21, 4]
abbrev dktX3_critical_0 : List UInt8 := dkwX3_critical_0 ++ dktX3_critical_1
theorem dksX3_critical_0 : cX3_critical.data.toList.drop 0 = dktX3_critical_0 := by decide +kernel
theorem dksX3_critical_1 : cX3_critical.data.toList.drop 23 = dktX3_critical_1 := dk_seg dksX3_critical_0 23 rfl rfl
theorem dksX3_critical_2 : cX3_critical.data.toList.drop 47 = dktX3_critical_2 := dk_seg dksX3_critical_1 24 rfl rfl
theorem dksX3_critical_3 : cX3_critical.data.toList.drop 71 = dktX3_critical_3 := dk_seg dksX3_critical_2 24 rfl rfl
theorem dksX3_critical_4 : cX3_critical.data.toList.drop 94 = dktX3_critical_4 := dk_seg dksX3_critical_3 23 rfl rfl
theorem dX3_critical_0 : decode cX3_critical 0 = .ok (.aload_n 0, 1) := dk_42 (dk_at dksX3_critical_0 0 rfl rfl)
theorem dX3_critical_1 : decode cX3_critical 1 = .ok (.iload_n 1, 1) := dk_27 (dk_at dksX3_critical_0 1 rfl rfl)
theorem dX3_critical_2 : decode cX3_critical 2 = .ok (.invokevirtual 182, 3) := dk_182 0 182 (dk_at dksX3_critical_0 2 rfl rfl)
theorem dX3_critical_5 : decode cX3_critical 5 = .ok (.istore_n 2, 1) := dk_61 (dk_at dksX3_critical_0 5 rfl rfl)
theorem dX3_critical_6 : decode cX3_critical 6 = .ok (.iconst 0, 1) := dk_3 (dk_at dksX3_critical_0 6 rfl rfl)
theorem dX3_critical_7 : decode cX3_critical 7 = .ok (.istore_n 3, 1) := dk_62 (dk_at dksX3_critical_0 7 rfl rfl)
theorem dX3_critical_8 : decode cX3_critical 8 = .ok (.iconst 0, 1) := dk_3 (dk_at dksX3_critical_0 8 rfl rfl)
theorem dX3_critical_9 : decode cX3_critical 9 = .ok (.istore 4, 2) := dk_54 4 (dk_at dksX3_critical_0 9 rfl rfl)
theorem dX3_critical_11 : decode cX3_critical 11 = .ok (.iload 4, 2) := dk_21 4 (dk_at dksX3_critical_0 11 rfl rfl)
theorem dX3_critical_13 : decode cX3_critical 13 = .ok (.aload_n 0, 1) := dk_42 (dk_at dksX3_critical_0 13 rfl rfl)
theorem dX3_critical_14 : decode cX3_critical 14 = .ok (.getfield 21, 3) := dk_180 0 21 (dk_at dksX3_critical_0 14 rfl rfl)
theorem dX3_critical_17 : decode cX3_critical 17 = .ok (.if_icmp .ge 98, 3) := dk_162 0 98 (dk_at dksX3_critical_0 17 rfl rfl)
theorem dX3_critical_20 : decode cX3_critical 20 = .ok (.iload_n 1, 1) := dk_27 (dk_at dksX3_critical_0 20 rfl rfl)
theorem dX3_critical_21 : decode cX3_critical 21 = .ok (.iload 4, 2) := dk_21 4 (dk_at dksX3_critical_0 21 rfl rfl)
theorem dX3_critical_23 : decode cX3_critical 23 = .ok (.invokestatic 61, 3) := dk_184 0 61 (dk_at dksX3_critical_1 0 rfl rfl)
theorem dX3_critical_26 : decode cX3_critical 26 = .ok (.ifCond .eq 64, 3) := dk_153 0 64 (dk_at dksX3_critical_1 3 rfl rfl)
theorem dX3_critical_29 : decode cX3_critical 29 = .ok (.aload_n 0, 1) := dk_42 (dk_at dksX3_critical_1 6 rfl rfl)
theorem dX3_critical_30 : decode cX3_critical 30 = .ok (.getfield 9, 3) := dk_180 0 9 (dk_at dksX3_critical_1 7 rfl rfl)
theorem dX3_critical_33 : decode cX3_critical 33 = .ok (.getfield 65, 3) := dk_180 0 65 (dk_at dksX3_critical_1 10 rfl rfl)
theorem dX3_critical_36 : decode cX3_critical 36 = .ok (.iload 4, 2) := dk_21 4 (dk_at dksX3_critical_1 13 rfl rfl)
theorem dX3_critical_38 : decode cX3_critical 38 = .ok (.iaload, 1) := dk_46 (dk_at dksX3_critical_1 15 rfl rfl)
theorem dX3_critical_39 : decode cX3_critical 39 = .ok (.i2l, 1) := dk_133 (dk_at dksX3_critical_1 16 rfl rfl)
theorem dX3_critical_40 : decode cX3_critical 40 = .ok (.aload_n 0, 1) := dk_42 (dk_at dksX3_critical_1 17 rfl rfl)
theorem dX3_critical_41 : decode cX3_critical 41 = .ok (.iload 4, 2) := dk_21 4 (dk_at dksX3_critical_1 18 rfl rfl)
theorem dX3_critical_43 : decode cX3_critical 43 = .ok (.aload_n 0, 1) := dk_42 (dk_at dksX3_critical_1 20 rfl rfl)
theorem dX3_critical_44 : decode cX3_critical 44 = .ok (.getfield 88, 3) := dk_180 0 88 (dk_at dksX3_critical_1 21 rfl rfl)
theorem dX3_critical_47 : decode cX3_critical 47 = .ok (.getfield 112, 3) := dk_180 0 112 (dk_at dksX3_critical_2 0 rfl rfl)
theorem dX3_critical_50 : decode cX3_critical 50 = .ok (.iload_n 2, 1) := dk_28 (dk_at dksX3_critical_2 3 rfl rfl)
theorem dX3_critical_51 : decode cX3_critical 51 = .ok (.iaload, 1) := dk_46 (dk_at dksX3_critical_2 4 rfl rfl)
theorem dX3_critical_52 : decode cX3_critical 52 = .ok (.aload_n 0, 1) := dk_42 (dk_at dksX3_critical_2 5 rfl rfl)
theorem dX3_critical_53 : decode cX3_critical 53 = .ok (.getfield 88, 3) := dk_180 0 88 (dk_at dksX3_critical_2 6 rfl rfl)
theorem dX3_critical_56 : decode cX3_critical 56 = .ok (.getfield 114, 3) := dk_180 0 114 (dk_at dksX3_critical_2 9 rfl rfl)
theorem dX3_critical_59 : decode cX3_critical 59 = .ok (.iload_n 2, 1) := dk_28 (dk_at dksX3_critical_2 12 rfl rfl)
theorem dX3_critical_60 : decode cX3_critical 60 = .ok (.iaload, 1) := dk_46 (dk_at dksX3_critical_2 13 rfl rfl)
theorem dX3_critical_61 : decode cX3_critical 61 = .ok (.i2l, 1) := dk_133 (dk_at dksX3_critical_2 14 rfl rfl)
theorem dX3_critical_62 : decode cX3_critical 62 = .ok (.aload_n 0, 1) := dk_42 (dk_at dksX3_critical_2 15 rfl rfl)
theorem dX3_critical_63 : decode cX3_critical 63 = .ok (.getfield 88, 3) := dk_180 0 88 (dk_at dksX3_critical_2 16 rfl rfl)
theorem dX3_critical_66 : decode cX3_critical 66 = .ok (.getfield 117, 3) := dk_180 0 117 (dk_at dksX3_critical_2 19 rfl rfl)
theorem dX3_critical_69 : decode cX3_critical 69 = .ok (.iload_n 2, 1) := dk_28 (dk_at dksX3_critical_2 22 rfl rfl)
theorem dX3_critical_70 : decode cX3_critical 70 = .ok (.iaload, 1) := dk_46 (dk_at dksX3_critical_2 23 rfl rfl)
theorem dX3_critical_71 : decode cX3_critical 71 = .ok (.i2l, 1) := dk_133 (dk_at dksX3_critical_3 0 rfl rfl)
theorem dX3_critical_72 : decode cX3_critical 72 = .ok (.invokevirtual 68, 3) := dk_182 0 68 (dk_at dksX3_critical_3 1 rfl rfl)
theorem dX3_critical_75 : decode cX3_critical 75 = .ok (.lmul, 1) := dk_105 (dk_at dksX3_critical_3 4 rfl rfl)
theorem dX3_critical_76 : decode cX3_critical 76 = .ok (.aload_n 0, 1) := dk_42 (dk_at dksX3_critical_3 5 rfl rfl)
theorem dX3_critical_77 : decode cX3_critical 77 = .ok (.getfield 169, 3) := dk_180 0 169 (dk_at dksX3_critical_3 6 rfl rfl)
theorem dX3_critical_80 : decode cX3_critical 80 = .ok (.iload_n 1, 1) := dk_27 (dk_at dksX3_critical_3 9 rfl rfl)
theorem dX3_critical_81 : decode cX3_critical 81 = .ok (.laload, 1) := dk_47 (dk_at dksX3_critical_3 10 rfl rfl)
theorem dX3_critical_82 : decode cX3_critical 82 = .ok (.lcmp, 1) := dk_148 (dk_at dksX3_critical_3 11 rfl rfl)
theorem dX3_critical_83 : decode cX3_critical 83 = .ok (.ifCond .ne 7, 3) := dk_154 0 7 (dk_at dksX3_critical_3 12 rfl rfl)
theorem dX3_critical_86 : decode cX3_critical 86 = .ok (.iconst 1, 1) := dk_4 (dk_at dksX3_critical_3 15 rfl rfl)
theorem dX3_critical_87 : decode cX3_critical 87 = .ok (.goto 4, 3) := dk_167 0 4 (dk_at dksX3_critical_3 16 rfl rfl)
theorem dX3_critical_90 : decode cX3_critical 90 = .ok (.iconst 0, 1) := dk_3 (dk_at dksX3_critical_3 19 rfl rfl)
theorem dX3_critical_91 : decode cX3_critical 91 = .ok (.istore 5, 2) := dk_54 5 (dk_at dksX3_critical_3 20 rfl rfl)
theorem dX3_critical_93 : decode cX3_critical 93 = .ok (.iload_n 3, 1) := dk_29 (dk_at dksX3_critical_3 22 rfl rfl)
theorem dX3_critical_94 : decode cX3_critical 94 = .ok (.iload 5, 2) := dk_21 5 (dk_at dksX3_critical_4 0 rfl rfl)
theorem dX3_critical_96 : decode cX3_critical 96 = .ok (.ifCond .eq 10, 3) := dk_153 0 10 (dk_at dksX3_critical_4 2 rfl rfl)
theorem dX3_critical_99 : decode cX3_critical 99 = .ok (.iconst 1, 1) := dk_4 (dk_at dksX3_critical_4 5 rfl rfl)
theorem dX3_critical_100 : decode cX3_critical 100 = .ok (.iload 4, 2) := dk_21 4 (dk_at dksX3_critical_4 6 rfl rfl)
theorem dX3_critical_102 : decode cX3_critical 102 = .ok (.ishl, 1) := dk_120 (dk_at dksX3_critical_4 8 rfl rfl)
theorem dX3_critical_103 : decode cX3_critical 103 = .ok (.goto 4, 3) := dk_167 0 4 (dk_at dksX3_critical_4 9 rfl rfl)
theorem dX3_critical_106 : decode cX3_critical 106 = .ok (.iconst 0, 1) := dk_3 (dk_at dksX3_critical_4 12 rfl rfl)
theorem dX3_critical_107 : decode cX3_critical 107 = .ok (.ior, 1) := dk_128 (dk_at dksX3_critical_4 13 rfl rfl)
theorem dX3_critical_108 : decode cX3_critical 108 = .ok (.istore_n 3, 1) := dk_62 (dk_at dksX3_critical_4 14 rfl rfl)
theorem dX3_critical_109 : decode cX3_critical 109 = .ok (.iinc 4 1, 3) := dk_132 4 1 (dk_at dksX3_critical_4 15 rfl rfl)
theorem dX3_critical_112 : decode cX3_critical 112 = .ok (.goto (-101), 3) := dk_167 255 155 (dk_at dksX3_critical_4 18 rfl rfl)
theorem dX3_critical_115 : decode cX3_critical 115 = .ok (.iload_n 3, 1) := dk_29 (dk_at dksX3_critical_4 21 rfl rfl)
theorem dX3_critical_116 : decode cX3_critical 116 = .ok (.ireturn, 1) := dk_172 (dk_at dksX3_critical_4 22 rfl rfl)
abbrev cX3_median : ByteArray := prog_12_method_20_code
def yX3_median : MethodName := ⟨RX3, "median", "()I"⟩
def dkwX3_median_5 : List UInt8 := [167, 255, 159, 27, 172]
abbrev dktX3_median_5 : List UInt8 := dkwX3_median_5 ++ []
def dkwX3_median_4 : List UInt8 := [153, 0, 9, 21, 4, 60, 22, 5, 65, 42, 180, 0, 105, 21, 4, 4, 96, 182, 0, 155, 54, 4]
abbrev dktX3_median_4 : List UInt8 := dkwX3_median_4 ++ dktX3_median_5
def dkwX3_median_3 : List UInt8 := [180, 0, 88, 180, 0, 117, 21, 4, 46, 133, 32, 42, 180, 0, 88, 180, 0, 117, 27, 46, 133, 184, 0, 162]
abbrev dktX3_median_3 : List UInt8 := dkwX3_median_3 ++ dktX3_median_4
def dkwX3_median_2 : List UInt8 := [180, 0, 88, 180, 0, 117, 21, 4, 46, 133, 182, 0, 194, 55, 5, 27, 2, 159, 0, 33, 22, 5, 42]
abbrev dktX3_median_2 : List UInt8 := dkwX3_median_2 ++ dktX3_median_3
def dkwX3_median_1 : List UInt8 := [42, 180, 0, 88, 180, 0, 112, 21, 4, 46, 42, 180, 0, 88, 180, 0, 114, 21, 4, 46, 133, 42]
abbrev dktX3_median_1 : List UInt8 := dkwX3_median_1 ++ dktX3_median_2
def dkwX3_median_0 : List UInt8 := [42, 182, 0, 173, 2, 60, 9, 65, 42, 180, 0, 105, 3, 182, 0, 155, 54, 4, 21, 4, 155, 0, 98, 42]
abbrev dktX3_median_0 : List UInt8 := dkwX3_median_0 ++ dktX3_median_1
theorem dksX3_median_0 : cX3_median.data.toList.drop 0 = dktX3_median_0 := by decide +kernel
theorem dksX3_median_1 : cX3_median.data.toList.drop 24 = dktX3_median_1 := dk_seg dksX3_median_0 24 rfl rfl
theorem dksX3_median_2 : cX3_median.data.toList.drop 46 = dktX3_median_2 := dk_seg dksX3_median_1 22 rfl rfl
theorem dksX3_median_3 : cX3_median.data.toList.drop 69 = dktX3_median_3 := dk_seg dksX3_median_2 23 rfl rfl
theorem dksX3_median_4 : cX3_median.data.toList.drop 93 = dktX3_median_4 := dk_seg dksX3_median_3 24 rfl rfl
theorem dksX3_median_5 : cX3_median.data.toList.drop 115 = dktX3_median_5 := dk_seg dksX3_median_4 22 rfl rfl
theorem dX3_median_0 : decode cX3_median 0 = .ok (.aload_n 0, 1) := dk_42 (dk_at dksX3_median_0 0 rfl rfl)
theorem dX3_median_1 : decode cX3_median 1 = .ok (.invokevirtual 173, 3) := dk_182 0 173 (dk_at dksX3_median_0 1 rfl rfl)
theorem dX3_median_4 : decode cX3_median 4 = .ok (.iconst (-1), 1) := dk_2 (dk_at dksX3_median_0 4 rfl rfl)
theorem dX3_median_5 : decode cX3_median 5 = .ok (.istore_n 1, 1) := dk_60 (dk_at dksX3_median_0 5 rfl rfl)
theorem dX3_median_6 : decode cX3_median 6 = .ok (.lconst 0, 1) := dk_9 (dk_at dksX3_median_0 6 rfl rfl)
theorem dX3_median_7 : decode cX3_median 7 = .ok (.lstore_n 2, 1) := dk_65 (dk_at dksX3_median_0 7 rfl rfl)
theorem dX3_median_8 : decode cX3_median 8 = .ok (.aload_n 0, 1) := dk_42 (dk_at dksX3_median_0 8 rfl rfl)
theorem dX3_median_9 : decode cX3_median 9 = .ok (.getfield 105, 3) := dk_180 0 105 (dk_at dksX3_median_0 9 rfl rfl)
theorem dX3_median_12 : decode cX3_median 12 = .ok (.iconst 0, 1) := dk_3 (dk_at dksX3_median_0 12 rfl rfl)
theorem dX3_median_13 : decode cX3_median 13 = .ok (.invokevirtual 155, 3) := dk_182 0 155 (dk_at dksX3_median_0 13 rfl rfl)
theorem dX3_median_16 : decode cX3_median 16 = .ok (.istore 4, 2) := dk_54 4 (dk_at dksX3_median_0 16 rfl rfl)
theorem dX3_median_18 : decode cX3_median 18 = .ok (.iload 4, 2) := dk_21 4 (dk_at dksX3_median_0 18 rfl rfl)
theorem dX3_median_20 : decode cX3_median 20 = .ok (.ifCond .lt 98, 3) := dk_155 0 98 (dk_at dksX3_median_0 20 rfl rfl)
theorem dX3_median_23 : decode cX3_median 23 = .ok (.aload_n 0, 1) := dk_42 (dk_at dksX3_median_0 23 rfl rfl)
theorem dX3_median_24 : decode cX3_median 24 = .ok (.aload_n 0, 1) := dk_42 (dk_at dksX3_median_1 0 rfl rfl)
theorem dX3_median_25 : decode cX3_median 25 = .ok (.getfield 88, 3) := dk_180 0 88 (dk_at dksX3_median_1 1 rfl rfl)
theorem dX3_median_28 : decode cX3_median 28 = .ok (.getfield 112, 3) := dk_180 0 112 (dk_at dksX3_median_1 4 rfl rfl)
theorem dX3_median_31 : decode cX3_median 31 = .ok (.iload 4, 2) := dk_21 4 (dk_at dksX3_median_1 7 rfl rfl)
theorem dX3_median_33 : decode cX3_median 33 = .ok (.iaload, 1) := dk_46 (dk_at dksX3_median_1 9 rfl rfl)
theorem dX3_median_34 : decode cX3_median 34 = .ok (.aload_n 0, 1) := dk_42 (dk_at dksX3_median_1 10 rfl rfl)
theorem dX3_median_35 : decode cX3_median 35 = .ok (.getfield 88, 3) := dk_180 0 88 (dk_at dksX3_median_1 11 rfl rfl)
theorem dX3_median_38 : decode cX3_median 38 = .ok (.getfield 114, 3) := dk_180 0 114 (dk_at dksX3_median_1 14 rfl rfl)
theorem dX3_median_41 : decode cX3_median 41 = .ok (.iload 4, 2) := dk_21 4 (dk_at dksX3_median_1 17 rfl rfl)
theorem dX3_median_43 : decode cX3_median 43 = .ok (.iaload, 1) := dk_46 (dk_at dksX3_median_1 19 rfl rfl)
theorem dX3_median_44 : decode cX3_median 44 = .ok (.i2l, 1) := dk_133 (dk_at dksX3_median_1 20 rfl rfl)
theorem dX3_median_45 : decode cX3_median 45 = .ok (.aload_n 0, 1) := dk_42 (dk_at dksX3_median_1 21 rfl rfl)
theorem dX3_median_46 : decode cX3_median 46 = .ok (.getfield 88, 3) := dk_180 0 88 (dk_at dksX3_median_2 0 rfl rfl)
theorem dX3_median_49 : decode cX3_median 49 = .ok (.getfield 117, 3) := dk_180 0 117 (dk_at dksX3_median_2 3 rfl rfl)
theorem dX3_median_52 : decode cX3_median 52 = .ok (.iload 4, 2) := dk_21 4 (dk_at dksX3_median_2 6 rfl rfl)
theorem dX3_median_54 : decode cX3_median 54 = .ok (.iaload, 1) := dk_46 (dk_at dksX3_median_2 8 rfl rfl)
theorem dX3_median_55 : decode cX3_median 55 = .ok (.i2l, 1) := dk_133 (dk_at dksX3_median_2 9 rfl rfl)
theorem dX3_median_56 : decode cX3_median 56 = .ok (.invokevirtual 194, 3) := dk_182 0 194 (dk_at dksX3_median_2 10 rfl rfl)
theorem dX3_median_59 : decode cX3_median 59 = .ok (.lstore 5, 2) := dk_55 5 (dk_at dksX3_median_2 13 rfl rfl)
theorem dX3_median_61 : decode cX3_median 61 = .ok (.iload_n 1, 1) := dk_27 (dk_at dksX3_median_2 15 rfl rfl)
theorem dX3_median_62 : decode cX3_median 62 = .ok (.iconst (-1), 1) := dk_2 (dk_at dksX3_median_2 16 rfl rfl)
theorem dX3_median_63 : decode cX3_median 63 = .ok (.if_icmp .eq 33, 3) := dk_159 0 33 (dk_at dksX3_median_2 17 rfl rfl)
theorem dX3_median_66 : decode cX3_median 66 = .ok (.lload 5, 2) := dk_22 5 (dk_at dksX3_median_2 20 rfl rfl)
theorem dX3_median_68 : decode cX3_median 68 = .ok (.aload_n 0, 1) := dk_42 (dk_at dksX3_median_2 22 rfl rfl)
theorem dX3_median_69 : decode cX3_median 69 = .ok (.getfield 88, 3) := dk_180 0 88 (dk_at dksX3_median_3 0 rfl rfl)
theorem dX3_median_72 : decode cX3_median 72 = .ok (.getfield 117, 3) := dk_180 0 117 (dk_at dksX3_median_3 3 rfl rfl)
theorem dX3_median_75 : decode cX3_median 75 = .ok (.iload 4, 2) := dk_21 4 (dk_at dksX3_median_3 6 rfl rfl)
theorem dX3_median_77 : decode cX3_median 77 = .ok (.iaload, 1) := dk_46 (dk_at dksX3_median_3 8 rfl rfl)
theorem dX3_median_78 : decode cX3_median 78 = .ok (.i2l, 1) := dk_133 (dk_at dksX3_median_3 9 rfl rfl)
theorem dX3_median_79 : decode cX3_median 79 = .ok (.lload_n 2, 1) := dk_32 (dk_at dksX3_median_3 10 rfl rfl)
theorem dX3_median_80 : decode cX3_median 80 = .ok (.aload_n 0, 1) := dk_42 (dk_at dksX3_median_3 11 rfl rfl)
theorem dX3_median_81 : decode cX3_median 81 = .ok (.getfield 88, 3) := dk_180 0 88 (dk_at dksX3_median_3 12 rfl rfl)
theorem dX3_median_84 : decode cX3_median 84 = .ok (.getfield 117, 3) := dk_180 0 117 (dk_at dksX3_median_3 15 rfl rfl)
theorem dX3_median_87 : decode cX3_median 87 = .ok (.iload_n 1, 1) := dk_27 (dk_at dksX3_median_3 18 rfl rfl)
theorem dX3_median_88 : decode cX3_median 88 = .ok (.iaload, 1) := dk_46 (dk_at dksX3_median_3 19 rfl rfl)
theorem dX3_median_89 : decode cX3_median 89 = .ok (.i2l, 1) := dk_133 (dk_at dksX3_median_3 20 rfl rfl)
theorem dX3_median_90 : decode cX3_median 90 = .ok (.invokestatic 162, 3) := dk_184 0 162 (dk_at dksX3_median_3 21 rfl rfl)
theorem dX3_median_93 : decode cX3_median 93 = .ok (.ifCond .eq 9, 3) := dk_153 0 9 (dk_at dksX3_median_4 0 rfl rfl)
theorem dX3_median_96 : decode cX3_median 96 = .ok (.iload 4, 2) := dk_21 4 (dk_at dksX3_median_4 3 rfl rfl)
theorem dX3_median_98 : decode cX3_median 98 = .ok (.istore_n 1, 1) := dk_60 (dk_at dksX3_median_4 5 rfl rfl)
theorem dX3_median_99 : decode cX3_median 99 = .ok (.lload 5, 2) := dk_22 5 (dk_at dksX3_median_4 6 rfl rfl)
theorem dX3_median_101 : decode cX3_median 101 = .ok (.lstore_n 2, 1) := dk_65 (dk_at dksX3_median_4 8 rfl rfl)
theorem dX3_median_102 : decode cX3_median 102 = .ok (.aload_n 0, 1) := dk_42 (dk_at dksX3_median_4 9 rfl rfl)
theorem dX3_median_103 : decode cX3_median 103 = .ok (.getfield 105, 3) := dk_180 0 105 (dk_at dksX3_median_4 10 rfl rfl)
theorem dX3_median_106 : decode cX3_median 106 = .ok (.iload 4, 2) := dk_21 4 (dk_at dksX3_median_4 13 rfl rfl)
theorem dX3_median_108 : decode cX3_median 108 = .ok (.iconst 1, 1) := dk_4 (dk_at dksX3_median_4 15 rfl rfl)
theorem dX3_median_109 : decode cX3_median 109 = .ok (.iadd, 1) := dk_96 (dk_at dksX3_median_4 16 rfl rfl)
theorem dX3_median_110 : decode cX3_median 110 = .ok (.invokevirtual 155, 3) := dk_182 0 155 (dk_at dksX3_median_4 17 rfl rfl)
theorem dX3_median_113 : decode cX3_median 113 = .ok (.istore 4, 2) := dk_54 4 (dk_at dksX3_median_4 20 rfl rfl)
theorem dX3_median_115 : decode cX3_median 115 = .ok (.goto (-97), 3) := dk_167 255 159 (dk_at dksX3_median_5 0 rfl rfl)
theorem dX3_median_118 : decode cX3_median 118 = .ok (.iload_n 1, 1) := dk_27 (dk_at dksX3_median_5 3 rfl rfl)
theorem dX3_median_119 : decode cX3_median 119 = .ok (.ireturn, 1) := dk_172 (dk_at dksX3_median_5 4 rfl rfl)
abbrev cX3_cost : ByteArray := prog_12_method_7_code
def yX3_cost : MethodName := ⟨RX3, "cost", "(IJJ)J"⟩
def dkwX3_cost_2 : List UInt8 := [22, 6, 173]
abbrev dktX3_cost_2 : List UInt8 := dkwX3_cost_2 ++ []
def dkwX3_cost_1 : List UInt8 := [21, 8, 46, 133, 42, 21, 8, 27, 32, 22, 4, 182, 0, 68, 105, 97, 55, 6, 132, 8, 1, 167, 255, 217]
abbrev dktX3_cost_1 : List UInt8 := dkwX3_cost_1 ++ dktX3_cost_2
def dkwX3_cost_0 : List UInt8 := [9, 55, 6, 3, 54, 8, 21, 8, 42, 180, 0, 21, 162, 0, 36, 22, 6, 42, 180, 0, 9, 180, 0, 65]
abbrev dktX3_cost_0 : List UInt8 := dkwX3_cost_0 ++ dktX3_cost_1
theorem dksX3_cost_0 : cX3_cost.data.toList.drop 0 = dktX3_cost_0 := by decide +kernel
theorem dksX3_cost_1 : cX3_cost.data.toList.drop 24 = dktX3_cost_1 := dk_seg dksX3_cost_0 24 rfl rfl
theorem dksX3_cost_2 : cX3_cost.data.toList.drop 48 = dktX3_cost_2 := dk_seg dksX3_cost_1 24 rfl rfl
theorem dX3_cost_0 : decode cX3_cost 0 = .ok (.lconst 0, 1) := dk_9 (dk_at dksX3_cost_0 0 rfl rfl)
theorem dX3_cost_1 : decode cX3_cost 1 = .ok (.lstore 6, 2) := dk_55 6 (dk_at dksX3_cost_0 1 rfl rfl)
theorem dX3_cost_3 : decode cX3_cost 3 = .ok (.iconst 0, 1) := dk_3 (dk_at dksX3_cost_0 3 rfl rfl)
theorem dX3_cost_4 : decode cX3_cost 4 = .ok (.istore 8, 2) := dk_54 8 (dk_at dksX3_cost_0 4 rfl rfl)
theorem dX3_cost_6 : decode cX3_cost 6 = .ok (.iload 8, 2) := dk_21 8 (dk_at dksX3_cost_0 6 rfl rfl)
theorem dX3_cost_8 : decode cX3_cost 8 = .ok (.aload_n 0, 1) := dk_42 (dk_at dksX3_cost_0 8 rfl rfl)
theorem dX3_cost_9 : decode cX3_cost 9 = .ok (.getfield 21, 3) := dk_180 0 21 (dk_at dksX3_cost_0 9 rfl rfl)
theorem dX3_cost_12 : decode cX3_cost 12 = .ok (.if_icmp .ge 36, 3) := dk_162 0 36 (dk_at dksX3_cost_0 12 rfl rfl)
theorem dX3_cost_15 : decode cX3_cost 15 = .ok (.lload 6, 2) := dk_22 6 (dk_at dksX3_cost_0 15 rfl rfl)
theorem dX3_cost_17 : decode cX3_cost 17 = .ok (.aload_n 0, 1) := dk_42 (dk_at dksX3_cost_0 17 rfl rfl)
theorem dX3_cost_18 : decode cX3_cost 18 = .ok (.getfield 9, 3) := dk_180 0 9 (dk_at dksX3_cost_0 18 rfl rfl)
theorem dX3_cost_21 : decode cX3_cost 21 = .ok (.getfield 65, 3) := dk_180 0 65 (dk_at dksX3_cost_0 21 rfl rfl)
theorem dX3_cost_24 : decode cX3_cost 24 = .ok (.iload 8, 2) := dk_21 8 (dk_at dksX3_cost_1 0 rfl rfl)
theorem dX3_cost_26 : decode cX3_cost 26 = .ok (.iaload, 1) := dk_46 (dk_at dksX3_cost_1 2 rfl rfl)
theorem dX3_cost_27 : decode cX3_cost 27 = .ok (.i2l, 1) := dk_133 (dk_at dksX3_cost_1 3 rfl rfl)
theorem dX3_cost_28 : decode cX3_cost 28 = .ok (.aload_n 0, 1) := dk_42 (dk_at dksX3_cost_1 4 rfl rfl)
theorem dX3_cost_29 : decode cX3_cost 29 = .ok (.iload 8, 2) := dk_21 8 (dk_at dksX3_cost_1 5 rfl rfl)
theorem dX3_cost_31 : decode cX3_cost 31 = .ok (.iload_n 1, 1) := dk_27 (dk_at dksX3_cost_1 7 rfl rfl)
theorem dX3_cost_32 : decode cX3_cost 32 = .ok (.lload_n 2, 1) := dk_32 (dk_at dksX3_cost_1 8 rfl rfl)
theorem dX3_cost_33 : decode cX3_cost 33 = .ok (.lload 4, 2) := dk_22 4 (dk_at dksX3_cost_1 9 rfl rfl)
theorem dX3_cost_35 : decode cX3_cost 35 = .ok (.invokevirtual 68, 3) := dk_182 0 68 (dk_at dksX3_cost_1 11 rfl rfl)
theorem dX3_cost_38 : decode cX3_cost 38 = .ok (.lmul, 1) := dk_105 (dk_at dksX3_cost_1 14 rfl rfl)
theorem dX3_cost_39 : decode cX3_cost 39 = .ok (.ladd, 1) := dk_97 (dk_at dksX3_cost_1 15 rfl rfl)
theorem dX3_cost_40 : decode cX3_cost 40 = .ok (.lstore 6, 2) := dk_55 6 (dk_at dksX3_cost_1 16 rfl rfl)
theorem dX3_cost_42 : decode cX3_cost 42 = .ok (.iinc 8 1, 3) := dk_132 8 1 (dk_at dksX3_cost_1 18 rfl rfl)
theorem dX3_cost_45 : decode cX3_cost 45 = .ok (.goto (-39), 3) := dk_167 255 217 (dk_at dksX3_cost_1 21 rfl rfl)
theorem dX3_cost_48 : decode cX3_cost 48 = .ok (.lload 6, 2) := dk_22 6 (dk_at dksX3_cost_2 0 rfl rfl)
theorem dX3_cost_50 : decode cX3_cost 50 = .ok (.lreturn, 1) := dk_173 (dk_at dksX3_cost_2 2 rfl rfl)
abbrev cX3_deciding : ByteArray := prog_12_method_22_code
def yX3_deciding : MethodName := ⟨RX3, "deciding", "(I)I"⟩
def dkwX3_deciding_3 : List UInt8 := [21, 4, 62, 132, 4, 1, 167, 255, 195, 29, 172]
abbrev dktX3_deciding_3 : List UInt8 := dkwX3_deciding_3 ++ []
def dkwX3_deciding_2 : List UInt8 := [153, 0, 27, 42, 28, 27, 42, 21, 4, 182, 0, 185, 42, 21, 4, 182, 0, 188, 182, 0, 201, 153, 0, 6]
abbrev dktX3_deciding_2 : List UInt8 := dkwX3_deciding_2 ++ dktX3_deciding_3
def dkwX3_deciding_1 : List UInt8 := [182, 0, 185, 42, 21, 4, 182, 0, 188, 42, 29, 182, 0, 185, 42, 29, 182, 0, 188, 184, 0, 162]
abbrev dktX3_deciding_1 : List UInt8 := dkwX3_deciding_1 ++ dktX3_deciding_2
def dkwX3_deciding_0 : List UInt8 := [4, 42, 180, 0, 21, 120, 4, 100, 61, 28, 62, 3, 54, 4, 21, 4, 28, 163, 0, 61, 42, 21, 4]
abbrev dktX3_deciding_0 : List UInt8 := dkwX3_deciding_0 ++ dktX3_deciding_1
theorem dksX3_deciding_0 : cX3_deciding.data.toList.drop 0 = dktX3_deciding_0 := by decide +kernel
theorem dksX3_deciding_1 : cX3_deciding.data.toList.drop 23 = dktX3_deciding_1 := dk_seg dksX3_deciding_0 23 rfl rfl
theorem dksX3_deciding_2 : cX3_deciding.data.toList.drop 45 = dktX3_deciding_2 := dk_seg dksX3_deciding_1 22 rfl rfl
theorem dksX3_deciding_3 : cX3_deciding.data.toList.drop 69 = dktX3_deciding_3 := dk_seg dksX3_deciding_2 24 rfl rfl
theorem dX3_deciding_0 : decode cX3_deciding 0 = .ok (.iconst 1, 1) := dk_4 (dk_at dksX3_deciding_0 0 rfl rfl)
theorem dX3_deciding_1 : decode cX3_deciding 1 = .ok (.aload_n 0, 1) := dk_42 (dk_at dksX3_deciding_0 1 rfl rfl)
theorem dX3_deciding_2 : decode cX3_deciding 2 = .ok (.getfield 21, 3) := dk_180 0 21 (dk_at dksX3_deciding_0 2 rfl rfl)
theorem dX3_deciding_5 : decode cX3_deciding 5 = .ok (.ishl, 1) := dk_120 (dk_at dksX3_deciding_0 5 rfl rfl)
theorem dX3_deciding_6 : decode cX3_deciding 6 = .ok (.iconst 1, 1) := dk_4 (dk_at dksX3_deciding_0 6 rfl rfl)
theorem dX3_deciding_7 : decode cX3_deciding 7 = .ok (.isub, 1) := dk_100 (dk_at dksX3_deciding_0 7 rfl rfl)
theorem dX3_deciding_8 : decode cX3_deciding 8 = .ok (.istore_n 2, 1) := dk_61 (dk_at dksX3_deciding_0 8 rfl rfl)
theorem dX3_deciding_9 : decode cX3_deciding 9 = .ok (.iload_n 2, 1) := dk_28 (dk_at dksX3_deciding_0 9 rfl rfl)
theorem dX3_deciding_10 : decode cX3_deciding 10 = .ok (.istore_n 3, 1) := dk_62 (dk_at dksX3_deciding_0 10 rfl rfl)
theorem dX3_deciding_11 : decode cX3_deciding 11 = .ok (.iconst 0, 1) := dk_3 (dk_at dksX3_deciding_0 11 rfl rfl)
theorem dX3_deciding_12 : decode cX3_deciding 12 = .ok (.istore 4, 2) := dk_54 4 (dk_at dksX3_deciding_0 12 rfl rfl)
theorem dX3_deciding_14 : decode cX3_deciding 14 = .ok (.iload 4, 2) := dk_21 4 (dk_at dksX3_deciding_0 14 rfl rfl)
theorem dX3_deciding_16 : decode cX3_deciding 16 = .ok (.iload_n 2, 1) := dk_28 (dk_at dksX3_deciding_0 16 rfl rfl)
theorem dX3_deciding_17 : decode cX3_deciding 17 = .ok (.if_icmp .gt 61, 3) := dk_163 0 61 (dk_at dksX3_deciding_0 17 rfl rfl)
theorem dX3_deciding_20 : decode cX3_deciding 20 = .ok (.aload_n 0, 1) := dk_42 (dk_at dksX3_deciding_0 20 rfl rfl)
theorem dX3_deciding_21 : decode cX3_deciding 21 = .ok (.iload 4, 2) := dk_21 4 (dk_at dksX3_deciding_0 21 rfl rfl)
theorem dX3_deciding_23 : decode cX3_deciding 23 = .ok (.invokevirtual 185, 3) := dk_182 0 185 (dk_at dksX3_deciding_1 0 rfl rfl)
theorem dX3_deciding_26 : decode cX3_deciding 26 = .ok (.aload_n 0, 1) := dk_42 (dk_at dksX3_deciding_1 3 rfl rfl)
theorem dX3_deciding_27 : decode cX3_deciding 27 = .ok (.iload 4, 2) := dk_21 4 (dk_at dksX3_deciding_1 4 rfl rfl)
theorem dX3_deciding_29 : decode cX3_deciding 29 = .ok (.invokevirtual 188, 3) := dk_182 0 188 (dk_at dksX3_deciding_1 6 rfl rfl)
theorem dX3_deciding_32 : decode cX3_deciding 32 = .ok (.aload_n 0, 1) := dk_42 (dk_at dksX3_deciding_1 9 rfl rfl)
theorem dX3_deciding_33 : decode cX3_deciding 33 = .ok (.iload_n 3, 1) := dk_29 (dk_at dksX3_deciding_1 10 rfl rfl)
theorem dX3_deciding_34 : decode cX3_deciding 34 = .ok (.invokevirtual 185, 3) := dk_182 0 185 (dk_at dksX3_deciding_1 11 rfl rfl)
theorem dX3_deciding_37 : decode cX3_deciding 37 = .ok (.aload_n 0, 1) := dk_42 (dk_at dksX3_deciding_1 14 rfl rfl)
theorem dX3_deciding_38 : decode cX3_deciding 38 = .ok (.iload_n 3, 1) := dk_29 (dk_at dksX3_deciding_1 15 rfl rfl)
theorem dX3_deciding_39 : decode cX3_deciding 39 = .ok (.invokevirtual 188, 3) := dk_182 0 188 (dk_at dksX3_deciding_1 16 rfl rfl)
theorem dX3_deciding_42 : decode cX3_deciding 42 = .ok (.invokestatic 162, 3) := dk_184 0 162 (dk_at dksX3_deciding_1 19 rfl rfl)
theorem dX3_deciding_45 : decode cX3_deciding 45 = .ok (.ifCond .eq 27, 3) := dk_153 0 27 (dk_at dksX3_deciding_2 0 rfl rfl)
theorem dX3_deciding_48 : decode cX3_deciding 48 = .ok (.aload_n 0, 1) := dk_42 (dk_at dksX3_deciding_2 3 rfl rfl)
theorem dX3_deciding_49 : decode cX3_deciding 49 = .ok (.iload_n 2, 1) := dk_28 (dk_at dksX3_deciding_2 4 rfl rfl)
theorem dX3_deciding_50 : decode cX3_deciding 50 = .ok (.iload_n 1, 1) := dk_27 (dk_at dksX3_deciding_2 5 rfl rfl)
theorem dX3_deciding_51 : decode cX3_deciding 51 = .ok (.aload_n 0, 1) := dk_42 (dk_at dksX3_deciding_2 6 rfl rfl)
theorem dX3_deciding_52 : decode cX3_deciding 52 = .ok (.iload 4, 2) := dk_21 4 (dk_at dksX3_deciding_2 7 rfl rfl)
theorem dX3_deciding_54 : decode cX3_deciding 54 = .ok (.invokevirtual 185, 3) := dk_182 0 185 (dk_at dksX3_deciding_2 9 rfl rfl)
theorem dX3_deciding_57 : decode cX3_deciding 57 = .ok (.aload_n 0, 1) := dk_42 (dk_at dksX3_deciding_2 12 rfl rfl)
theorem dX3_deciding_58 : decode cX3_deciding 58 = .ok (.iload 4, 2) := dk_21 4 (dk_at dksX3_deciding_2 13 rfl rfl)
theorem dX3_deciding_60 : decode cX3_deciding 60 = .ok (.invokevirtual 188, 3) := dk_182 0 188 (dk_at dksX3_deciding_2 15 rfl rfl)
theorem dX3_deciding_63 : decode cX3_deciding 63 = .ok (.invokevirtual 201, 3) := dk_182 0 201 (dk_at dksX3_deciding_2 18 rfl rfl)
theorem dX3_deciding_66 : decode cX3_deciding 66 = .ok (.ifCond .eq 6, 3) := dk_153 0 6 (dk_at dksX3_deciding_2 21 rfl rfl)
theorem dX3_deciding_69 : decode cX3_deciding 69 = .ok (.iload 4, 2) := dk_21 4 (dk_at dksX3_deciding_3 0 rfl rfl)
theorem dX3_deciding_71 : decode cX3_deciding 71 = .ok (.istore_n 3, 1) := dk_62 (dk_at dksX3_deciding_3 2 rfl rfl)
theorem dX3_deciding_72 : decode cX3_deciding 72 = .ok (.iinc 4 1, 3) := dk_132 4 1 (dk_at dksX3_deciding_3 3 rfl rfl)
theorem dX3_deciding_75 : decode cX3_deciding 75 = .ok (.goto (-61), 3) := dk_167 255 195 (dk_at dksX3_deciding_3 6 rfl rfl)
theorem dX3_deciding_78 : decode cX3_deciding 78 = .ok (.iload_n 3, 1) := dk_29 (dk_at dksX3_deciding_3 9 rfl rfl)
theorem dX3_deciding_79 : decode cX3_deciding 79 = .ok (.ireturn, 1) := dk_172 (dk_at dksX3_deciding_3 10 rfl rfl)
abbrev cX3_isDivided : ByteArray := prog_12_method_21_code
def yX3_isDivided : MethodName := ⟨RX3, "isDivided", "(IIJJ)Z"⟩
def dkwX3_isDivided_4 : List UInt8 := [126, 54, 9, 167, 255, 205]
abbrev dktX3_isDivided_4 : List UInt8 := dkwX3_isDivided_4 ++ []
def dkwX3_isDivided_3 : List UInt8 := [33, 22, 5, 182, 0, 201, 153, 0, 5, 4, 172, 21, 9, 154, 0, 5, 3, 172, 21, 9, 4, 100, 21, 8]
abbrev dktX3_isDivided_3 : List UInt8 := dkwX3_isDivided_3 ++ dktX3_isDivided_4
def dkwX3_isDivided_2 : List UInt8 := [42, 21, 9, 21, 7, 128, 33, 22, 5, 182, 0, 198, 153, 0, 23, 42, 21, 8, 21, 9, 130, 28, 4, 100]
abbrev dktX3_isDivided_2 : List UInt8 := dkwX3_isDivided_2 ++ dktX3_isDivided_3
def dkwX3_isDivided_1 : List UInt8 := [27, 33, 22, 5, 182, 0, 198, 172, 27, 27, 116, 126, 54, 7, 27, 21, 7, 130, 54, 8, 21, 8, 54, 9]
abbrev dktX3_isDivided_1 : List UInt8 := dkwX3_isDivided_1 ++ dktX3_isDivided_2
def dkwX3_isDivided_0 : List UInt8 := [28, 153, 0, 7, 27, 154, 0, 13, 27, 154, 0, 7, 4, 167, 0, 4, 3, 172, 28, 4, 160, 0, 12, 42]
abbrev dktX3_isDivided_0 : List UInt8 := dkwX3_isDivided_0 ++ dktX3_isDivided_1
theorem dksX3_isDivided_0 : cX3_isDivided.data.toList.drop 0 = dktX3_isDivided_0 := by decide +kernel
theorem dksX3_isDivided_1 : cX3_isDivided.data.toList.drop 24 = dktX3_isDivided_1 := dk_seg dksX3_isDivided_0 24 rfl rfl
theorem dksX3_isDivided_2 : cX3_isDivided.data.toList.drop 48 = dktX3_isDivided_2 := dk_seg dksX3_isDivided_1 24 rfl rfl
theorem dksX3_isDivided_3 : cX3_isDivided.data.toList.drop 72 = dktX3_isDivided_3 := dk_seg dksX3_isDivided_2 24 rfl rfl
theorem dksX3_isDivided_4 : cX3_isDivided.data.toList.drop 96 = dktX3_isDivided_4 := dk_seg dksX3_isDivided_3 24 rfl rfl
theorem dX3_isDivided_0 : decode cX3_isDivided 0 = .ok (.iload_n 2, 1) := dk_28 (dk_at dksX3_isDivided_0 0 rfl rfl)
theorem dX3_isDivided_1 : decode cX3_isDivided 1 = .ok (.ifCond .eq 7, 3) := dk_153 0 7 (dk_at dksX3_isDivided_0 1 rfl rfl)
theorem dX3_isDivided_4 : decode cX3_isDivided 4 = .ok (.iload_n 1, 1) := dk_27 (dk_at dksX3_isDivided_0 4 rfl rfl)
theorem dX3_isDivided_5 : decode cX3_isDivided 5 = .ok (.ifCond .ne 13, 3) := dk_154 0 13 (dk_at dksX3_isDivided_0 5 rfl rfl)
theorem dX3_isDivided_8 : decode cX3_isDivided 8 = .ok (.iload_n 1, 1) := dk_27 (dk_at dksX3_isDivided_0 8 rfl rfl)
theorem dX3_isDivided_9 : decode cX3_isDivided 9 = .ok (.ifCond .ne 7, 3) := dk_154 0 7 (dk_at dksX3_isDivided_0 9 rfl rfl)
theorem dX3_isDivided_12 : decode cX3_isDivided 12 = .ok (.iconst 1, 1) := dk_4 (dk_at dksX3_isDivided_0 12 rfl rfl)
theorem dX3_isDivided_13 : decode cX3_isDivided 13 = .ok (.goto 4, 3) := dk_167 0 4 (dk_at dksX3_isDivided_0 13 rfl rfl)
theorem dX3_isDivided_16 : decode cX3_isDivided 16 = .ok (.iconst 0, 1) := dk_3 (dk_at dksX3_isDivided_0 16 rfl rfl)
theorem dX3_isDivided_17 : decode cX3_isDivided 17 = .ok (.ireturn, 1) := dk_172 (dk_at dksX3_isDivided_0 17 rfl rfl)
theorem dX3_isDivided_18 : decode cX3_isDivided 18 = .ok (.iload_n 2, 1) := dk_28 (dk_at dksX3_isDivided_0 18 rfl rfl)
theorem dX3_isDivided_19 : decode cX3_isDivided 19 = .ok (.iconst 1, 1) := dk_4 (dk_at dksX3_isDivided_0 19 rfl rfl)
theorem dX3_isDivided_20 : decode cX3_isDivided 20 = .ok (.if_icmp .ne 12, 3) := dk_160 0 12 (dk_at dksX3_isDivided_0 20 rfl rfl)
theorem dX3_isDivided_23 : decode cX3_isDivided 23 = .ok (.aload_n 0, 1) := dk_42 (dk_at dksX3_isDivided_0 23 rfl rfl)
theorem dX3_isDivided_24 : decode cX3_isDivided 24 = .ok (.iload_n 1, 1) := dk_27 (dk_at dksX3_isDivided_1 0 rfl rfl)
theorem dX3_isDivided_25 : decode cX3_isDivided 25 = .ok (.lload_n 3, 1) := dk_33 (dk_at dksX3_isDivided_1 1 rfl rfl)
theorem dX3_isDivided_26 : decode cX3_isDivided 26 = .ok (.lload 5, 2) := dk_22 5 (dk_at dksX3_isDivided_1 2 rfl rfl)
theorem dX3_isDivided_28 : decode cX3_isDivided 28 = .ok (.invokevirtual 198, 3) := dk_182 0 198 (dk_at dksX3_isDivided_1 4 rfl rfl)
theorem dX3_isDivided_31 : decode cX3_isDivided 31 = .ok (.ireturn, 1) := dk_172 (dk_at dksX3_isDivided_1 7 rfl rfl)
theorem dX3_isDivided_32 : decode cX3_isDivided 32 = .ok (.iload_n 1, 1) := dk_27 (dk_at dksX3_isDivided_1 8 rfl rfl)
theorem dX3_isDivided_33 : decode cX3_isDivided 33 = .ok (.iload_n 1, 1) := dk_27 (dk_at dksX3_isDivided_1 9 rfl rfl)
theorem dX3_isDivided_34 : decode cX3_isDivided 34 = .ok (.ineg, 1) := dk_116 (dk_at dksX3_isDivided_1 10 rfl rfl)
theorem dX3_isDivided_35 : decode cX3_isDivided 35 = .ok (.iand, 1) := dk_126 (dk_at dksX3_isDivided_1 11 rfl rfl)
theorem dX3_isDivided_36 : decode cX3_isDivided 36 = .ok (.istore 7, 2) := dk_54 7 (dk_at dksX3_isDivided_1 12 rfl rfl)
theorem dX3_isDivided_38 : decode cX3_isDivided 38 = .ok (.iload_n 1, 1) := dk_27 (dk_at dksX3_isDivided_1 14 rfl rfl)
theorem dX3_isDivided_39 : decode cX3_isDivided 39 = .ok (.iload 7, 2) := dk_21 7 (dk_at dksX3_isDivided_1 15 rfl rfl)
theorem dX3_isDivided_41 : decode cX3_isDivided 41 = .ok (.ixor, 1) := dk_130 (dk_at dksX3_isDivided_1 17 rfl rfl)
theorem dX3_isDivided_42 : decode cX3_isDivided 42 = .ok (.istore 8, 2) := dk_54 8 (dk_at dksX3_isDivided_1 18 rfl rfl)
theorem dX3_isDivided_44 : decode cX3_isDivided 44 = .ok (.iload 8, 2) := dk_21 8 (dk_at dksX3_isDivided_1 20 rfl rfl)
theorem dX3_isDivided_46 : decode cX3_isDivided 46 = .ok (.istore 9, 2) := dk_54 9 (dk_at dksX3_isDivided_1 22 rfl rfl)
theorem dX3_isDivided_48 : decode cX3_isDivided 48 = .ok (.aload_n 0, 1) := dk_42 (dk_at dksX3_isDivided_2 0 rfl rfl)
theorem dX3_isDivided_49 : decode cX3_isDivided 49 = .ok (.iload 9, 2) := dk_21 9 (dk_at dksX3_isDivided_2 1 rfl rfl)
theorem dX3_isDivided_51 : decode cX3_isDivided 51 = .ok (.iload 7, 2) := dk_21 7 (dk_at dksX3_isDivided_2 3 rfl rfl)
theorem dX3_isDivided_53 : decode cX3_isDivided 53 = .ok (.ior, 1) := dk_128 (dk_at dksX3_isDivided_2 5 rfl rfl)
theorem dX3_isDivided_54 : decode cX3_isDivided 54 = .ok (.lload_n 3, 1) := dk_33 (dk_at dksX3_isDivided_2 6 rfl rfl)
theorem dX3_isDivided_55 : decode cX3_isDivided 55 = .ok (.lload 5, 2) := dk_22 5 (dk_at dksX3_isDivided_2 7 rfl rfl)
theorem dX3_isDivided_57 : decode cX3_isDivided 57 = .ok (.invokevirtual 198, 3) := dk_182 0 198 (dk_at dksX3_isDivided_2 9 rfl rfl)
theorem dX3_isDivided_60 : decode cX3_isDivided 60 = .ok (.ifCond .eq 23, 3) := dk_153 0 23 (dk_at dksX3_isDivided_2 12 rfl rfl)
theorem dX3_isDivided_63 : decode cX3_isDivided 63 = .ok (.aload_n 0, 1) := dk_42 (dk_at dksX3_isDivided_2 15 rfl rfl)
theorem dX3_isDivided_64 : decode cX3_isDivided 64 = .ok (.iload 8, 2) := dk_21 8 (dk_at dksX3_isDivided_2 16 rfl rfl)
theorem dX3_isDivided_66 : decode cX3_isDivided 66 = .ok (.iload 9, 2) := dk_21 9 (dk_at dksX3_isDivided_2 18 rfl rfl)
theorem dX3_isDivided_68 : decode cX3_isDivided 68 = .ok (.ixor, 1) := dk_130 (dk_at dksX3_isDivided_2 20 rfl rfl)
theorem dX3_isDivided_69 : decode cX3_isDivided 69 = .ok (.iload_n 2, 1) := dk_28 (dk_at dksX3_isDivided_2 21 rfl rfl)
theorem dX3_isDivided_70 : decode cX3_isDivided 70 = .ok (.iconst 1, 1) := dk_4 (dk_at dksX3_isDivided_2 22 rfl rfl)
theorem dX3_isDivided_71 : decode cX3_isDivided 71 = .ok (.isub, 1) := dk_100 (dk_at dksX3_isDivided_2 23 rfl rfl)
theorem dX3_isDivided_72 : decode cX3_isDivided 72 = .ok (.lload_n 3, 1) := dk_33 (dk_at dksX3_isDivided_3 0 rfl rfl)
theorem dX3_isDivided_73 : decode cX3_isDivided 73 = .ok (.lload 5, 2) := dk_22 5 (dk_at dksX3_isDivided_3 1 rfl rfl)
theorem dX3_isDivided_75 : decode cX3_isDivided 75 = .ok (.invokevirtual 201, 3) := dk_182 0 201 (dk_at dksX3_isDivided_3 3 rfl rfl)
theorem dX3_isDivided_78 : decode cX3_isDivided 78 = .ok (.ifCond .eq 5, 3) := dk_153 0 5 (dk_at dksX3_isDivided_3 6 rfl rfl)
theorem dX3_isDivided_81 : decode cX3_isDivided 81 = .ok (.iconst 1, 1) := dk_4 (dk_at dksX3_isDivided_3 9 rfl rfl)
theorem dX3_isDivided_82 : decode cX3_isDivided 82 = .ok (.ireturn, 1) := dk_172 (dk_at dksX3_isDivided_3 10 rfl rfl)
theorem dX3_isDivided_83 : decode cX3_isDivided 83 = .ok (.iload 9, 2) := dk_21 9 (dk_at dksX3_isDivided_3 11 rfl rfl)
theorem dX3_isDivided_85 : decode cX3_isDivided 85 = .ok (.ifCond .ne 5, 3) := dk_154 0 5 (dk_at dksX3_isDivided_3 13 rfl rfl)
theorem dX3_isDivided_88 : decode cX3_isDivided 88 = .ok (.iconst 0, 1) := dk_3 (dk_at dksX3_isDivided_3 16 rfl rfl)
theorem dX3_isDivided_89 : decode cX3_isDivided 89 = .ok (.ireturn, 1) := dk_172 (dk_at dksX3_isDivided_3 17 rfl rfl)
theorem dX3_isDivided_90 : decode cX3_isDivided 90 = .ok (.iload 9, 2) := dk_21 9 (dk_at dksX3_isDivided_3 18 rfl rfl)
theorem dX3_isDivided_92 : decode cX3_isDivided 92 = .ok (.iconst 1, 1) := dk_4 (dk_at dksX3_isDivided_3 20 rfl rfl)
theorem dX3_isDivided_93 : decode cX3_isDivided 93 = .ok (.isub, 1) := dk_100 (dk_at dksX3_isDivided_3 21 rfl rfl)
theorem dX3_isDivided_94 : decode cX3_isDivided 94 = .ok (.iload 8, 2) := dk_21 8 (dk_at dksX3_isDivided_3 22 rfl rfl)
theorem dX3_isDivided_96 : decode cX3_isDivided 96 = .ok (.iand, 1) := dk_126 (dk_at dksX3_isDivided_4 0 rfl rfl)
theorem dX3_isDivided_97 : decode cX3_isDivided 97 = .ok (.istore 9, 2) := dk_54 9 (dk_at dksX3_isDivided_4 1 rfl rfl)
theorem dX3_isDivided_99 : decode cX3_isDivided 99 = .ok (.goto (-51), 3) := dk_167 255 205 (dk_at dksX3_isDivided_4 3 rfl rfl)
abbrev cX3_isAtMost : ByteArray := prog_12_method_18_code
def yX3_isAtMost : MethodName := ⟨RX3, "isAtMost", "(IJJ)Z"⟩
def dkwX3_isAtMost_1 : List UInt8 := [172]
abbrev dktX3_isAtMost_1 : List UInt8 := dkwX3_isAtMost_1 ++ []
def dkwX3_isAtMost_0 : List UInt8 := [32, 22, 4, 42, 27, 182, 0, 185, 42, 27, 182, 0, 188, 184, 0, 162, 154, 0, 7, 4, 167, 0, 4, 3]
abbrev dktX3_isAtMost_0 : List UInt8 := dkwX3_isAtMost_0 ++ dktX3_isAtMost_1
theorem dksX3_isAtMost_0 : cX3_isAtMost.data.toList.drop 0 = dktX3_isAtMost_0 := by decide +kernel
theorem dksX3_isAtMost_1 : cX3_isAtMost.data.toList.drop 24 = dktX3_isAtMost_1 := dk_seg dksX3_isAtMost_0 24 rfl rfl
theorem dX3_isAtMost_0 : decode cX3_isAtMost 0 = .ok (.lload_n 2, 1) := dk_32 (dk_at dksX3_isAtMost_0 0 rfl rfl)
theorem dX3_isAtMost_1 : decode cX3_isAtMost 1 = .ok (.lload 4, 2) := dk_22 4 (dk_at dksX3_isAtMost_0 1 rfl rfl)
theorem dX3_isAtMost_3 : decode cX3_isAtMost 3 = .ok (.aload_n 0, 1) := dk_42 (dk_at dksX3_isAtMost_0 3 rfl rfl)
theorem dX3_isAtMost_4 : decode cX3_isAtMost 4 = .ok (.iload_n 1, 1) := dk_27 (dk_at dksX3_isAtMost_0 4 rfl rfl)
theorem dX3_isAtMost_5 : decode cX3_isAtMost 5 = .ok (.invokevirtual 185, 3) := dk_182 0 185 (dk_at dksX3_isAtMost_0 5 rfl rfl)
theorem dX3_isAtMost_8 : decode cX3_isAtMost 8 = .ok (.aload_n 0, 1) := dk_42 (dk_at dksX3_isAtMost_0 8 rfl rfl)
theorem dX3_isAtMost_9 : decode cX3_isAtMost 9 = .ok (.iload_n 1, 1) := dk_27 (dk_at dksX3_isAtMost_0 9 rfl rfl)
theorem dX3_isAtMost_10 : decode cX3_isAtMost 10 = .ok (.invokevirtual 188, 3) := dk_182 0 188 (dk_at dksX3_isAtMost_0 10 rfl rfl)
theorem dX3_isAtMost_13 : decode cX3_isAtMost 13 = .ok (.invokestatic 162, 3) := dk_184 0 162 (dk_at dksX3_isAtMost_0 13 rfl rfl)
theorem dX3_isAtMost_16 : decode cX3_isAtMost 16 = .ok (.ifCond .ne 7, 3) := dk_154 0 7 (dk_at dksX3_isAtMost_0 16 rfl rfl)
theorem dX3_isAtMost_19 : decode cX3_isAtMost 19 = .ok (.iconst 1, 1) := dk_4 (dk_at dksX3_isAtMost_0 19 rfl rfl)
theorem dX3_isAtMost_20 : decode cX3_isAtMost 20 = .ok (.goto 4, 3) := dk_167 0 4 (dk_at dksX3_isAtMost_0 20 rfl rfl)
theorem dX3_isAtMost_23 : decode cX3_isAtMost 23 = .ok (.iconst 0, 1) := dk_3 (dk_at dksX3_isAtMost_0 23 rfl rfl)
theorem dX3_isAtMost_24 : decode cX3_isAtMost 24 = .ok (.ireturn, 1) := dk_172 (dk_at dksX3_isAtMost_1 0 rfl rfl)
abbrev cX3_corner : ByteArray := prog_12_method_26_code
def yX3_corner : MethodName := ⟨RX3, "corner", "(II)I"⟩
def dkwX3_corner_5 : List UInt8 := [172]
abbrev dktX3_corner_5 : List UInt8 := dkwX3_corner_5 ++ []
def dkwX3_corner_4 : List UInt8 := [182, 0, 212, 153, 0, 14, 21, 5, 154, 0, 6, 21, 6, 172, 132, 5, 255, 132, 6, 1, 167, 255, 211, 2]
abbrev dktX3_corner_4 : List UInt8 := dkwX3_corner_4 ++ dktX3_corner_5
def dkwX3_corner_3 : List UInt8 := [21, 4, 162, 0, 44, 21, 6, 29, 159, 0, 21, 21, 6, 21, 4, 4, 100, 159, 0, 12, 42, 21, 6]
abbrev dktX3_corner_3 : List UInt8 := dkwX3_corner_3 ++ dktX3_corner_4
def dkwX3_corner_2 : List UInt8 := [180, 0, 112, 21, 4, 46, 27, 160, 0, 9, 132, 4, 1, 167, 255, 227, 28, 54, 5, 29, 54, 6, 21, 6]
abbrev dktX3_corner_2 : List UInt8 := dkwX3_corner_2 ++ dktX3_corner_3
def dkwX3_corner_1 : List UInt8 := [167, 255, 240, 29, 54, 4, 21, 4, 42, 180, 0, 88, 180, 0, 109, 162, 0, 23, 42, 180, 0, 88]
abbrev dktX3_corner_1 : List UInt8 := dkwX3_corner_1 ++ dktX3_corner_2
def dkwX3_corner_0 : List UInt8 := [42, 182, 0, 173, 3, 62, 42, 180, 0, 88, 180, 0, 112, 29, 46, 27, 159, 0, 9, 132, 3, 1]
abbrev dktX3_corner_0 : List UInt8 := dkwX3_corner_0 ++ dktX3_corner_1
theorem dksX3_corner_0 : cX3_corner.data.toList.drop 0 = dktX3_corner_0 := by decide +kernel
theorem dksX3_corner_1 : cX3_corner.data.toList.drop 22 = dktX3_corner_1 := dk_seg dksX3_corner_0 22 rfl rfl
theorem dksX3_corner_2 : cX3_corner.data.toList.drop 44 = dktX3_corner_2 := dk_seg dksX3_corner_1 22 rfl rfl
theorem dksX3_corner_3 : cX3_corner.data.toList.drop 68 = dktX3_corner_3 := dk_seg dksX3_corner_2 24 rfl rfl
theorem dksX3_corner_4 : cX3_corner.data.toList.drop 91 = dktX3_corner_4 := dk_seg dksX3_corner_3 23 rfl rfl
theorem dksX3_corner_5 : cX3_corner.data.toList.drop 115 = dktX3_corner_5 := dk_seg dksX3_corner_4 24 rfl rfl
theorem dX3_corner_0 : decode cX3_corner 0 = .ok (.aload_n 0, 1) := dk_42 (dk_at dksX3_corner_0 0 rfl rfl)
theorem dX3_corner_1 : decode cX3_corner 1 = .ok (.invokevirtual 173, 3) := dk_182 0 173 (dk_at dksX3_corner_0 1 rfl rfl)
theorem dX3_corner_4 : decode cX3_corner 4 = .ok (.iconst 0, 1) := dk_3 (dk_at dksX3_corner_0 4 rfl rfl)
theorem dX3_corner_5 : decode cX3_corner 5 = .ok (.istore_n 3, 1) := dk_62 (dk_at dksX3_corner_0 5 rfl rfl)
theorem dX3_corner_6 : decode cX3_corner 6 = .ok (.aload_n 0, 1) := dk_42 (dk_at dksX3_corner_0 6 rfl rfl)
theorem dX3_corner_7 : decode cX3_corner 7 = .ok (.getfield 88, 3) := dk_180 0 88 (dk_at dksX3_corner_0 7 rfl rfl)
theorem dX3_corner_10 : decode cX3_corner 10 = .ok (.getfield 112, 3) := dk_180 0 112 (dk_at dksX3_corner_0 10 rfl rfl)
theorem dX3_corner_13 : decode cX3_corner 13 = .ok (.iload_n 3, 1) := dk_29 (dk_at dksX3_corner_0 13 rfl rfl)
theorem dX3_corner_14 : decode cX3_corner 14 = .ok (.iaload, 1) := dk_46 (dk_at dksX3_corner_0 14 rfl rfl)
theorem dX3_corner_15 : decode cX3_corner 15 = .ok (.iload_n 1, 1) := dk_27 (dk_at dksX3_corner_0 15 rfl rfl)
theorem dX3_corner_16 : decode cX3_corner 16 = .ok (.if_icmp .eq 9, 3) := dk_159 0 9 (dk_at dksX3_corner_0 16 rfl rfl)
theorem dX3_corner_19 : decode cX3_corner 19 = .ok (.iinc 3 1, 3) := dk_132 3 1 (dk_at dksX3_corner_0 19 rfl rfl)
theorem dX3_corner_22 : decode cX3_corner 22 = .ok (.goto (-16), 3) := dk_167 255 240 (dk_at dksX3_corner_1 0 rfl rfl)
theorem dX3_corner_25 : decode cX3_corner 25 = .ok (.iload_n 3, 1) := dk_29 (dk_at dksX3_corner_1 3 rfl rfl)
theorem dX3_corner_26 : decode cX3_corner 26 = .ok (.istore 4, 2) := dk_54 4 (dk_at dksX3_corner_1 4 rfl rfl)
theorem dX3_corner_28 : decode cX3_corner 28 = .ok (.iload 4, 2) := dk_21 4 (dk_at dksX3_corner_1 6 rfl rfl)
theorem dX3_corner_30 : decode cX3_corner 30 = .ok (.aload_n 0, 1) := dk_42 (dk_at dksX3_corner_1 8 rfl rfl)
theorem dX3_corner_31 : decode cX3_corner 31 = .ok (.getfield 88, 3) := dk_180 0 88 (dk_at dksX3_corner_1 9 rfl rfl)
theorem dX3_corner_34 : decode cX3_corner 34 = .ok (.getfield 109, 3) := dk_180 0 109 (dk_at dksX3_corner_1 12 rfl rfl)
theorem dX3_corner_37 : decode cX3_corner 37 = .ok (.if_icmp .ge 23, 3) := dk_162 0 23 (dk_at dksX3_corner_1 15 rfl rfl)
theorem dX3_corner_40 : decode cX3_corner 40 = .ok (.aload_n 0, 1) := dk_42 (dk_at dksX3_corner_1 18 rfl rfl)
theorem dX3_corner_41 : decode cX3_corner 41 = .ok (.getfield 88, 3) := dk_180 0 88 (dk_at dksX3_corner_1 19 rfl rfl)
theorem dX3_corner_44 : decode cX3_corner 44 = .ok (.getfield 112, 3) := dk_180 0 112 (dk_at dksX3_corner_2 0 rfl rfl)
theorem dX3_corner_47 : decode cX3_corner 47 = .ok (.iload 4, 2) := dk_21 4 (dk_at dksX3_corner_2 3 rfl rfl)
theorem dX3_corner_49 : decode cX3_corner 49 = .ok (.iaload, 1) := dk_46 (dk_at dksX3_corner_2 5 rfl rfl)
theorem dX3_corner_50 : decode cX3_corner 50 = .ok (.iload_n 1, 1) := dk_27 (dk_at dksX3_corner_2 6 rfl rfl)
theorem dX3_corner_51 : decode cX3_corner 51 = .ok (.if_icmp .ne 9, 3) := dk_160 0 9 (dk_at dksX3_corner_2 7 rfl rfl)
theorem dX3_corner_54 : decode cX3_corner 54 = .ok (.iinc 4 1, 3) := dk_132 4 1 (dk_at dksX3_corner_2 10 rfl rfl)
theorem dX3_corner_57 : decode cX3_corner 57 = .ok (.goto (-29), 3) := dk_167 255 227 (dk_at dksX3_corner_2 13 rfl rfl)
theorem dX3_corner_60 : decode cX3_corner 60 = .ok (.iload_n 2, 1) := dk_28 (dk_at dksX3_corner_2 16 rfl rfl)
theorem dX3_corner_61 : decode cX3_corner 61 = .ok (.istore 5, 2) := dk_54 5 (dk_at dksX3_corner_2 17 rfl rfl)
theorem dX3_corner_63 : decode cX3_corner 63 = .ok (.iload_n 3, 1) := dk_29 (dk_at dksX3_corner_2 19 rfl rfl)
theorem dX3_corner_64 : decode cX3_corner 64 = .ok (.istore 6, 2) := dk_54 6 (dk_at dksX3_corner_2 20 rfl rfl)
theorem dX3_corner_66 : decode cX3_corner 66 = .ok (.iload 6, 2) := dk_21 6 (dk_at dksX3_corner_2 22 rfl rfl)
theorem dX3_corner_68 : decode cX3_corner 68 = .ok (.iload 4, 2) := dk_21 4 (dk_at dksX3_corner_3 0 rfl rfl)
theorem dX3_corner_70 : decode cX3_corner 70 = .ok (.if_icmp .ge 44, 3) := dk_162 0 44 (dk_at dksX3_corner_3 2 rfl rfl)
theorem dX3_corner_73 : decode cX3_corner 73 = .ok (.iload 6, 2) := dk_21 6 (dk_at dksX3_corner_3 5 rfl rfl)
theorem dX3_corner_75 : decode cX3_corner 75 = .ok (.iload_n 3, 1) := dk_29 (dk_at dksX3_corner_3 7 rfl rfl)
theorem dX3_corner_76 : decode cX3_corner 76 = .ok (.if_icmp .eq 21, 3) := dk_159 0 21 (dk_at dksX3_corner_3 8 rfl rfl)
theorem dX3_corner_79 : decode cX3_corner 79 = .ok (.iload 6, 2) := dk_21 6 (dk_at dksX3_corner_3 11 rfl rfl)
theorem dX3_corner_81 : decode cX3_corner 81 = .ok (.iload 4, 2) := dk_21 4 (dk_at dksX3_corner_3 13 rfl rfl)
theorem dX3_corner_83 : decode cX3_corner 83 = .ok (.iconst 1, 1) := dk_4 (dk_at dksX3_corner_3 15 rfl rfl)
theorem dX3_corner_84 : decode cX3_corner 84 = .ok (.isub, 1) := dk_100 (dk_at dksX3_corner_3 16 rfl rfl)
theorem dX3_corner_85 : decode cX3_corner 85 = .ok (.if_icmp .eq 12, 3) := dk_159 0 12 (dk_at dksX3_corner_3 17 rfl rfl)
theorem dX3_corner_88 : decode cX3_corner 88 = .ok (.aload_n 0, 1) := dk_42 (dk_at dksX3_corner_3 20 rfl rfl)
theorem dX3_corner_89 : decode cX3_corner 89 = .ok (.iload 6, 2) := dk_21 6 (dk_at dksX3_corner_3 21 rfl rfl)
theorem dX3_corner_91 : decode cX3_corner 91 = .ok (.invokevirtual 212, 3) := dk_182 0 212 (dk_at dksX3_corner_4 0 rfl rfl)
theorem dX3_corner_94 : decode cX3_corner 94 = .ok (.ifCond .eq 14, 3) := dk_153 0 14 (dk_at dksX3_corner_4 3 rfl rfl)
theorem dX3_corner_97 : decode cX3_corner 97 = .ok (.iload 5, 2) := dk_21 5 (dk_at dksX3_corner_4 6 rfl rfl)
theorem dX3_corner_99 : decode cX3_corner 99 = .ok (.ifCond .ne 6, 3) := dk_154 0 6 (dk_at dksX3_corner_4 8 rfl rfl)
theorem dX3_corner_102 : decode cX3_corner 102 = .ok (.iload 6, 2) := dk_21 6 (dk_at dksX3_corner_4 11 rfl rfl)
theorem dX3_corner_104 : decode cX3_corner 104 = .ok (.ireturn, 1) := dk_172 (dk_at dksX3_corner_4 13 rfl rfl)
theorem dX3_corner_105 : decode cX3_corner 105 = .ok (.iinc 5 (-1), 3) := dk_132 5 255 (dk_at dksX3_corner_4 14 rfl rfl)
theorem dX3_corner_108 : decode cX3_corner 108 = .ok (.iinc 6 1, 3) := dk_132 6 1 (dk_at dksX3_corner_4 17 rfl rfl)
theorem dX3_corner_111 : decode cX3_corner 111 = .ok (.goto (-45), 3) := dk_167 255 211 (dk_at dksX3_corner_4 20 rfl rfl)
theorem dX3_corner_114 : decode cX3_corner 114 = .ok (.iconst (-1), 1) := dk_2 (dk_at dksX3_corner_4 23 rfl rfl)
theorem dX3_corner_115 : decode cX3_corner 115 = .ok (.ireturn, 1) := dk_172 (dk_at dksX3_corner_5 0 rfl rfl)
abbrev cX3_turns : ByteArray := prog_12_method_28_code
def yX3_turns : MethodName := ⟨RX3, "turns", "(I)Z"⟩
def dkwX3_turns_7 : List UInt8 := [22, 14, 105, 22, 12, 22, 10, 105, 148, 153, 0, 7, 4, 167, 0, 4, 3, 172]
abbrev dktX3_turns_7 : List UInt8 := dkwX3_turns_7 ++ []
def dkwX3_turns_6 : List UInt8 := [105, 22, 4, 105, 42, 180, 0, 88, 180, 0, 114, 27, 46, 133, 32, 105, 22, 6, 105, 101, 55, 14, 22, 8]
abbrev dktX3_turns_6 : List UInt8 := dkwX3_turns_6 ++ dktX3_turns_7
def dkwX3_turns_5 : List UInt8 := [182, 0, 216, 32, 105, 22, 6, 105, 101, 55, 12, 42, 180, 0, 88, 180, 0, 114, 27, 4, 96, 46, 133, 32]
abbrev dktX3_turns_5 : List UInt8 := dkwX3_turns_5 ++ dktX3_turns_6
def dkwX3_turns_4 : List UInt8 := [22, 4, 105, 22, 6, 105, 101, 55, 10, 42, 27, 4, 96, 182, 0, 216, 32, 105, 22, 4, 105, 42, 27]
abbrev dktX3_turns_4 : List UInt8 := dkwX3_turns_4 ++ dktX3_turns_5
def dkwX3_turns_3 : List UInt8 := [180, 0, 114, 27, 46, 133, 32, 105, 22, 6, 105, 42, 180, 0, 88, 180, 0, 114, 27, 4, 100, 46, 133]
abbrev dktX3_turns_3 : List UInt8 := dkwX3_turns_3 ++ dktX3_turns_4
def dkwX3_turns_2 : List UInt8 := [22, 6, 105, 42, 27, 4, 100, 182, 0, 216, 22, 4, 105, 22, 6, 105, 101, 55, 8, 42, 180, 0, 88]
abbrev dktX3_turns_2 : List UInt8 := dkwX3_turns_2 ++ dktX3_turns_3
def dkwX3_turns_1 : List UInt8 := [55, 4, 42, 180, 0, 88, 180, 0, 117, 27, 4, 96, 46, 133, 55, 6, 42, 27, 182, 0, 216, 32, 105]
abbrev dktX3_turns_1 : List UInt8 := dkwX3_turns_1 ++ dktX3_turns_2
def dkwX3_turns_0 : List UInt8 := [42, 180, 0, 88, 180, 0, 117, 27, 4, 100, 46, 133, 65, 42, 180, 0, 88, 180, 0, 117, 27, 46, 133]
abbrev dktX3_turns_0 : List UInt8 := dkwX3_turns_0 ++ dktX3_turns_1
theorem dksX3_turns_0 : cX3_turns.data.toList.drop 0 = dktX3_turns_0 := by decide +kernel
theorem dksX3_turns_1 : cX3_turns.data.toList.drop 23 = dktX3_turns_1 := dk_seg dksX3_turns_0 23 rfl rfl
theorem dksX3_turns_2 : cX3_turns.data.toList.drop 46 = dktX3_turns_2 := dk_seg dksX3_turns_1 23 rfl rfl
theorem dksX3_turns_3 : cX3_turns.data.toList.drop 69 = dktX3_turns_3 := dk_seg dksX3_turns_2 23 rfl rfl
theorem dksX3_turns_4 : cX3_turns.data.toList.drop 92 = dktX3_turns_4 := dk_seg dksX3_turns_3 23 rfl rfl
theorem dksX3_turns_5 : cX3_turns.data.toList.drop 115 = dktX3_turns_5 := dk_seg dksX3_turns_4 23 rfl rfl
theorem dksX3_turns_6 : cX3_turns.data.toList.drop 139 = dktX3_turns_6 := dk_seg dksX3_turns_5 24 rfl rfl
theorem dksX3_turns_7 : cX3_turns.data.toList.drop 163 = dktX3_turns_7 := dk_seg dksX3_turns_6 24 rfl rfl
theorem dX3_turns_0 : decode cX3_turns 0 = .ok (.aload_n 0, 1) := dk_42 (dk_at dksX3_turns_0 0 rfl rfl)
theorem dX3_turns_1 : decode cX3_turns 1 = .ok (.getfield 88, 3) := dk_180 0 88 (dk_at dksX3_turns_0 1 rfl rfl)
theorem dX3_turns_4 : decode cX3_turns 4 = .ok (.getfield 117, 3) := dk_180 0 117 (dk_at dksX3_turns_0 4 rfl rfl)
theorem dX3_turns_7 : decode cX3_turns 7 = .ok (.iload_n 1, 1) := dk_27 (dk_at dksX3_turns_0 7 rfl rfl)
theorem dX3_turns_8 : decode cX3_turns 8 = .ok (.iconst 1, 1) := dk_4 (dk_at dksX3_turns_0 8 rfl rfl)
theorem dX3_turns_9 : decode cX3_turns 9 = .ok (.isub, 1) := dk_100 (dk_at dksX3_turns_0 9 rfl rfl)
theorem dX3_turns_10 : decode cX3_turns 10 = .ok (.iaload, 1) := dk_46 (dk_at dksX3_turns_0 10 rfl rfl)
theorem dX3_turns_11 : decode cX3_turns 11 = .ok (.i2l, 1) := dk_133 (dk_at dksX3_turns_0 11 rfl rfl)
theorem dX3_turns_12 : decode cX3_turns 12 = .ok (.lstore_n 2, 1) := dk_65 (dk_at dksX3_turns_0 12 rfl rfl)
theorem dX3_turns_13 : decode cX3_turns 13 = .ok (.aload_n 0, 1) := dk_42 (dk_at dksX3_turns_0 13 rfl rfl)
theorem dX3_turns_14 : decode cX3_turns 14 = .ok (.getfield 88, 3) := dk_180 0 88 (dk_at dksX3_turns_0 14 rfl rfl)
theorem dX3_turns_17 : decode cX3_turns 17 = .ok (.getfield 117, 3) := dk_180 0 117 (dk_at dksX3_turns_0 17 rfl rfl)
theorem dX3_turns_20 : decode cX3_turns 20 = .ok (.iload_n 1, 1) := dk_27 (dk_at dksX3_turns_0 20 rfl rfl)
theorem dX3_turns_21 : decode cX3_turns 21 = .ok (.iaload, 1) := dk_46 (dk_at dksX3_turns_0 21 rfl rfl)
theorem dX3_turns_22 : decode cX3_turns 22 = .ok (.i2l, 1) := dk_133 (dk_at dksX3_turns_0 22 rfl rfl)
theorem dX3_turns_23 : decode cX3_turns 23 = .ok (.lstore 4, 2) := dk_55 4 (dk_at dksX3_turns_1 0 rfl rfl)
theorem dX3_turns_25 : decode cX3_turns 25 = .ok (.aload_n 0, 1) := dk_42 (dk_at dksX3_turns_1 2 rfl rfl)
theorem dX3_turns_26 : decode cX3_turns 26 = .ok (.getfield 88, 3) := dk_180 0 88 (dk_at dksX3_turns_1 3 rfl rfl)
theorem dX3_turns_29 : decode cX3_turns 29 = .ok (.getfield 117, 3) := dk_180 0 117 (dk_at dksX3_turns_1 6 rfl rfl)
theorem dX3_turns_32 : decode cX3_turns 32 = .ok (.iload_n 1, 1) := dk_27 (dk_at dksX3_turns_1 9 rfl rfl)
theorem dX3_turns_33 : decode cX3_turns 33 = .ok (.iconst 1, 1) := dk_4 (dk_at dksX3_turns_1 10 rfl rfl)
theorem dX3_turns_34 : decode cX3_turns 34 = .ok (.iadd, 1) := dk_96 (dk_at dksX3_turns_1 11 rfl rfl)
theorem dX3_turns_35 : decode cX3_turns 35 = .ok (.iaload, 1) := dk_46 (dk_at dksX3_turns_1 12 rfl rfl)
theorem dX3_turns_36 : decode cX3_turns 36 = .ok (.i2l, 1) := dk_133 (dk_at dksX3_turns_1 13 rfl rfl)
theorem dX3_turns_37 : decode cX3_turns 37 = .ok (.lstore 6, 2) := dk_55 6 (dk_at dksX3_turns_1 14 rfl rfl)
theorem dX3_turns_39 : decode cX3_turns 39 = .ok (.aload_n 0, 1) := dk_42 (dk_at dksX3_turns_1 16 rfl rfl)
theorem dX3_turns_40 : decode cX3_turns 40 = .ok (.iload_n 1, 1) := dk_27 (dk_at dksX3_turns_1 17 rfl rfl)
theorem dX3_turns_41 : decode cX3_turns 41 = .ok (.invokevirtual 216, 3) := dk_182 0 216 (dk_at dksX3_turns_1 18 rfl rfl)
theorem dX3_turns_44 : decode cX3_turns 44 = .ok (.lload_n 2, 1) := dk_32 (dk_at dksX3_turns_1 21 rfl rfl)
theorem dX3_turns_45 : decode cX3_turns 45 = .ok (.lmul, 1) := dk_105 (dk_at dksX3_turns_1 22 rfl rfl)
theorem dX3_turns_46 : decode cX3_turns 46 = .ok (.lload 6, 2) := dk_22 6 (dk_at dksX3_turns_2 0 rfl rfl)
theorem dX3_turns_48 : decode cX3_turns 48 = .ok (.lmul, 1) := dk_105 (dk_at dksX3_turns_2 2 rfl rfl)
theorem dX3_turns_49 : decode cX3_turns 49 = .ok (.aload_n 0, 1) := dk_42 (dk_at dksX3_turns_2 3 rfl rfl)
theorem dX3_turns_50 : decode cX3_turns 50 = .ok (.iload_n 1, 1) := dk_27 (dk_at dksX3_turns_2 4 rfl rfl)
theorem dX3_turns_51 : decode cX3_turns 51 = .ok (.iconst 1, 1) := dk_4 (dk_at dksX3_turns_2 5 rfl rfl)
theorem dX3_turns_52 : decode cX3_turns 52 = .ok (.isub, 1) := dk_100 (dk_at dksX3_turns_2 6 rfl rfl)
theorem dX3_turns_53 : decode cX3_turns 53 = .ok (.invokevirtual 216, 3) := dk_182 0 216 (dk_at dksX3_turns_2 7 rfl rfl)
theorem dX3_turns_56 : decode cX3_turns 56 = .ok (.lload 4, 2) := dk_22 4 (dk_at dksX3_turns_2 10 rfl rfl)
theorem dX3_turns_58 : decode cX3_turns 58 = .ok (.lmul, 1) := dk_105 (dk_at dksX3_turns_2 12 rfl rfl)
theorem dX3_turns_59 : decode cX3_turns 59 = .ok (.lload 6, 2) := dk_22 6 (dk_at dksX3_turns_2 13 rfl rfl)
theorem dX3_turns_61 : decode cX3_turns 61 = .ok (.lmul, 1) := dk_105 (dk_at dksX3_turns_2 15 rfl rfl)
theorem dX3_turns_62 : decode cX3_turns 62 = .ok (.lsub, 1) := dk_101 (dk_at dksX3_turns_2 16 rfl rfl)
theorem dX3_turns_63 : decode cX3_turns 63 = .ok (.lstore 8, 2) := dk_55 8 (dk_at dksX3_turns_2 17 rfl rfl)
theorem dX3_turns_65 : decode cX3_turns 65 = .ok (.aload_n 0, 1) := dk_42 (dk_at dksX3_turns_2 19 rfl rfl)
theorem dX3_turns_66 : decode cX3_turns 66 = .ok (.getfield 88, 3) := dk_180 0 88 (dk_at dksX3_turns_2 20 rfl rfl)
theorem dX3_turns_69 : decode cX3_turns 69 = .ok (.getfield 114, 3) := dk_180 0 114 (dk_at dksX3_turns_3 0 rfl rfl)
theorem dX3_turns_72 : decode cX3_turns 72 = .ok (.iload_n 1, 1) := dk_27 (dk_at dksX3_turns_3 3 rfl rfl)
theorem dX3_turns_73 : decode cX3_turns 73 = .ok (.iaload, 1) := dk_46 (dk_at dksX3_turns_3 4 rfl rfl)
theorem dX3_turns_74 : decode cX3_turns 74 = .ok (.i2l, 1) := dk_133 (dk_at dksX3_turns_3 5 rfl rfl)
theorem dX3_turns_75 : decode cX3_turns 75 = .ok (.lload_n 2, 1) := dk_32 (dk_at dksX3_turns_3 6 rfl rfl)
theorem dX3_turns_76 : decode cX3_turns 76 = .ok (.lmul, 1) := dk_105 (dk_at dksX3_turns_3 7 rfl rfl)
theorem dX3_turns_77 : decode cX3_turns 77 = .ok (.lload 6, 2) := dk_22 6 (dk_at dksX3_turns_3 8 rfl rfl)
theorem dX3_turns_79 : decode cX3_turns 79 = .ok (.lmul, 1) := dk_105 (dk_at dksX3_turns_3 10 rfl rfl)
theorem dX3_turns_80 : decode cX3_turns 80 = .ok (.aload_n 0, 1) := dk_42 (dk_at dksX3_turns_3 11 rfl rfl)
theorem dX3_turns_81 : decode cX3_turns 81 = .ok (.getfield 88, 3) := dk_180 0 88 (dk_at dksX3_turns_3 12 rfl rfl)
theorem dX3_turns_84 : decode cX3_turns 84 = .ok (.getfield 114, 3) := dk_180 0 114 (dk_at dksX3_turns_3 15 rfl rfl)
theorem dX3_turns_87 : decode cX3_turns 87 = .ok (.iload_n 1, 1) := dk_27 (dk_at dksX3_turns_3 18 rfl rfl)
theorem dX3_turns_88 : decode cX3_turns 88 = .ok (.iconst 1, 1) := dk_4 (dk_at dksX3_turns_3 19 rfl rfl)
theorem dX3_turns_89 : decode cX3_turns 89 = .ok (.isub, 1) := dk_100 (dk_at dksX3_turns_3 20 rfl rfl)
theorem dX3_turns_90 : decode cX3_turns 90 = .ok (.iaload, 1) := dk_46 (dk_at dksX3_turns_3 21 rfl rfl)
theorem dX3_turns_91 : decode cX3_turns 91 = .ok (.i2l, 1) := dk_133 (dk_at dksX3_turns_3 22 rfl rfl)
theorem dX3_turns_92 : decode cX3_turns 92 = .ok (.lload 4, 2) := dk_22 4 (dk_at dksX3_turns_4 0 rfl rfl)
theorem dX3_turns_94 : decode cX3_turns 94 = .ok (.lmul, 1) := dk_105 (dk_at dksX3_turns_4 2 rfl rfl)
theorem dX3_turns_95 : decode cX3_turns 95 = .ok (.lload 6, 2) := dk_22 6 (dk_at dksX3_turns_4 3 rfl rfl)
theorem dX3_turns_97 : decode cX3_turns 97 = .ok (.lmul, 1) := dk_105 (dk_at dksX3_turns_4 5 rfl rfl)
theorem dX3_turns_98 : decode cX3_turns 98 = .ok (.lsub, 1) := dk_101 (dk_at dksX3_turns_4 6 rfl rfl)
theorem dX3_turns_99 : decode cX3_turns 99 = .ok (.lstore 10, 2) := dk_55 10 (dk_at dksX3_turns_4 7 rfl rfl)
theorem dX3_turns_101 : decode cX3_turns 101 = .ok (.aload_n 0, 1) := dk_42 (dk_at dksX3_turns_4 9 rfl rfl)
theorem dX3_turns_102 : decode cX3_turns 102 = .ok (.iload_n 1, 1) := dk_27 (dk_at dksX3_turns_4 10 rfl rfl)
theorem dX3_turns_103 : decode cX3_turns 103 = .ok (.iconst 1, 1) := dk_4 (dk_at dksX3_turns_4 11 rfl rfl)
theorem dX3_turns_104 : decode cX3_turns 104 = .ok (.iadd, 1) := dk_96 (dk_at dksX3_turns_4 12 rfl rfl)
theorem dX3_turns_105 : decode cX3_turns 105 = .ok (.invokevirtual 216, 3) := dk_182 0 216 (dk_at dksX3_turns_4 13 rfl rfl)
theorem dX3_turns_108 : decode cX3_turns 108 = .ok (.lload_n 2, 1) := dk_32 (dk_at dksX3_turns_4 16 rfl rfl)
theorem dX3_turns_109 : decode cX3_turns 109 = .ok (.lmul, 1) := dk_105 (dk_at dksX3_turns_4 17 rfl rfl)
theorem dX3_turns_110 : decode cX3_turns 110 = .ok (.lload 4, 2) := dk_22 4 (dk_at dksX3_turns_4 18 rfl rfl)
theorem dX3_turns_112 : decode cX3_turns 112 = .ok (.lmul, 1) := dk_105 (dk_at dksX3_turns_4 20 rfl rfl)
theorem dX3_turns_113 : decode cX3_turns 113 = .ok (.aload_n 0, 1) := dk_42 (dk_at dksX3_turns_4 21 rfl rfl)
theorem dX3_turns_114 : decode cX3_turns 114 = .ok (.iload_n 1, 1) := dk_27 (dk_at dksX3_turns_4 22 rfl rfl)
theorem dX3_turns_115 : decode cX3_turns 115 = .ok (.invokevirtual 216, 3) := dk_182 0 216 (dk_at dksX3_turns_5 0 rfl rfl)
theorem dX3_turns_118 : decode cX3_turns 118 = .ok (.lload_n 2, 1) := dk_32 (dk_at dksX3_turns_5 3 rfl rfl)
theorem dX3_turns_119 : decode cX3_turns 119 = .ok (.lmul, 1) := dk_105 (dk_at dksX3_turns_5 4 rfl rfl)
theorem dX3_turns_120 : decode cX3_turns 120 = .ok (.lload 6, 2) := dk_22 6 (dk_at dksX3_turns_5 5 rfl rfl)
theorem dX3_turns_122 : decode cX3_turns 122 = .ok (.lmul, 1) := dk_105 (dk_at dksX3_turns_5 7 rfl rfl)
theorem dX3_turns_123 : decode cX3_turns 123 = .ok (.lsub, 1) := dk_101 (dk_at dksX3_turns_5 8 rfl rfl)
theorem dX3_turns_124 : decode cX3_turns 124 = .ok (.lstore 12, 2) := dk_55 12 (dk_at dksX3_turns_5 9 rfl rfl)
theorem dX3_turns_126 : decode cX3_turns 126 = .ok (.aload_n 0, 1) := dk_42 (dk_at dksX3_turns_5 11 rfl rfl)
theorem dX3_turns_127 : decode cX3_turns 127 = .ok (.getfield 88, 3) := dk_180 0 88 (dk_at dksX3_turns_5 12 rfl rfl)
theorem dX3_turns_130 : decode cX3_turns 130 = .ok (.getfield 114, 3) := dk_180 0 114 (dk_at dksX3_turns_5 15 rfl rfl)
theorem dX3_turns_133 : decode cX3_turns 133 = .ok (.iload_n 1, 1) := dk_27 (dk_at dksX3_turns_5 18 rfl rfl)
theorem dX3_turns_134 : decode cX3_turns 134 = .ok (.iconst 1, 1) := dk_4 (dk_at dksX3_turns_5 19 rfl rfl)
theorem dX3_turns_135 : decode cX3_turns 135 = .ok (.iadd, 1) := dk_96 (dk_at dksX3_turns_5 20 rfl rfl)
theorem dX3_turns_136 : decode cX3_turns 136 = .ok (.iaload, 1) := dk_46 (dk_at dksX3_turns_5 21 rfl rfl)
theorem dX3_turns_137 : decode cX3_turns 137 = .ok (.i2l, 1) := dk_133 (dk_at dksX3_turns_5 22 rfl rfl)
theorem dX3_turns_138 : decode cX3_turns 138 = .ok (.lload_n 2, 1) := dk_32 (dk_at dksX3_turns_5 23 rfl rfl)
theorem dX3_turns_139 : decode cX3_turns 139 = .ok (.lmul, 1) := dk_105 (dk_at dksX3_turns_6 0 rfl rfl)
theorem dX3_turns_140 : decode cX3_turns 140 = .ok (.lload 4, 2) := dk_22 4 (dk_at dksX3_turns_6 1 rfl rfl)
theorem dX3_turns_142 : decode cX3_turns 142 = .ok (.lmul, 1) := dk_105 (dk_at dksX3_turns_6 3 rfl rfl)
theorem dX3_turns_143 : decode cX3_turns 143 = .ok (.aload_n 0, 1) := dk_42 (dk_at dksX3_turns_6 4 rfl rfl)
theorem dX3_turns_144 : decode cX3_turns 144 = .ok (.getfield 88, 3) := dk_180 0 88 (dk_at dksX3_turns_6 5 rfl rfl)
theorem dX3_turns_147 : decode cX3_turns 147 = .ok (.getfield 114, 3) := dk_180 0 114 (dk_at dksX3_turns_6 8 rfl rfl)
theorem dX3_turns_150 : decode cX3_turns 150 = .ok (.iload_n 1, 1) := dk_27 (dk_at dksX3_turns_6 11 rfl rfl)
theorem dX3_turns_151 : decode cX3_turns 151 = .ok (.iaload, 1) := dk_46 (dk_at dksX3_turns_6 12 rfl rfl)
theorem dX3_turns_152 : decode cX3_turns 152 = .ok (.i2l, 1) := dk_133 (dk_at dksX3_turns_6 13 rfl rfl)
theorem dX3_turns_153 : decode cX3_turns 153 = .ok (.lload_n 2, 1) := dk_32 (dk_at dksX3_turns_6 14 rfl rfl)
theorem dX3_turns_154 : decode cX3_turns 154 = .ok (.lmul, 1) := dk_105 (dk_at dksX3_turns_6 15 rfl rfl)
theorem dX3_turns_155 : decode cX3_turns 155 = .ok (.lload 6, 2) := dk_22 6 (dk_at dksX3_turns_6 16 rfl rfl)
theorem dX3_turns_157 : decode cX3_turns 157 = .ok (.lmul, 1) := dk_105 (dk_at dksX3_turns_6 18 rfl rfl)
theorem dX3_turns_158 : decode cX3_turns 158 = .ok (.lsub, 1) := dk_101 (dk_at dksX3_turns_6 19 rfl rfl)
theorem dX3_turns_159 : decode cX3_turns 159 = .ok (.lstore 14, 2) := dk_55 14 (dk_at dksX3_turns_6 20 rfl rfl)
theorem dX3_turns_161 : decode cX3_turns 161 = .ok (.lload 8, 2) := dk_22 8 (dk_at dksX3_turns_6 22 rfl rfl)
theorem dX3_turns_163 : decode cX3_turns 163 = .ok (.lload 14, 2) := dk_22 14 (dk_at dksX3_turns_7 0 rfl rfl)
theorem dX3_turns_165 : decode cX3_turns 165 = .ok (.lmul, 1) := dk_105 (dk_at dksX3_turns_7 2 rfl rfl)
theorem dX3_turns_166 : decode cX3_turns 166 = .ok (.lload 12, 2) := dk_22 12 (dk_at dksX3_turns_7 3 rfl rfl)
theorem dX3_turns_168 : decode cX3_turns 168 = .ok (.lload 10, 2) := dk_22 10 (dk_at dksX3_turns_7 5 rfl rfl)
theorem dX3_turns_170 : decode cX3_turns 170 = .ok (.lmul, 1) := dk_105 (dk_at dksX3_turns_7 7 rfl rfl)
theorem dX3_turns_171 : decode cX3_turns 171 = .ok (.lcmp, 1) := dk_148 (dk_at dksX3_turns_7 8 rfl rfl)
theorem dX3_turns_172 : decode cX3_turns 172 = .ok (.ifCond .eq 7, 3) := dk_153 0 7 (dk_at dksX3_turns_7 9 rfl rfl)
theorem dX3_turns_175 : decode cX3_turns 175 = .ok (.iconst 1, 1) := dk_4 (dk_at dksX3_turns_7 12 rfl rfl)
theorem dX3_turns_176 : decode cX3_turns 176 = .ok (.goto 4, 3) := dk_167 0 4 (dk_at dksX3_turns_7 13 rfl rfl)
theorem dX3_turns_179 : decode cX3_turns 179 = .ok (.iconst 0, 1) := dk_3 (dk_at dksX3_turns_7 16 rfl rfl)
theorem dX3_turns_180 : decode cX3_turns 180 = .ok (.ireturn, 1) := dk_172 (dk_at dksX3_turns_7 17 rfl rfl)
abbrev cX3_heightAt : ByteArray := prog_12_method_27_code
def yX3_heightAt : MethodName := ⟨RX3, "heightAt", "(I)J"⟩
def dkwX3_heightAt_1 : List UInt8 := [180, 0, 114, 27, 46, 133, 42, 180, 0, 88, 180, 0, 117, 27, 46, 133, 182, 0, 159, 173]
abbrev dktX3_heightAt_1 : List UInt8 := dkwX3_heightAt_1 ++ []
def dkwX3_heightAt_0 : List UInt8 := [42, 4, 42, 180, 0, 21, 120, 4, 100, 42, 180, 0, 88, 180, 0, 112, 27, 46, 42, 180, 0, 88]
abbrev dktX3_heightAt_0 : List UInt8 := dkwX3_heightAt_0 ++ dktX3_heightAt_1
theorem dksX3_heightAt_0 : cX3_heightAt.data.toList.drop 0 = dktX3_heightAt_0 := by decide +kernel
theorem dksX3_heightAt_1 : cX3_heightAt.data.toList.drop 22 = dktX3_heightAt_1 := dk_seg dksX3_heightAt_0 22 rfl rfl
theorem dX3_heightAt_0 : decode cX3_heightAt 0 = .ok (.aload_n 0, 1) := dk_42 (dk_at dksX3_heightAt_0 0 rfl rfl)
theorem dX3_heightAt_1 : decode cX3_heightAt 1 = .ok (.iconst 1, 1) := dk_4 (dk_at dksX3_heightAt_0 1 rfl rfl)
theorem dX3_heightAt_2 : decode cX3_heightAt 2 = .ok (.aload_n 0, 1) := dk_42 (dk_at dksX3_heightAt_0 2 rfl rfl)
theorem dX3_heightAt_3 : decode cX3_heightAt 3 = .ok (.getfield 21, 3) := dk_180 0 21 (dk_at dksX3_heightAt_0 3 rfl rfl)
theorem dX3_heightAt_6 : decode cX3_heightAt 6 = .ok (.ishl, 1) := dk_120 (dk_at dksX3_heightAt_0 6 rfl rfl)
theorem dX3_heightAt_7 : decode cX3_heightAt 7 = .ok (.iconst 1, 1) := dk_4 (dk_at dksX3_heightAt_0 7 rfl rfl)
theorem dX3_heightAt_8 : decode cX3_heightAt 8 = .ok (.isub, 1) := dk_100 (dk_at dksX3_heightAt_0 8 rfl rfl)
theorem dX3_heightAt_9 : decode cX3_heightAt 9 = .ok (.aload_n 0, 1) := dk_42 (dk_at dksX3_heightAt_0 9 rfl rfl)
theorem dX3_heightAt_10 : decode cX3_heightAt 10 = .ok (.getfield 88, 3) := dk_180 0 88 (dk_at dksX3_heightAt_0 10 rfl rfl)
theorem dX3_heightAt_13 : decode cX3_heightAt 13 = .ok (.getfield 112, 3) := dk_180 0 112 (dk_at dksX3_heightAt_0 13 rfl rfl)
theorem dX3_heightAt_16 : decode cX3_heightAt 16 = .ok (.iload_n 1, 1) := dk_27 (dk_at dksX3_heightAt_0 16 rfl rfl)
theorem dX3_heightAt_17 : decode cX3_heightAt 17 = .ok (.iaload, 1) := dk_46 (dk_at dksX3_heightAt_0 17 rfl rfl)
theorem dX3_heightAt_18 : decode cX3_heightAt 18 = .ok (.aload_n 0, 1) := dk_42 (dk_at dksX3_heightAt_0 18 rfl rfl)
theorem dX3_heightAt_19 : decode cX3_heightAt 19 = .ok (.getfield 88, 3) := dk_180 0 88 (dk_at dksX3_heightAt_0 19 rfl rfl)
theorem dX3_heightAt_22 : decode cX3_heightAt 22 = .ok (.getfield 114, 3) := dk_180 0 114 (dk_at dksX3_heightAt_1 0 rfl rfl)
theorem dX3_heightAt_25 : decode cX3_heightAt 25 = .ok (.iload_n 1, 1) := dk_27 (dk_at dksX3_heightAt_1 3 rfl rfl)
theorem dX3_heightAt_26 : decode cX3_heightAt 26 = .ok (.iaload, 1) := dk_46 (dk_at dksX3_heightAt_1 4 rfl rfl)
theorem dX3_heightAt_27 : decode cX3_heightAt 27 = .ok (.i2l, 1) := dk_133 (dk_at dksX3_heightAt_1 5 rfl rfl)
theorem dX3_heightAt_28 : decode cX3_heightAt 28 = .ok (.aload_n 0, 1) := dk_42 (dk_at dksX3_heightAt_1 6 rfl rfl)
theorem dX3_heightAt_29 : decode cX3_heightAt 29 = .ok (.getfield 88, 3) := dk_180 0 88 (dk_at dksX3_heightAt_1 7 rfl rfl)
theorem dX3_heightAt_32 : decode cX3_heightAt 32 = .ok (.getfield 117, 3) := dk_180 0 117 (dk_at dksX3_heightAt_1 10 rfl rfl)
theorem dX3_heightAt_35 : decode cX3_heightAt 35 = .ok (.iload_n 1, 1) := dk_27 (dk_at dksX3_heightAt_1 13 rfl rfl)
theorem dX3_heightAt_36 : decode cX3_heightAt 36 = .ok (.iaload, 1) := dk_46 (dk_at dksX3_heightAt_1 14 rfl rfl)
theorem dX3_heightAt_37 : decode cX3_heightAt 37 = .ok (.i2l, 1) := dk_133 (dk_at dksX3_heightAt_1 15 rfl rfl)
theorem dX3_heightAt_38 : decode cX3_heightAt 38 = .ok (.invokevirtual 159, 3) := dk_182 0 159 (dk_at dksX3_heightAt_1 16 rfl rfl)
theorem dX3_heightAt_41 : decode cX3_heightAt 41 = .ok (.lreturn, 1) := dk_173 (dk_at dksX3_heightAt_1 19 rfl rfl)
abbrev cX3_group : ByteArray := prog_12_method_23_code
def yX3_group : MethodName := ⟨RX3, "group", "(II)I"⟩
def dkwX3_group_3 : List UInt8 := [167, 255, 222, 21, 9, 172]
abbrev dktX3_group_3 : List UInt8 := dkwX3_group_3 ++ []
def dkwX3_group_2 : List UInt8 := [4, 100, 21, 10, 100, 22, 4, 22, 6, 182, 0, 208, 54, 9, 21, 8, 21, 9, 130, 54, 8, 132, 10, 1]
abbrev dktX3_group_2 : List UInt8 := dkwX3_group_2 ++ dktX3_group_3
def dkwX3_group_1 : List UInt8 := [180, 0, 21, 120, 4, 100, 54, 8, 3, 54, 9, 3, 54, 10, 21, 10, 28, 163, 0, 34, 42, 21, 8, 27]
abbrev dktX3_group_1 : List UInt8 := dkwX3_group_1 ++ dktX3_group_2
def dkwX3_group_0 : List UInt8 := [42, 27, 182, 0, 205, 62, 42, 29, 182, 0, 185, 55, 4, 42, 29, 182, 0, 188, 55, 6, 4, 42]
abbrev dktX3_group_0 : List UInt8 := dkwX3_group_0 ++ dktX3_group_1
theorem dksX3_group_0 : cX3_group.data.toList.drop 0 = dktX3_group_0 := by decide +kernel
theorem dksX3_group_1 : cX3_group.data.toList.drop 22 = dktX3_group_1 := dk_seg dksX3_group_0 22 rfl rfl
theorem dksX3_group_2 : cX3_group.data.toList.drop 46 = dktX3_group_2 := dk_seg dksX3_group_1 24 rfl rfl
theorem dksX3_group_3 : cX3_group.data.toList.drop 70 = dktX3_group_3 := dk_seg dksX3_group_2 24 rfl rfl
theorem dX3_group_0 : decode cX3_group 0 = .ok (.aload_n 0, 1) := dk_42 (dk_at dksX3_group_0 0 rfl rfl)
theorem dX3_group_1 : decode cX3_group 1 = .ok (.iload_n 1, 1) := dk_27 (dk_at dksX3_group_0 1 rfl rfl)
theorem dX3_group_2 : decode cX3_group 2 = .ok (.invokevirtual 205, 3) := dk_182 0 205 (dk_at dksX3_group_0 2 rfl rfl)
theorem dX3_group_5 : decode cX3_group 5 = .ok (.istore_n 3, 1) := dk_62 (dk_at dksX3_group_0 5 rfl rfl)
theorem dX3_group_6 : decode cX3_group 6 = .ok (.aload_n 0, 1) := dk_42 (dk_at dksX3_group_0 6 rfl rfl)
theorem dX3_group_7 : decode cX3_group 7 = .ok (.iload_n 3, 1) := dk_29 (dk_at dksX3_group_0 7 rfl rfl)
theorem dX3_group_8 : decode cX3_group 8 = .ok (.invokevirtual 185, 3) := dk_182 0 185 (dk_at dksX3_group_0 8 rfl rfl)
theorem dX3_group_11 : decode cX3_group 11 = .ok (.lstore 4, 2) := dk_55 4 (dk_at dksX3_group_0 11 rfl rfl)
theorem dX3_group_13 : decode cX3_group 13 = .ok (.aload_n 0, 1) := dk_42 (dk_at dksX3_group_0 13 rfl rfl)
theorem dX3_group_14 : decode cX3_group 14 = .ok (.iload_n 3, 1) := dk_29 (dk_at dksX3_group_0 14 rfl rfl)
theorem dX3_group_15 : decode cX3_group 15 = .ok (.invokevirtual 188, 3) := dk_182 0 188 (dk_at dksX3_group_0 15 rfl rfl)
theorem dX3_group_18 : decode cX3_group 18 = .ok (.lstore 6, 2) := dk_55 6 (dk_at dksX3_group_0 18 rfl rfl)
theorem dX3_group_20 : decode cX3_group 20 = .ok (.iconst 1, 1) := dk_4 (dk_at dksX3_group_0 20 rfl rfl)
theorem dX3_group_21 : decode cX3_group 21 = .ok (.aload_n 0, 1) := dk_42 (dk_at dksX3_group_0 21 rfl rfl)
theorem dX3_group_22 : decode cX3_group 22 = .ok (.getfield 21, 3) := dk_180 0 21 (dk_at dksX3_group_1 0 rfl rfl)
theorem dX3_group_25 : decode cX3_group 25 = .ok (.ishl, 1) := dk_120 (dk_at dksX3_group_1 3 rfl rfl)
theorem dX3_group_26 : decode cX3_group 26 = .ok (.iconst 1, 1) := dk_4 (dk_at dksX3_group_1 4 rfl rfl)
theorem dX3_group_27 : decode cX3_group 27 = .ok (.isub, 1) := dk_100 (dk_at dksX3_group_1 5 rfl rfl)
theorem dX3_group_28 : decode cX3_group 28 = .ok (.istore 8, 2) := dk_54 8 (dk_at dksX3_group_1 6 rfl rfl)
theorem dX3_group_30 : decode cX3_group 30 = .ok (.iconst 0, 1) := dk_3 (dk_at dksX3_group_1 8 rfl rfl)
theorem dX3_group_31 : decode cX3_group 31 = .ok (.istore 9, 2) := dk_54 9 (dk_at dksX3_group_1 9 rfl rfl)
theorem dX3_group_33 : decode cX3_group 33 = .ok (.iconst 0, 1) := dk_3 (dk_at dksX3_group_1 11 rfl rfl)
theorem dX3_group_34 : decode cX3_group 34 = .ok (.istore 10, 2) := dk_54 10 (dk_at dksX3_group_1 12 rfl rfl)
theorem dX3_group_36 : decode cX3_group 36 = .ok (.iload 10, 2) := dk_21 10 (dk_at dksX3_group_1 14 rfl rfl)
theorem dX3_group_38 : decode cX3_group 38 = .ok (.iload_n 2, 1) := dk_28 (dk_at dksX3_group_1 16 rfl rfl)
theorem dX3_group_39 : decode cX3_group 39 = .ok (.if_icmp .gt 34, 3) := dk_163 0 34 (dk_at dksX3_group_1 17 rfl rfl)
theorem dX3_group_42 : decode cX3_group 42 = .ok (.aload_n 0, 1) := dk_42 (dk_at dksX3_group_1 20 rfl rfl)
theorem dX3_group_43 : decode cX3_group 43 = .ok (.iload 8, 2) := dk_21 8 (dk_at dksX3_group_1 21 rfl rfl)
theorem dX3_group_45 : decode cX3_group 45 = .ok (.iload_n 1, 1) := dk_27 (dk_at dksX3_group_1 23 rfl rfl)
theorem dX3_group_46 : decode cX3_group 46 = .ok (.iconst 1, 1) := dk_4 (dk_at dksX3_group_2 0 rfl rfl)
theorem dX3_group_47 : decode cX3_group 47 = .ok (.isub, 1) := dk_100 (dk_at dksX3_group_2 1 rfl rfl)
theorem dX3_group_48 : decode cX3_group 48 = .ok (.iload 10, 2) := dk_21 10 (dk_at dksX3_group_2 2 rfl rfl)
theorem dX3_group_50 : decode cX3_group 50 = .ok (.isub, 1) := dk_100 (dk_at dksX3_group_2 4 rfl rfl)
theorem dX3_group_51 : decode cX3_group 51 = .ok (.lload 4, 2) := dk_22 4 (dk_at dksX3_group_2 5 rfl rfl)
theorem dX3_group_53 : decode cX3_group 53 = .ok (.lload 6, 2) := dk_22 6 (dk_at dksX3_group_2 7 rfl rfl)
theorem dX3_group_55 : decode cX3_group 55 = .ok (.invokevirtual 208, 3) := dk_182 0 208 (dk_at dksX3_group_2 9 rfl rfl)
theorem dX3_group_58 : decode cX3_group 58 = .ok (.istore 9, 2) := dk_54 9 (dk_at dksX3_group_2 12 rfl rfl)
theorem dX3_group_60 : decode cX3_group 60 = .ok (.iload 8, 2) := dk_21 8 (dk_at dksX3_group_2 14 rfl rfl)
theorem dX3_group_62 : decode cX3_group 62 = .ok (.iload 9, 2) := dk_21 9 (dk_at dksX3_group_2 16 rfl rfl)
theorem dX3_group_64 : decode cX3_group 64 = .ok (.ixor, 1) := dk_130 (dk_at dksX3_group_2 18 rfl rfl)
theorem dX3_group_65 : decode cX3_group 65 = .ok (.istore 8, 2) := dk_54 8 (dk_at dksX3_group_2 19 rfl rfl)
theorem dX3_group_67 : decode cX3_group 67 = .ok (.iinc 10 1, 3) := dk_132 10 1 (dk_at dksX3_group_2 21 rfl rfl)
theorem dX3_group_70 : decode cX3_group 70 = .ok (.goto (-34), 3) := dk_167 255 222 (dk_at dksX3_group_3 0 rfl rfl)
theorem dX3_group_73 : decode cX3_group 73 = .ok (.iload 9, 2) := dk_21 9 (dk_at dksX3_group_3 3 rfl rfl)
theorem dX3_group_75 : decode cX3_group 75 = .ok (.ireturn, 1) := dk_172 (dk_at dksX3_group_3 5 rfl rfl)
abbrev cX3_greatest : ByteArray := prog_12_method_24_code
def yX3_greatest : MethodName := ⟨RX3, "greatest", "(IIJJ)I"⟩
def dkwX3_greatest_1 : List UInt8 := [182, 0, 201, 154, 0, 14, 21, 7, 4, 100, 27, 126, 54, 7, 167, 255, 221, 21, 7, 172]
abbrev dktX3_greatest_1 : List UInt8 := dkwX3_greatest_1 ++ []
def dkwX3_greatest_0 : List UInt8 := [27, 54, 7, 42, 21, 7, 33, 22, 5, 182, 0, 198, 153, 0, 18, 42, 27, 21, 7, 130, 28, 33, 22, 5]
abbrev dktX3_greatest_0 : List UInt8 := dkwX3_greatest_0 ++ dktX3_greatest_1
theorem dksX3_greatest_0 : cX3_greatest.data.toList.drop 0 = dktX3_greatest_0 := by decide +kernel
theorem dksX3_greatest_1 : cX3_greatest.data.toList.drop 24 = dktX3_greatest_1 := dk_seg dksX3_greatest_0 24 rfl rfl
theorem dX3_greatest_0 : decode cX3_greatest 0 = .ok (.iload_n 1, 1) := dk_27 (dk_at dksX3_greatest_0 0 rfl rfl)
theorem dX3_greatest_1 : decode cX3_greatest 1 = .ok (.istore 7, 2) := dk_54 7 (dk_at dksX3_greatest_0 1 rfl rfl)
theorem dX3_greatest_3 : decode cX3_greatest 3 = .ok (.aload_n 0, 1) := dk_42 (dk_at dksX3_greatest_0 3 rfl rfl)
theorem dX3_greatest_4 : decode cX3_greatest 4 = .ok (.iload 7, 2) := dk_21 7 (dk_at dksX3_greatest_0 4 rfl rfl)
theorem dX3_greatest_6 : decode cX3_greatest 6 = .ok (.lload_n 3, 1) := dk_33 (dk_at dksX3_greatest_0 6 rfl rfl)
theorem dX3_greatest_7 : decode cX3_greatest 7 = .ok (.lload 5, 2) := dk_22 5 (dk_at dksX3_greatest_0 7 rfl rfl)
theorem dX3_greatest_9 : decode cX3_greatest 9 = .ok (.invokevirtual 198, 3) := dk_182 0 198 (dk_at dksX3_greatest_0 9 rfl rfl)
theorem dX3_greatest_12 : decode cX3_greatest 12 = .ok (.ifCond .eq 18, 3) := dk_153 0 18 (dk_at dksX3_greatest_0 12 rfl rfl)
theorem dX3_greatest_15 : decode cX3_greatest 15 = .ok (.aload_n 0, 1) := dk_42 (dk_at dksX3_greatest_0 15 rfl rfl)
theorem dX3_greatest_16 : decode cX3_greatest 16 = .ok (.iload_n 1, 1) := dk_27 (dk_at dksX3_greatest_0 16 rfl rfl)
theorem dX3_greatest_17 : decode cX3_greatest 17 = .ok (.iload 7, 2) := dk_21 7 (dk_at dksX3_greatest_0 17 rfl rfl)
theorem dX3_greatest_19 : decode cX3_greatest 19 = .ok (.ixor, 1) := dk_130 (dk_at dksX3_greatest_0 19 rfl rfl)
theorem dX3_greatest_20 : decode cX3_greatest 20 = .ok (.iload_n 2, 1) := dk_28 (dk_at dksX3_greatest_0 20 rfl rfl)
theorem dX3_greatest_21 : decode cX3_greatest 21 = .ok (.lload_n 3, 1) := dk_33 (dk_at dksX3_greatest_0 21 rfl rfl)
theorem dX3_greatest_22 : decode cX3_greatest 22 = .ok (.lload 5, 2) := dk_22 5 (dk_at dksX3_greatest_0 22 rfl rfl)
theorem dX3_greatest_24 : decode cX3_greatest 24 = .ok (.invokevirtual 201, 3) := dk_182 0 201 (dk_at dksX3_greatest_1 0 rfl rfl)
theorem dX3_greatest_27 : decode cX3_greatest 27 = .ok (.ifCond .ne 14, 3) := dk_154 0 14 (dk_at dksX3_greatest_1 3 rfl rfl)
theorem dX3_greatest_30 : decode cX3_greatest 30 = .ok (.iload 7, 2) := dk_21 7 (dk_at dksX3_greatest_1 6 rfl rfl)
theorem dX3_greatest_32 : decode cX3_greatest 32 = .ok (.iconst 1, 1) := dk_4 (dk_at dksX3_greatest_1 8 rfl rfl)
theorem dX3_greatest_33 : decode cX3_greatest 33 = .ok (.isub, 1) := dk_100 (dk_at dksX3_greatest_1 9 rfl rfl)
theorem dX3_greatest_34 : decode cX3_greatest 34 = .ok (.iload_n 1, 1) := dk_27 (dk_at dksX3_greatest_1 10 rfl rfl)
theorem dX3_greatest_35 : decode cX3_greatest 35 = .ok (.iand, 1) := dk_126 (dk_at dksX3_greatest_1 11 rfl rfl)
theorem dX3_greatest_36 : decode cX3_greatest 36 = .ok (.istore 7, 2) := dk_54 7 (dk_at dksX3_greatest_1 12 rfl rfl)
theorem dX3_greatest_38 : decode cX3_greatest 38 = .ok (.goto (-35), 3) := dk_167 255 221 (dk_at dksX3_greatest_1 14 rfl rfl)
theorem dX3_greatest_41 : decode cX3_greatest 41 = .ok (.iload 7, 2) := dk_21 7 (dk_at dksX3_greatest_1 17 rfl rfl)
theorem dX3_greatest_43 : decode cX3_greatest 43 = .ok (.ireturn, 1) := dk_172 (dk_at dksX3_greatest_1 19 rfl rfl)
abbrev cX3_covering : ByteArray := prog_12_method_25_code
def yX3_covering : MethodName := ⟨RX3, "covering", "(JJ)I"⟩
def dkwX3_covering_1 : List UInt8 := [132, 5, 1, 167, 255, 234, 21, 5, 172]
abbrev dktX3_covering_1 : List UInt8 := dkwX3_covering_1 ++ []
def dkwX3_covering_0 : List UInt8 := [4, 54, 5, 42, 4, 42, 180, 0, 21, 120, 4, 100, 21, 5, 31, 33, 182, 0, 201, 154, 0, 9]
abbrev dktX3_covering_0 : List UInt8 := dkwX3_covering_0 ++ dktX3_covering_1
theorem dksX3_covering_0 : cX3_covering.data.toList.drop 0 = dktX3_covering_0 := by decide +kernel
theorem dksX3_covering_1 : cX3_covering.data.toList.drop 22 = dktX3_covering_1 := dk_seg dksX3_covering_0 22 rfl rfl
theorem dX3_covering_0 : decode cX3_covering 0 = .ok (.iconst 1, 1) := dk_4 (dk_at dksX3_covering_0 0 rfl rfl)
theorem dX3_covering_1 : decode cX3_covering 1 = .ok (.istore 5, 2) := dk_54 5 (dk_at dksX3_covering_0 1 rfl rfl)
theorem dX3_covering_3 : decode cX3_covering 3 = .ok (.aload_n 0, 1) := dk_42 (dk_at dksX3_covering_0 3 rfl rfl)
theorem dX3_covering_4 : decode cX3_covering 4 = .ok (.iconst 1, 1) := dk_4 (dk_at dksX3_covering_0 4 rfl rfl)
theorem dX3_covering_5 : decode cX3_covering 5 = .ok (.aload_n 0, 1) := dk_42 (dk_at dksX3_covering_0 5 rfl rfl)
theorem dX3_covering_6 : decode cX3_covering 6 = .ok (.getfield 21, 3) := dk_180 0 21 (dk_at dksX3_covering_0 6 rfl rfl)
theorem dX3_covering_9 : decode cX3_covering 9 = .ok (.ishl, 1) := dk_120 (dk_at dksX3_covering_0 9 rfl rfl)
theorem dX3_covering_10 : decode cX3_covering 10 = .ok (.iconst 1, 1) := dk_4 (dk_at dksX3_covering_0 10 rfl rfl)
theorem dX3_covering_11 : decode cX3_covering 11 = .ok (.isub, 1) := dk_100 (dk_at dksX3_covering_0 11 rfl rfl)
theorem dX3_covering_12 : decode cX3_covering 12 = .ok (.iload 5, 2) := dk_21 5 (dk_at dksX3_covering_0 12 rfl rfl)
theorem dX3_covering_14 : decode cX3_covering 14 = .ok (.lload_n 1, 1) := dk_31 (dk_at dksX3_covering_0 14 rfl rfl)
theorem dX3_covering_15 : decode cX3_covering 15 = .ok (.lload_n 3, 1) := dk_33 (dk_at dksX3_covering_0 15 rfl rfl)
theorem dX3_covering_16 : decode cX3_covering 16 = .ok (.invokevirtual 201, 3) := dk_182 0 201 (dk_at dksX3_covering_0 16 rfl rfl)
theorem dX3_covering_19 : decode cX3_covering 19 = .ok (.ifCond .ne 9, 3) := dk_154 0 9 (dk_at dksX3_covering_0 19 rfl rfl)
theorem dX3_covering_22 : decode cX3_covering 22 = .ok (.iinc 5 1, 3) := dk_132 5 1 (dk_at dksX3_covering_1 0 rfl rfl)
theorem dX3_covering_25 : decode cX3_covering 25 = .ok (.goto (-22), 3) := dk_167 255 234 (dk_at dksX3_covering_1 3 rfl rfl)
theorem dX3_covering_28 : decode cX3_covering 28 = .ok (.iload 5, 2) := dk_21 5 (dk_at dksX3_covering_1 6 rfl rfl)
theorem dX3_covering_30 : decode cX3_covering 30 = .ok (.ireturn, 1) := dk_172 (dk_at dksX3_covering_1 8 rfl rfl)
theorem q107 : (Jvm.Cond.initialized "NetworkCenters$Plan") ∈ lw_all := lw_g (lw_at lw_m1 3 rfl) rfl
theorem q173 : (Jvm.Cond.fieldLinkNest "NetworkCenters$Plan" (65 : Nat) "NetworkCenters$Network" "weights" "[I" "NetworkCenters") ∈ lw_tbl := lw_at lw_m1 69 rfl
theorem q177 : (Jvm.Cond.fieldLinkNest "NetworkCenters$Plan" (30 : Nat) "NetworkCenters$Network" "edges" "[LNetworkCenters$Edge;" "NetworkCenters") ∈ lw_tbl := lw_at lw_m1 73 rfl
theorem q183 : (Jvm.Cond.fieldLinkNest "NetworkCenters$Plan" (144 : Nat) "NetworkCenters$Network" "stretches" "[LNetworkCenters$Stretch;" "NetworkCenters") ∈ lw_tbl := lw_at lw_m1 79 rfl
theorem q196 : (Jvm.Cond.instantiable "NetworkCenters$Plan" (7 : Nat)) ∈ lw_all := lw_g (lw_at lw_m1 92 rfl) rfl
theorem q198 : (Jvm.Cond.instanceMethod ({ cls := "NetworkCenters$Plan", name := "<init>", desc := "(LNetworkCenters$Network;)V" } : Jvm.MethodName)) ∈ lw_all := lw_g (lw_at lw_m1 94 rfl) rfl
theorem q199 : (Jvm.Cond.code ({ cls := "NetworkCenters$Plan", name := "<init>", desc := "(LNetworkCenters$Network;)V" } : Jvm.MethodName) prog_12_method_1_code (4 : Nat) (Option.none : Option Jvm.ClassFile.FieldType)) ∈ lw_all := lw_g (lw_at lw_m1 95 rfl) rfl
theorem q200 : (Jvm.Cond.methodLink "NetworkCenters$Plan" (3 : Nat) ({ cls := "java/lang/Object", name := "<init>", desc := "()V" } : Jvm.MethodName)) ∈ lw_all := lw_g (lw_at lw_m1 96 rfl) rfl
theorem q201 : (Jvm.Cond.methodLink "NetworkCenters$Plan" (15 : Nat) ({ cls := "NetworkCenters$Network", name := "size", desc := "()I" } : Jvm.MethodName)) ∈ lw_all := lw_g (lw_at lw_m1 97 rfl) rfl
theorem q205 : (Jvm.Cond.constant "NetworkCenters$Plan" (29 : Nat) (100000 : Int32)) ∈ lw_all := lw_g (lw_at lw_m1 101 rfl) rfl
theorem q206 : (Jvm.Cond.methodLink "NetworkCenters$Plan" (45 : Nat) ({ cls := "NetworkCenters$Plan", name := "distance", desc := "(II)I" } : Jvm.MethodName)) ∈ lw_all := lw_g (lw_at lw_m1 102 rfl) rfl
theorem q207 : (Jvm.Cond.instanceMethod ({ cls := "NetworkCenters$Plan", name := "distance", desc := "(II)I" } : Jvm.MethodName)) ∈ lw_all := lw_g (lw_at lw_m1 103 rfl) rfl
theorem q208 : (Jvm.Cond.selects "NetworkCenters$Plan" ({ cls := "NetworkCenters$Plan", name := "distance", desc := "(II)I" } : Jvm.MethodName) ({ cls := "NetworkCenters$Plan", name := "distance", desc := "(II)I" } : Jvm.MethodName)) ∈ lw_all := lw_g (lw_at lw_m1 104 rfl) rfl
theorem q209 : (Jvm.Cond.code ({ cls := "NetworkCenters$Plan", name := "distance", desc := "(II)I" } : Jvm.MethodName) prog_12_method_2_code (3 : Nat) (Option.some Jvm.ClassFile.FieldType.int)) ∈ lw_all := lw_g (lw_at lw_m1 105 rfl) rfl
theorem q210 : (Jvm.Cond.methodLink "NetworkCenters$Plan" (49 : Nat) ({ cls := "java/lang/Math", name := "min", desc := "(II)I" } : Jvm.MethodName)) ∈ lw_all := lw_g (lw_at lw_m1 106 rfl) rfl
theorem q213 : (Jvm.Cond.fieldLink "NetworkCenters$Plan" (9 : Nat) "NetworkCenters$Plan" "net" "LNetworkCenters$Network;") ∈ lw_all := lw_g (lw_at lw_m1 109 rfl) rfl
theorem q214 : (Jvm.Cond.fieldLink "NetworkCenters$Plan" (21 : Nat) "NetworkCenters$Plan" "n" "I") ∈ lw_all := lw_g (lw_at lw_m1 110 rfl) rfl
theorem q215 : (Jvm.Cond.fieldLink "NetworkCenters$Plan" (25 : Nat) "NetworkCenters$Plan" "distances" "[I") ∈ lw_all := lw_g (lw_at lw_m1 111 rfl) rfl
theorem q217 : (Jvm.Cond.fieldLink "NetworkCenters$Plan" (88 : Nat) "NetworkCenters$Plan" "points" "LNetworkCenters$Points;") ∈ lw_all := lw_g (lw_at lw_m1 113 rfl) rfl
theorem q219 : (Jvm.Cond.fieldLink "NetworkCenters$Plan" (105 : Nat) "NetworkCenters$Plan" "allowed" "Ljava/util/BitSet;") ∈ lw_all := lw_g (lw_at lw_m1 115 rfl) rfl
theorem q220 : (Jvm.Cond.fieldLink "NetworkCenters$Plan" (166 : Nat) "NetworkCenters$Plan" "centers" "[I") ∈ lw_all := lw_g (lw_at lw_m1 116 rfl) rfl
theorem q221 : (Jvm.Cond.fieldLink "NetworkCenters$Plan" (169 : Nat) "NetworkCenters$Plan" "heights" "[J") ∈ lw_all := lw_g (lw_at lw_m1 117 rfl) rfl
theorem q222 : (Jvm.Cond.laysFinal "NetworkCenters$Plan" "NetworkCenters$Plan" "net" "LNetworkCenters$Network;") ∈ lw_all := lw_g (lw_at lw_m1 118 rfl) rfl
theorem q223 : (Jvm.Cond.soleField "NetworkCenters$Plan" "net") ∈ lw_all := lw_g (lw_at lw_m1 119 rfl) rfl
theorem q224 : (Jvm.Cond.laysFinal "NetworkCenters$Plan" "NetworkCenters$Plan" "n" "I") ∈ lw_all := lw_g (lw_at lw_m1 120 rfl) rfl
theorem q225 : (Jvm.Cond.soleField "NetworkCenters$Plan" "n") ∈ lw_all := lw_g (lw_at lw_m1 121 rfl) rfl
theorem q226 : (Jvm.Cond.laysFinal "NetworkCenters$Plan" "NetworkCenters$Plan" "distances" "[I") ∈ lw_all := lw_g (lw_at lw_m1 122 rfl) rfl
theorem q227 : (Jvm.Cond.soleField "NetworkCenters$Plan" "distances") ∈ lw_all := lw_g (lw_at lw_m1 123 rfl) rfl
theorem q228 : (Jvm.Cond.lays "NetworkCenters$Plan" "NetworkCenters$Plan" "points" "LNetworkCenters$Points;") ∈ lw_all := lw_g (lw_at lw_m1 124 rfl) rfl
theorem q229 : (Jvm.Cond.soleField "NetworkCenters$Plan" "points") ∈ lw_all := lw_g (lw_at lw_m1 125 rfl) rfl
theorem q230 : (Jvm.Cond.lays "NetworkCenters$Plan" "NetworkCenters$Plan" "allowed" "Ljava/util/BitSet;") ∈ lw_all := lw_g (lw_at lw_m1 126 rfl) rfl
theorem q231 : (Jvm.Cond.soleField "NetworkCenters$Plan" "allowed") ∈ lw_all := lw_g (lw_at lw_m1 127 rfl) rfl
theorem q232 : (Jvm.Cond.lays "NetworkCenters$Plan" "NetworkCenters$Plan" "centers" "[I") ∈ lw_all := lw_g (lw_at lw_m1 128 rfl) rfl
theorem q233 : (Jvm.Cond.soleField "NetworkCenters$Plan" "centers") ∈ lw_all := lw_g (lw_at lw_m1 129 rfl) rfl
theorem q234 : (Jvm.Cond.lays "NetworkCenters$Plan" "NetworkCenters$Plan" "heights" "[J") ∈ lw_all := lw_g (lw_at lw_m1 130 rfl) rfl
theorem q235 : (Jvm.Cond.soleField "NetworkCenters$Plan" "heights") ∈ lw_all := lw_g (lw_at lw_m1 131 rfl) rfl
theorem q236 : (Jvm.Cond.superclass "NetworkCenters$Plan" "java/lang/Object") ∈ lw_all := lw_g (lw_at lw_m1 132 rfl) rfl
theorem q819 : (Jvm.Cond.instanceMethod ({ cls := "NetworkCenters$Plan", name := "isConnected", desc := "()Z" } : Jvm.MethodName)) ∈ lw_all := lw_g (lw_at lw_m3 235 rfl) rfl
theorem q820 : (Jvm.Cond.selects "NetworkCenters$Plan" ({ cls := "NetworkCenters$Plan", name := "isConnected", desc := "()Z" } : Jvm.MethodName) ({ cls := "NetworkCenters$Plan", name := "isConnected", desc := "()Z" } : Jvm.MethodName)) ∈ lw_all := lw_g (lw_at lw_m3 236 rfl) rfl
theorem q821 : (Jvm.Cond.code ({ cls := "NetworkCenters$Plan", name := "isConnected", desc := "()Z" } : Jvm.MethodName) prog_12_method_3_code (3 : Nat) (Option.some Jvm.ClassFile.FieldType.boolean)) ∈ lw_all := lw_g (lw_at lw_m3 237 rfl) rfl
theorem q844 : (Jvm.Cond.instanceMethod ({ cls := "NetworkCenters$Plan", name := "isUsable", desc := "()Z" } : Jvm.MethodName)) ∈ lw_all := lw_g (lw_at lw_m4 20 rfl) rfl
theorem q845 : (Jvm.Cond.selects "NetworkCenters$Plan" ({ cls := "NetworkCenters$Plan", name := "isUsable", desc := "()Z" } : Jvm.MethodName) ({ cls := "NetworkCenters$Plan", name := "isUsable", desc := "()Z" } : Jvm.MethodName)) ∈ lw_all := lw_g (lw_at lw_m4 21 rfl) rfl
theorem q846 : (Jvm.Cond.code ({ cls := "NetworkCenters$Plan", name := "isUsable", desc := "()Z" } : Jvm.MethodName) prog_12_method_4_code (1 : Nat) (Option.some Jvm.ClassFile.FieldType.boolean)) ∈ lw_all := lw_g (lw_at lw_m4 22 rfl) rfl
theorem q847 : (Jvm.Cond.methodLink "NetworkCenters$Plan" (54 : Nat) ({ cls := "NetworkCenters$Plan", name := "isConnected", desc := "()Z" } : Jvm.MethodName)) ∈ lw_all := lw_g (lw_at lw_m4 23 rfl) rfl
theorem q853 : (Jvm.Cond.instanceMethod ({ cls := "NetworkCenters$Plan", name := "radius", desc := "(II)I" } : Jvm.MethodName)) ∈ lw_all := lw_g (lw_at lw_m4 29 rfl) rfl
theorem q854 : (Jvm.Cond.selects "NetworkCenters$Plan" ({ cls := "NetworkCenters$Plan", name := "radius", desc := "(II)I" } : Jvm.MethodName) ({ cls := "NetworkCenters$Plan", name := "radius", desc := "(II)I" } : Jvm.MethodName)) ∈ lw_all := lw_g (lw_at lw_m4 30 rfl) rfl
theorem q855 : (Jvm.Cond.code ({ cls := "NetworkCenters$Plan", name := "radius", desc := "(II)I" } : Jvm.MethodName) prog_12_method_17_code (3 : Nat) (Option.some Jvm.ClassFile.FieldType.int)) ∈ lw_all := lw_g (lw_at lw_m4 31 rfl) rfl
theorem q856 : (Jvm.Cond.methodLink "NetworkCenters$Plan" (185 : Nat) ({ cls := "NetworkCenters$Plan", name := "above", desc := "(I)J" } : Jvm.MethodName)) ∈ lw_all := lw_g (lw_at lw_m4 32 rfl) rfl
theorem q857 : (Jvm.Cond.instanceMethod ({ cls := "NetworkCenters$Plan", name := "above", desc := "(I)J" } : Jvm.MethodName)) ∈ lw_all := lw_g (lw_at lw_m4 33 rfl) rfl
theorem q858 : (Jvm.Cond.selects "NetworkCenters$Plan" ({ cls := "NetworkCenters$Plan", name := "above", desc := "(I)J" } : Jvm.MethodName) ({ cls := "NetworkCenters$Plan", name := "above", desc := "(I)J" } : Jvm.MethodName)) ∈ lw_all := lw_g (lw_at lw_m4 34 rfl) rfl
theorem q859 : (Jvm.Cond.code ({ cls := "NetworkCenters$Plan", name := "above", desc := "(I)J" } : Jvm.MethodName) prog_12_method_15_code (2 : Nat) (Option.some Jvm.ClassFile.FieldType.long)) ∈ lw_all := lw_g (lw_at lw_m4 35 rfl) rfl
theorem q860 : (Jvm.Cond.methodLink "NetworkCenters$Plan" (182 : Nat) ({ cls := "NetworkCenters$Plan", name := "center", desc := "(I)I" } : Jvm.MethodName)) ∈ lw_all := lw_g (lw_at lw_m4 36 rfl) rfl
theorem q861 : (Jvm.Cond.instanceMethod ({ cls := "NetworkCenters$Plan", name := "center", desc := "(I)I" } : Jvm.MethodName)) ∈ lw_all := lw_g (lw_at lw_m4 37 rfl) rfl
theorem q862 : (Jvm.Cond.selects "NetworkCenters$Plan" ({ cls := "NetworkCenters$Plan", name := "center", desc := "(I)I" } : Jvm.MethodName) ({ cls := "NetworkCenters$Plan", name := "center", desc := "(I)I" } : Jvm.MethodName)) ∈ lw_all := lw_g (lw_at lw_m4 38 rfl) rfl
theorem q863 : (Jvm.Cond.code ({ cls := "NetworkCenters$Plan", name := "center", desc := "(I)I" } : Jvm.MethodName) prog_12_method_14_code (2 : Nat) (Option.some Jvm.ClassFile.FieldType.int)) ∈ lw_all := lw_g (lw_at lw_m4 39 rfl) rfl
theorem q864 : (Jvm.Cond.methodLink "NetworkCenters$Plan" (176 : Nat) ({ cls := "NetworkCenters$Plan", name := "layCenters", desc := "()V" } : Jvm.MethodName)) ∈ lw_all := lw_g (lw_at lw_m4 40 rfl) rfl
theorem q865 : (Jvm.Cond.privateMethod ({ cls := "NetworkCenters$Plan", name := "layCenters", desc := "()V" } : Jvm.MethodName)) ∈ lw_tbl := lw_at lw_m4 41 rfl
theorem q866 : (Jvm.Cond.instanceMethod ({ cls := "NetworkCenters$Plan", name := "layCenters", desc := "()V" } : Jvm.MethodName)) ∈ lw_all := lw_g (lw_at lw_m4 42 rfl) rfl
theorem q867 : (Jvm.Cond.code ({ cls := "NetworkCenters$Plan", name := "layCenters", desc := "()V" } : Jvm.MethodName) prog_12_method_13_code (2 : Nat) (Option.none : Option Jvm.ClassFile.FieldType)) ∈ lw_all := lw_g (lw_at lw_m4 43 rfl) rfl
theorem q868 : (Jvm.Cond.methodLink "NetworkCenters$Plan" (173 : Nat) ({ cls := "NetworkCenters$Plan", name := "layPoints", desc := "()V" } : Jvm.MethodName)) ∈ lw_all := lw_g (lw_at lw_m4 44 rfl) rfl
theorem q869 : (Jvm.Cond.privateMethod ({ cls := "NetworkCenters$Plan", name := "layPoints", desc := "()V" } : Jvm.MethodName)) ∈ lw_tbl := lw_at lw_m4 45 rfl
theorem q870 : (Jvm.Cond.instanceMethod ({ cls := "NetworkCenters$Plan", name := "layPoints", desc := "()V" } : Jvm.MethodName)) ∈ lw_all := lw_g (lw_at lw_m4 46 rfl) rfl
theorem q871 : (Jvm.Cond.code ({ cls := "NetworkCenters$Plan", name := "layPoints", desc := "()V" } : Jvm.MethodName) prog_12_method_9_code (2 : Nat) (Option.none : Option Jvm.ClassFile.FieldType)) ∈ lw_all := lw_g (lw_at lw_m4 47 rfl) rfl
theorem q872 : (Jvm.Cond.classLink "NetworkCenters$Plan" (92 : Nat) "NetworkCenters$Points") ∈ lw_all := lw_g (lw_at lw_m4 48 rfl) rfl
theorem q874 : (Jvm.Cond.methodLinkNest "NetworkCenters$Plan" (94 : Nat) ({ cls := "NetworkCenters$Points", name := "<init>", desc := "()V" } : Jvm.MethodName) "NetworkCenters") ∈ lw_tbl := lw_at lw_m4 50 rfl
theorem q879 : (Jvm.Cond.fieldLinkNest "NetworkCenters$Plan" (112 : Nat) "NetworkCenters$Points" "edges" "[I" "NetworkCenters") ∈ lw_tbl := lw_at lw_m4 55 rfl
theorem q882 : (Jvm.Cond.fieldLinkNest "NetworkCenters$Plan" (114 : Nat) "NetworkCenters$Points" "above" "[I" "NetworkCenters") ∈ lw_tbl := lw_at lw_m4 58 rfl
theorem q885 : (Jvm.Cond.fieldLinkNest "NetworkCenters$Plan" (117 : Nat) "NetworkCenters$Points" "below" "[I" "NetworkCenters") ∈ lw_tbl := lw_at lw_m4 61 rfl
theorem q888 : (Jvm.Cond.fieldLinkNest "NetworkCenters$Plan" (109 : Nat) "NetworkCenters$Points" "many" "I" "NetworkCenters") ∈ lw_tbl := lw_at lw_m4 64 rfl
theorem q901 : (Jvm.Cond.methodLink "NetworkCenters$Plan" (95 : Nat) ({ cls := "NetworkCenters$Plan", name := "layEdge", desc := "(I)V" } : Jvm.MethodName)) ∈ lw_all := lw_g (lw_at lw_m4 77 rfl) rfl
theorem q902 : (Jvm.Cond.privateMethod ({ cls := "NetworkCenters$Plan", name := "layEdge", desc := "(I)V" } : Jvm.MethodName)) ∈ lw_tbl := lw_at lw_m4 78 rfl
theorem q903 : (Jvm.Cond.instanceMethod ({ cls := "NetworkCenters$Plan", name := "layEdge", desc := "(I)V" } : Jvm.MethodName)) ∈ lw_all := lw_g (lw_at lw_m4 79 rfl) rfl
theorem q904 : (Jvm.Cond.code ({ cls := "NetworkCenters$Plan", name := "layEdge", desc := "(I)V" } : Jvm.MethodName) prog_12_method_10_code (7 : Nat) (Option.none : Option Jvm.ClassFile.FieldType)) ∈ lw_all := lw_g (lw_at lw_m4 80 rfl) rfl
theorem q905 : (Jvm.Cond.classLink "NetworkCenters$Plan" (127 : Nat) "NetworkCenters$Line") ∈ lw_all := lw_g (lw_at lw_m4 81 rfl) rfl
theorem q907 : (Jvm.Cond.classLink "NetworkCenters$Plan" (129 : Nat) "NetworkCenters$Rising") ∈ lw_all := lw_g (lw_at lw_m4 83 rfl) rfl
theorem q909 : (Jvm.Cond.methodLink "NetworkCenters$Plan" (131 : Nat) ({ cls := "NetworkCenters$Rising", name := "<init>", desc := "(II)V" } : Jvm.MethodName)) ∈ lw_all := lw_g (lw_at lw_m4 85 rfl) rfl
theorem q922 : (Jvm.Cond.classLink "NetworkCenters$Plan" (134 : Nat) "NetworkCenters$Falling") ∈ lw_all := lw_g (lw_at lw_m4 98 rfl) rfl
theorem q924 : (Jvm.Cond.methodLink "NetworkCenters$Plan" (136 : Nat) ({ cls := "NetworkCenters$Falling", name := "<init>", desc := "(II)V" } : Jvm.MethodName)) ∈ lw_all := lw_g (lw_at lw_m4 100 rfl) rfl
theorem q937 : (Jvm.Cond.privateMethod ({ cls := "NetworkCenters$Plan", name := "lambda$layEdge$0", desc := "(IJJ)V" } : Jvm.MethodName)) ∈ lw_tbl := lw_at lw_m4 113 rfl
theorem q938 : (Jvm.Cond.instanceMethod ({ cls := "NetworkCenters$Plan", name := "lambda$layEdge$0", desc := "(IJJ)V" } : Jvm.MethodName)) ∈ lw_all := lw_g (lw_at lw_m4 114 rfl) rfl
theorem q939 : (Jvm.Cond.code ({ cls := "NetworkCenters$Plan", name := "lambda$layEdge$0", desc := "(IJJ)V" } : Jvm.MethodName) prog_12_method_29_code (6 : Nat) (Option.none : Option Jvm.ClassFile.FieldType)) ∈ lw_all := lw_g (lw_at lw_m4 115 rfl) rfl
theorem q940 : (Jvm.Cond.methodLink "NetworkCenters$Plan" (219 : Nat) ({ cls := "NetworkCenters$Points", name := "enter", desc := "(IJJ)V" } : Jvm.MethodName)) ∈ lw_all := lw_g (lw_at lw_m4 116 rfl) rfl
theorem q956 : (Jvm.Cond.interfaceEntry "NetworkCenters$Plan" (82 : Nat)) ∈ lw_tbl := lw_at lw_m4 132 rfl
theorem q957 : (Jvm.Cond.methodLink "NetworkCenters$Plan" (82 : Nat) ({ cls := "NetworkCenters$Use", name := "take", desc := "(JJ)V" } : Jvm.MethodName)) ∈ lw_all := lw_g (lw_at lw_m4 133 rfl) rfl
theorem q960 : (Jvm.Cond.methodLink "NetworkCenters$Plan" (140 : Nat) ({ cls := "NetworkCenters$Plan", name := "meet", desc := "(LNetworkCenters$Line;LNetworkCenters$Line;ILNetworkCenters$Use;)V" } : Jvm.MethodName)) ∈ lw_all := lw_g (lw_at lw_m4 136 rfl) rfl
theorem q961 : (Jvm.Cond.static ({ cls := "NetworkCenters$Plan", name := "meet", desc := "(LNetworkCenters$Line;LNetworkCenters$Line;ILNetworkCenters$Use;)V" } : Jvm.MethodName)) ∈ lw_all := lw_g (lw_at lw_m4 137 rfl) rfl
theorem q962 : (Jvm.Cond.code ({ cls := "NetworkCenters$Plan", name := "meet", desc := "(LNetworkCenters$Line;LNetworkCenters$Line;ILNetworkCenters$Use;)V" } : Jvm.MethodName) prog_12_method_8_code (9 : Nat) (Option.none : Option Jvm.ClassFile.FieldType)) ∈ lw_all := lw_g (lw_at lw_m4 138 rfl) rfl
theorem q963 : (Jvm.Cond.methodLinkNest "NetworkCenters$Plan" (75 : Nat) ({ cls := "NetworkCenters", name := "slope", desc := "(LNetworkCenters$Line;)I" } : Jvm.MethodName) "NetworkCenters") ∈ lw_tbl := lw_at lw_m4 139 rfl
theorem q968 : (Jvm.Cond.methodLinkNest "NetworkCenters$Plan" (79 : Nat) ({ cls := "NetworkCenters", name := "atFirst", desc := "(LNetworkCenters$Line;)I" } : Jvm.MethodName) "NetworkCenters") ∈ lw_tbl := lw_at lw_m4 144 rfl
theorem q971 : (Jvm.Cond.methodLink "NetworkCenters$Plan" (99 : Nat) ({ cls := "NetworkCenters$Points", name := "turn", desc := "()V" } : Jvm.MethodName)) ∈ lw_all := lw_g (lw_at lw_m4 147 rfl) rfl
theorem q975 : (Jvm.Cond.classLink "NetworkCenters$Plan" (102 : Nat) "java/util/BitSet") ∈ lw_all := lw_g (lw_at lw_m4 151 rfl) rfl
theorem q977 : (Jvm.Cond.methodLink "NetworkCenters$Plan" (104 : Nat) ({ cls := "java/util/BitSet", name := "<init>", desc := "()V" } : Jvm.MethodName)) ∈ lw_all := lw_g (lw_at lw_m4 153 rfl) rfl
theorem q999 : (Jvm.Cond.methodLink "NetworkCenters$Plan" (120 : Nat) ({ cls := "NetworkCenters$Network", name := "isAllowed", desc := "(IJJ)Z" } : Jvm.MethodName)) ∈ lw_all := lw_g (lw_at lw_m4 175 rfl) rfl
theorem q1007 : (Jvm.Cond.methodLink "NetworkCenters$Plan" (124 : Nat) ({ cls := "java/util/BitSet", name := "set", desc := "(I)V" } : Jvm.MethodName)) ∈ lw_all := lw_g (lw_at lw_m4 183 rfl) rfl
theorem q1052 : (Jvm.Cond.methodLink "NetworkCenters$Plan" (179 : Nat) ({ cls := "NetworkCenters$Plan", name := "layCenter", desc := "(I)V" } : Jvm.MethodName)) ∈ lw_all := lw_g (lw_at lw_m4 228 rfl) rfl
theorem q1053 : (Jvm.Cond.privateMethod ({ cls := "NetworkCenters$Plan", name := "layCenter", desc := "(I)V" } : Jvm.MethodName)) ∈ lw_tbl := lw_at lw_m4 229 rfl
theorem q1054 : (Jvm.Cond.instanceMethod ({ cls := "NetworkCenters$Plan", name := "layCenter", desc := "(I)V" } : Jvm.MethodName)) ∈ lw_all := lw_g (lw_at lw_m4 230 rfl) rfl
theorem q1055 : (Jvm.Cond.code ({ cls := "NetworkCenters$Plan", name := "layCenter", desc := "(I)V" } : Jvm.MethodName) prog_12_method_12_code (8 : Nat) (Option.none : Option Jvm.ClassFile.FieldType)) ∈ lw_all := lw_g (lw_at lw_m4 231 rfl) rfl
theorem q1056 : (Jvm.Cond.methodLink "NetworkCenters$Plan" (155 : Nat) ({ cls := "java/util/BitSet", name := "nextSetBit", desc := "(I)I" } : Jvm.MethodName)) ∈ lw_all := lw_g (lw_at lw_m4 232 rfl) rfl
theorem q1069 : (Jvm.Cond.methodLink "NetworkCenters$Plan" (159 : Nat) ({ cls := "NetworkCenters$Plan", name := "height", desc := "(IIJJ)J" } : Jvm.MethodName)) ∈ lw_all := lw_g (lw_at lw_m5 5 rfl) rfl
theorem q1070 : (Jvm.Cond.instanceMethod ({ cls := "NetworkCenters$Plan", name := "height", desc := "(IIJJ)J" } : Jvm.MethodName)) ∈ lw_all := lw_g (lw_at lw_m5 6 rfl) rfl
theorem q1071 : (Jvm.Cond.selects "NetworkCenters$Plan" ({ cls := "NetworkCenters$Plan", name := "height", desc := "(IIJJ)J" } : Jvm.MethodName) ({ cls := "NetworkCenters$Plan", name := "height", desc := "(IIJJ)J" } : Jvm.MethodName)) ∈ lw_all := lw_g (lw_at lw_m5 7 rfl) rfl
theorem q1072 : (Jvm.Cond.code ({ cls := "NetworkCenters$Plan", name := "height", desc := "(IIJJ)J" } : Jvm.MethodName) prog_12_method_6_code (10 : Nat) (Option.some Jvm.ClassFile.FieldType.long)) ∈ lw_all := lw_g (lw_at lw_m5 8 rfl) rfl
theorem q1073 : (Jvm.Cond.methodLinkNest "NetworkCenters$Plan" (61 : Nat) ({ cls := "NetworkCenters", name := "has", desc := "(II)Z" } : Jvm.MethodName) "NetworkCenters") ∈ lw_tbl := lw_at lw_m5 9 rfl
theorem q1076 : (Jvm.Cond.methodLink "NetworkCenters$Plan" (68 : Nat) ({ cls := "NetworkCenters$Plan", name := "distanceTo", desc := "(IIJJ)J" } : Jvm.MethodName)) ∈ lw_all := lw_g (lw_at lw_m5 12 rfl) rfl
theorem q1077 : (Jvm.Cond.instanceMethod ({ cls := "NetworkCenters$Plan", name := "distanceTo", desc := "(IIJJ)J" } : Jvm.MethodName)) ∈ lw_all := lw_g (lw_at lw_m5 13 rfl) rfl
theorem q1078 : (Jvm.Cond.selects "NetworkCenters$Plan" ({ cls := "NetworkCenters$Plan", name := "distanceTo", desc := "(IIJJ)J" } : Jvm.MethodName) ({ cls := "NetworkCenters$Plan", name := "distanceTo", desc := "(IIJJ)J" } : Jvm.MethodName)) ∈ lw_all := lw_g (lw_at lw_m5 14 rfl) rfl
theorem q1079 : (Jvm.Cond.code ({ cls := "NetworkCenters$Plan", name := "distanceTo", desc := "(IIJJ)J" } : Jvm.MethodName) prog_12_method_5_code (8 : Nat) (Option.some Jvm.ClassFile.FieldType.long)) ∈ lw_all := lw_g (lw_at lw_m5 15 rfl) rfl
theorem q1080 : (Jvm.Cond.methodLink "NetworkCenters$Plan" (58 : Nat) ({ cls := "java/lang/Math", name := "min", desc := "(JJ)J" } : Jvm.MethodName)) ∈ lw_all := lw_g (lw_at lw_m5 16 rfl) rfl
theorem q1083 : (Jvm.Cond.methodLink "NetworkCenters$Plan" (72 : Nat) ({ cls := "java/lang/Math", name := "max", desc := "(JJ)J" } : Jvm.MethodName)) ∈ lw_all := lw_g (lw_at lw_m5 19 rfl) rfl
theorem q1086 : (Jvm.Cond.methodLink "NetworkCenters$Plan" (162 : Nat) ({ cls := "NetworkCenters$Plan", name := "isLess", desc := "(JJJJ)Z" } : Jvm.MethodName)) ∈ lw_all := lw_g (lw_at lw_m5 22 rfl) rfl
theorem q1087 : (Jvm.Cond.static ({ cls := "NetworkCenters$Plan", name := "isLess", desc := "(JJJJ)Z" } : Jvm.MethodName)) ∈ lw_all := lw_g (lw_at lw_m5 23 rfl) rfl
theorem q1088 : (Jvm.Cond.code ({ cls := "NetworkCenters$Plan", name := "isLess", desc := "(JJJJ)Z" } : Jvm.MethodName) prog_12_method_11_code (8 : Nat) (Option.some Jvm.ClassFile.FieldType.boolean)) ∈ lw_all := lw_g (lw_at lw_m5 24 rfl) rfl
theorem q1089 : (Jvm.Cond.methodLink "NetworkCenters$Plan" (188 : Nat) ({ cls := "NetworkCenters$Plan", name := "below", desc := "(I)J" } : Jvm.MethodName)) ∈ lw_all := lw_g (lw_at lw_m5 25 rfl) rfl
theorem q1090 : (Jvm.Cond.instanceMethod ({ cls := "NetworkCenters$Plan", name := "below", desc := "(I)J" } : Jvm.MethodName)) ∈ lw_all := lw_g (lw_at lw_m5 26 rfl) rfl
theorem q1091 : (Jvm.Cond.selects "NetworkCenters$Plan" ({ cls := "NetworkCenters$Plan", name := "below", desc := "(I)J" } : Jvm.MethodName) ({ cls := "NetworkCenters$Plan", name := "below", desc := "(I)J" } : Jvm.MethodName)) ∈ lw_all := lw_g (lw_at lw_m5 27 rfl) rfl
theorem q1092 : (Jvm.Cond.code ({ cls := "NetworkCenters$Plan", name := "below", desc := "(I)J" } : Jvm.MethodName) prog_12_method_16_code (2 : Nat) (Option.some Jvm.ClassFile.FieldType.long)) ∈ lw_all := lw_g (lw_at lw_m5 28 rfl) rfl
theorem q1093 : (Jvm.Cond.methodLinkNest "NetworkCenters$Plan" (190 : Nat) ({ cls := "NetworkCenters", name := "partOf", desc := "(JJI)I" } : Jvm.MethodName) "NetworkCenters") ∈ lw_tbl := lw_at lw_m5 29 rfl
theorem q1102 : (Jvm.Cond.instanceMethod ({ cls := "NetworkCenters$Plan", name := "critical", desc := "(I)I" } : Jvm.MethodName)) ∈ lw_all := lw_g (lw_at lw_m5 38 rfl) rfl
theorem q1103 : (Jvm.Cond.selects "NetworkCenters$Plan" ({ cls := "NetworkCenters$Plan", name := "critical", desc := "(I)I" } : Jvm.MethodName) ({ cls := "NetworkCenters$Plan", name := "critical", desc := "(I)I" } : Jvm.MethodName)) ∈ lw_all := lw_g (lw_at lw_m5 39 rfl) rfl
theorem q1104 : (Jvm.Cond.code ({ cls := "NetworkCenters$Plan", name := "critical", desc := "(I)I" } : Jvm.MethodName) prog_12_method_19_code (6 : Nat) (Option.some Jvm.ClassFile.FieldType.int)) ∈ lw_all := lw_g (lw_at lw_m5 40 rfl) rfl
theorem q1110 : (Jvm.Cond.instanceMethod ({ cls := "NetworkCenters$Plan", name := "median", desc := "()I" } : Jvm.MethodName)) ∈ lw_all := lw_g (lw_at lw_m5 46 rfl) rfl
theorem q1111 : (Jvm.Cond.selects "NetworkCenters$Plan" ({ cls := "NetworkCenters$Plan", name := "median", desc := "()I" } : Jvm.MethodName) ({ cls := "NetworkCenters$Plan", name := "median", desc := "()I" } : Jvm.MethodName)) ∈ lw_all := lw_g (lw_at lw_m5 47 rfl) rfl
theorem q1112 : (Jvm.Cond.code ({ cls := "NetworkCenters$Plan", name := "median", desc := "()I" } : Jvm.MethodName) prog_12_method_20_code (7 : Nat) (Option.some Jvm.ClassFile.FieldType.int)) ∈ lw_all := lw_g (lw_at lw_m5 48 rfl) rfl
theorem q1113 : (Jvm.Cond.methodLink "NetworkCenters$Plan" (194 : Nat) ({ cls := "NetworkCenters$Plan", name := "cost", desc := "(IJJ)J" } : Jvm.MethodName)) ∈ lw_all := lw_g (lw_at lw_m5 49 rfl) rfl
theorem q1114 : (Jvm.Cond.instanceMethod ({ cls := "NetworkCenters$Plan", name := "cost", desc := "(IJJ)J" } : Jvm.MethodName)) ∈ lw_all := lw_g (lw_at lw_m5 50 rfl) rfl
theorem q1115 : (Jvm.Cond.selects "NetworkCenters$Plan" ({ cls := "NetworkCenters$Plan", name := "cost", desc := "(IJJ)J" } : Jvm.MethodName) ({ cls := "NetworkCenters$Plan", name := "cost", desc := "(IJJ)J" } : Jvm.MethodName)) ∈ lw_all := lw_g (lw_at lw_m5 51 rfl) rfl
theorem q1116 : (Jvm.Cond.code ({ cls := "NetworkCenters$Plan", name := "cost", desc := "(IJJ)J" } : Jvm.MethodName) prog_12_method_7_code (9 : Nat) (Option.some Jvm.ClassFile.FieldType.long)) ∈ lw_all := lw_g (lw_at lw_m5 52 rfl) rfl
theorem q1120 : (Jvm.Cond.instanceMethod ({ cls := "NetworkCenters$Plan", name := "deciding", desc := "(I)I" } : Jvm.MethodName)) ∈ lw_all := lw_g (lw_at lw_m5 56 rfl) rfl
theorem q1121 : (Jvm.Cond.selects "NetworkCenters$Plan" ({ cls := "NetworkCenters$Plan", name := "deciding", desc := "(I)I" } : Jvm.MethodName) ({ cls := "NetworkCenters$Plan", name := "deciding", desc := "(I)I" } : Jvm.MethodName)) ∈ lw_all := lw_g (lw_at lw_m5 57 rfl) rfl
theorem q1122 : (Jvm.Cond.code ({ cls := "NetworkCenters$Plan", name := "deciding", desc := "(I)I" } : Jvm.MethodName) prog_12_method_22_code (5 : Nat) (Option.some Jvm.ClassFile.FieldType.int)) ∈ lw_all := lw_g (lw_at lw_m5 58 rfl) rfl
theorem q1123 : (Jvm.Cond.methodLink "NetworkCenters$Plan" (201 : Nat) ({ cls := "NetworkCenters$Plan", name := "isDivided", desc := "(IIJJ)Z" } : Jvm.MethodName)) ∈ lw_all := lw_g (lw_at lw_m5 59 rfl) rfl
theorem q1124 : (Jvm.Cond.instanceMethod ({ cls := "NetworkCenters$Plan", name := "isDivided", desc := "(IIJJ)Z" } : Jvm.MethodName)) ∈ lw_all := lw_g (lw_at lw_m5 60 rfl) rfl
theorem q1125 : (Jvm.Cond.selects "NetworkCenters$Plan" ({ cls := "NetworkCenters$Plan", name := "isDivided", desc := "(IIJJ)Z" } : Jvm.MethodName) ({ cls := "NetworkCenters$Plan", name := "isDivided", desc := "(IIJJ)Z" } : Jvm.MethodName)) ∈ lw_all := lw_g (lw_at lw_m5 61 rfl) rfl
theorem q1126 : (Jvm.Cond.code ({ cls := "NetworkCenters$Plan", name := "isDivided", desc := "(IIJJ)Z" } : Jvm.MethodName) prog_12_method_21_code (10 : Nat) (Option.some Jvm.ClassFile.FieldType.boolean)) ∈ lw_all := lw_g (lw_at lw_m5 62 rfl) rfl
theorem q1127 : (Jvm.Cond.methodLink "NetworkCenters$Plan" (198 : Nat) ({ cls := "NetworkCenters$Plan", name := "isAtMost", desc := "(IJJ)Z" } : Jvm.MethodName)) ∈ lw_all := lw_g (lw_at lw_m5 63 rfl) rfl
theorem q1128 : (Jvm.Cond.instanceMethod ({ cls := "NetworkCenters$Plan", name := "isAtMost", desc := "(IJJ)Z" } : Jvm.MethodName)) ∈ lw_all := lw_g (lw_at lw_m5 64 rfl) rfl
theorem q1129 : (Jvm.Cond.selects "NetworkCenters$Plan" ({ cls := "NetworkCenters$Plan", name := "isAtMost", desc := "(IJJ)Z" } : Jvm.MethodName) ({ cls := "NetworkCenters$Plan", name := "isAtMost", desc := "(IJJ)Z" } : Jvm.MethodName)) ∈ lw_all := lw_g (lw_at lw_m5 65 rfl) rfl
theorem q1130 : (Jvm.Cond.code ({ cls := "NetworkCenters$Plan", name := "isAtMost", desc := "(IJJ)Z" } : Jvm.MethodName) prog_12_method_18_code (6 : Nat) (Option.some Jvm.ClassFile.FieldType.boolean)) ∈ lw_all := lw_g (lw_at lw_m5 66 rfl) rfl
theorem q1136 : (Jvm.Cond.instanceMethod ({ cls := "NetworkCenters$Plan", name := "corner", desc := "(II)I" } : Jvm.MethodName)) ∈ lw_all := lw_g (lw_at lw_m5 72 rfl) rfl
theorem q1137 : (Jvm.Cond.selects "NetworkCenters$Plan" ({ cls := "NetworkCenters$Plan", name := "corner", desc := "(II)I" } : Jvm.MethodName) ({ cls := "NetworkCenters$Plan", name := "corner", desc := "(II)I" } : Jvm.MethodName)) ∈ lw_all := lw_g (lw_at lw_m5 73 rfl) rfl
theorem q1138 : (Jvm.Cond.code ({ cls := "NetworkCenters$Plan", name := "corner", desc := "(II)I" } : Jvm.MethodName) prog_12_method_26_code (7 : Nat) (Option.some Jvm.ClassFile.FieldType.int)) ∈ lw_all := lw_g (lw_at lw_m5 74 rfl) rfl
theorem q1139 : (Jvm.Cond.methodLink "NetworkCenters$Plan" (212 : Nat) ({ cls := "NetworkCenters$Plan", name := "turns", desc := "(I)Z" } : Jvm.MethodName)) ∈ lw_all := lw_g (lw_at lw_m5 75 rfl) rfl
theorem q1140 : (Jvm.Cond.privateMethod ({ cls := "NetworkCenters$Plan", name := "turns", desc := "(I)Z" } : Jvm.MethodName)) ∈ lw_tbl := lw_at lw_m5 76 rfl
theorem q1141 : (Jvm.Cond.instanceMethod ({ cls := "NetworkCenters$Plan", name := "turns", desc := "(I)Z" } : Jvm.MethodName)) ∈ lw_all := lw_g (lw_at lw_m5 77 rfl) rfl
theorem q1142 : (Jvm.Cond.code ({ cls := "NetworkCenters$Plan", name := "turns", desc := "(I)Z" } : Jvm.MethodName) prog_12_method_28_code (16 : Nat) (Option.some Jvm.ClassFile.FieldType.boolean)) ∈ lw_all := lw_g (lw_at lw_m5 78 rfl) rfl
theorem q1143 : (Jvm.Cond.methodLink "NetworkCenters$Plan" (216 : Nat) ({ cls := "NetworkCenters$Plan", name := "heightAt", desc := "(I)J" } : Jvm.MethodName)) ∈ lw_all := lw_g (lw_at lw_m5 79 rfl) rfl
theorem q1144 : (Jvm.Cond.privateMethod ({ cls := "NetworkCenters$Plan", name := "heightAt", desc := "(I)J" } : Jvm.MethodName)) ∈ lw_tbl := lw_at lw_m5 80 rfl
theorem q1145 : (Jvm.Cond.instanceMethod ({ cls := "NetworkCenters$Plan", name := "heightAt", desc := "(I)J" } : Jvm.MethodName)) ∈ lw_all := lw_g (lw_at lw_m5 81 rfl) rfl
theorem q1146 : (Jvm.Cond.code ({ cls := "NetworkCenters$Plan", name := "heightAt", desc := "(I)J" } : Jvm.MethodName) prog_12_method_27_code (2 : Nat) (Option.some Jvm.ClassFile.FieldType.long)) ∈ lw_all := lw_g (lw_at lw_m5 82 rfl) rfl
theorem q1245 : (Jvm.Cond.selects "NetworkCenters$Plan" ({ cls := "java/lang/Object", name := "getClass", desc := "()Ljava/lang/Class;" } : Jvm.MethodName) ({ cls := "java/lang/Object", name := "getClass", desc := "()Ljava/lang/Class;" } : Jvm.MethodName)) ∈ lw_all := lw_g (lw_at lw_m5 181 rfl) rfl
theorem q1337 : (Jvm.Cond.fieldLinkNest "NetworkCenters$Plan" (34 : Nat) "NetworkCenters$Edge" "a" "I" "NetworkCenters") ∈ lw_tbl := lw_at lw_m6 33 rfl
theorem q1341 : (Jvm.Cond.fieldLinkNest "NetworkCenters$Plan" (39 : Nat) "NetworkCenters$Edge" "b" "I" "NetworkCenters") ∈ lw_tbl := lw_at lw_m6 37 rfl
theorem q1345 : (Jvm.Cond.fieldLinkNest "NetworkCenters$Plan" (42 : Nat) "NetworkCenters$Edge" "length" "I" "NetworkCenters") ∈ lw_tbl := lw_at lw_m6 41 rfl
theorem q1685 : (Jvm.Cond.fieldLinkNest "NetworkCenters$Plan" (148 : Nat) "NetworkCenters$Stretch" "edge" "I" "NetworkCenters") ∈ lw_tbl := lw_at lw_m7 141 rfl
theorem q1689 : (Jvm.Cond.fieldLinkNest "NetworkCenters$Plan" (153 : Nat) "NetworkCenters$Stretch" "a" "I" "NetworkCenters") ∈ lw_tbl := lw_at lw_m7 145 rfl
theorem q1692 : (Jvm.Cond.fieldLinkNest "NetworkCenters$Plan" (154 : Nat) "NetworkCenters$Stretch" "b" "I" "NetworkCenters") ∈ lw_tbl := lw_at lw_m7 148 rfl
theorem q1898 : (Jvm.Cond.instanceMethod ({ cls := "NetworkCenters$Plan", name := "group", desc := "(II)I" } : Jvm.MethodName)) ∈ lw_all := lw_g (lw_at lw_m8 114 rfl) rfl
theorem q1899 : (Jvm.Cond.selects "NetworkCenters$Plan" ({ cls := "NetworkCenters$Plan", name := "group", desc := "(II)I" } : Jvm.MethodName) ({ cls := "NetworkCenters$Plan", name := "group", desc := "(II)I" } : Jvm.MethodName)) ∈ lw_all := lw_g (lw_at lw_m8 115 rfl) rfl
theorem q1900 : (Jvm.Cond.code ({ cls := "NetworkCenters$Plan", name := "group", desc := "(II)I" } : Jvm.MethodName) prog_12_method_23_code (11 : Nat) (Option.some Jvm.ClassFile.FieldType.int)) ∈ lw_all := lw_g (lw_at lw_m8 116 rfl) rfl
theorem q1901 : (Jvm.Cond.methodLink "NetworkCenters$Plan" (205 : Nat) ({ cls := "NetworkCenters$Plan", name := "deciding", desc := "(I)I" } : Jvm.MethodName)) ∈ lw_all := lw_g (lw_at lw_m8 117 rfl) rfl
theorem q1902 : (Jvm.Cond.methodLink "NetworkCenters$Plan" (208 : Nat) ({ cls := "NetworkCenters$Plan", name := "greatest", desc := "(IIJJ)I" } : Jvm.MethodName)) ∈ lw_all := lw_g (lw_at lw_m8 118 rfl) rfl
theorem q1903 : (Jvm.Cond.privateMethod ({ cls := "NetworkCenters$Plan", name := "greatest", desc := "(IIJJ)I" } : Jvm.MethodName)) ∈ lw_tbl := lw_at lw_m8 119 rfl
theorem q1904 : (Jvm.Cond.instanceMethod ({ cls := "NetworkCenters$Plan", name := "greatest", desc := "(IIJJ)I" } : Jvm.MethodName)) ∈ lw_all := lw_g (lw_at lw_m8 120 rfl) rfl
theorem q1905 : (Jvm.Cond.code ({ cls := "NetworkCenters$Plan", name := "greatest", desc := "(IIJJ)I" } : Jvm.MethodName) prog_12_method_24_code (8 : Nat) (Option.some Jvm.ClassFile.FieldType.int)) ∈ lw_all := lw_g (lw_at lw_m8 121 rfl) rfl
theorem q1914 : (Jvm.Cond.instanceMethod ({ cls := "NetworkCenters$Plan", name := "covering", desc := "(JJ)I" } : Jvm.MethodName)) ∈ lw_all := lw_g (lw_at lw_m8 130 rfl) rfl
theorem q1915 : (Jvm.Cond.selects "NetworkCenters$Plan" ({ cls := "NetworkCenters$Plan", name := "covering", desc := "(JJ)I" } : Jvm.MethodName) ({ cls := "NetworkCenters$Plan", name := "covering", desc := "(JJ)I" } : Jvm.MethodName)) ∈ lw_all := lw_g (lw_at lw_m8 131 rfl) rfl
theorem q1916 : (Jvm.Cond.code ({ cls := "NetworkCenters$Plan", name := "covering", desc := "(JJ)I" } : Jvm.MethodName) prog_12_method_25_code (6 : Nat) (Option.some Jvm.ClassFile.FieldType.int)) ∈ lw_all := lw_g (lw_at lw_m8 132 rfl) rfl
theorem q2541 : (Jvm.Cond.castable "NetworkCenters$Plan" "java/lang/Object") ∈ lw_tbl := lw_at lw_m11 37 rfl
theorem in_X3 : ∀ w ∈ wsX30, w ∈ lw_all := lw_in wsX30 [222, 224, 226, 228, 230, 232, 234] (by decide +kernel) (by decide +kernel)
