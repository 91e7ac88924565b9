/-! NetworkCentersModel -/
set_option maxRecDepth 100000
def RX4 : String := "NetworkCentersModel"
def TX4 : u_T := fun k => match k with
  | 0 => ("NetworkCentersModel", "now", "[I", true)
  | 1 => ("NetworkCentersModel", "past", "[I", true)
  | 2 => ("NetworkCentersModel", "kept", "[I", true)
  | 3 => ("NetworkCentersModel", "saved", "I", false)
  | 4 => ("NetworkCentersModel", "refusal", "I", false)
  | 5 => ("NetworkCentersModel", "text", "[I", true)
  | 6 => ("NetworkCentersModel", "length", "I", false)
  | 7 => ("NetworkCentersModel", "far", "[I", true)
  | 8 => ("NetworkCentersModel", "weights", "[I", true)
  | 9 => ("NetworkCentersModel", "crossMany", "I", false)
  | 10 => ("NetworkCentersModel", "crossP", "[J", true)
  | 11 => ("NetworkCentersModel", "crossQ", "[J", true)
  | 12 => ("NetworkCentersModel", "bestEdge", "I", false)
  | 13 => ("NetworkCentersModel", "bestP", "J", false)
  | 14 => ("NetworkCentersModel", "bestQ", "J", false)
  | 15 => ("NetworkCentersModel", "bestHeight", "J", false)
  | 16 => ("NetworkCentersModel", "radiusP", "[J", true)
  | 17 => ("NetworkCentersModel", "radiusQ", "[J", true)
  | 18 => ("NetworkCentersModel", "twoP", "[J", true)
  | 19 => ("NetworkCentersModel", "twoQ", "[J", true)
  | 20 => ("NetworkCentersModel", "covers", "[I", true)
  | 21 => ("NetworkCentersModel", "boundP", "J", false)
  | 22 => ("NetworkCentersModel", "boundQ", "J", false)
  | 23 => ("NetworkCentersModel", "place", "I", false)
  | 24 => ("NetworkCentersModel", "wrong", "I", false)
  | 25 => ("NetworkCentersModel", "done", "I", false)
  | _ => ("NetworkCentersModel", "hash", "J", false)
def tyX4 : Nat → FieldType := fun k => match k with
  | 0 => .array .int
  | 1 => .array .int
  | 2 => .array .int
  | 3 => .int
  | 4 => .int
  | 5 => .array .int
  | 6 => .int
  | 7 => .array .int
  | 8 => .array .int
  | 9 => .int
  | 10 => .array .long
  | 11 => .array .long
  | 12 => .int
  | 13 => .long
  | 14 => .long
  | 15 => .long
  | 16 => .array .long
  | 17 => .array .long
  | 18 => .array .long
  | 19 => .array .long
  | 20 => .array .int
  | 21 => .long
  | 22 => .long
  | 23 => .int
  | 24 => .int
  | 25 => .int
  | _ => .long
abbrev wsX40 : List Cond := u_ws RX4 TX4 27
set_option maxRecDepth 100000 in
theorem nmX4 : ∀ a, a < 27 → ∀ b, b < 27 → a ≠ b → (TX4 a).2.1 ≠ (TX4 b).2.1 := by decide +kernel
set_option maxRecDepth 100000 in
theorem tyX4_ok : ∀ k, k < 27 → parseFieldDescriptor (TX4 k).2.2.1 = some (tyX4 k) := by decide +kernel
abbrev cX4_init : ByteArray := prog_19_method_1_code
def yX4_init : MethodName := ⟨RX4, "<init>", "()V"⟩
def dkwX4_init_5 : List UInt8 := [182, 0, 50, 177]
abbrev dktX4_init_5 : List UInt8 := dkwX4_init_5 ++ []
def dkwX4_init_4 : List UInt8 := [181, 0, 41, 42, 17, 1, 0, 188, 11, 181, 0, 44, 42, 17, 1, 0, 188, 10, 181, 0, 47, 42, 7]
abbrev dktX4_init_4 : List UInt8 := dkwX4_init_4 ++ dktX4_init_5
def dkwX4_init_3 : List UInt8 := [17, 1, 0, 188, 11, 181, 0, 35, 42, 17, 1, 0, 188, 11, 181, 0, 38, 42, 17, 1, 0, 188, 11]
abbrev dktX4_init_3 : List UInt8 := dkwX4_init_3 ++ dktX4_init_4
def dkwX4_init_2 : List UInt8 := [188, 10, 181, 0, 25, 42, 17, 0, 160, 188, 11, 181, 0, 28, 42, 17, 0, 160, 188, 11, 181, 0, 32, 42]
abbrev dktX4_init_2 : List UInt8 := dkwX4_init_2 ++ dktX4_init_3
def dkwX4_init_1 : List UInt8 := [188, 10, 181, 0, 16, 42, 16, 120, 188, 10, 181, 0, 19, 42, 16, 64, 188, 10, 181, 0, 22, 42, 16, 8]
abbrev dktX4_init_1 : List UInt8 := dkwX4_init_1 ++ dktX4_init_2
def dkwX4_init_0 : List UInt8 := [42, 183, 0, 1, 42, 16, 73, 188, 10, 181, 0, 7, 42, 17, 1, 182, 188, 10, 181, 0, 13, 42, 16, 73]
abbrev dktX4_init_0 : List UInt8 := dkwX4_init_0 ++ dktX4_init_1
theorem dksX4_init_0 : cX4_init.data.toList.drop 0 = dktX4_init_0 := by decide +kernel
theorem dksX4_init_1 : cX4_init.data.toList.drop 24 = dktX4_init_1 := dk_seg dksX4_init_0 24 rfl rfl
theorem dksX4_init_2 : cX4_init.data.toList.drop 48 = dktX4_init_2 := dk_seg dksX4_init_1 24 rfl rfl
theorem dksX4_init_3 : cX4_init.data.toList.drop 72 = dktX4_init_3 := dk_seg dksX4_init_2 24 rfl rfl
theorem dksX4_init_4 : cX4_init.data.toList.drop 95 = dktX4_init_4 := dk_seg dksX4_init_3 23 rfl rfl
theorem dksX4_init_5 : cX4_init.data.toList.drop 118 = dktX4_init_5 := dk_seg dksX4_init_4 23 rfl rfl
theorem dX4_init_0 : decode cX4_init 0 = .ok (.aload_n 0, 1) := dk_42 (dk_at dksX4_init_0 0 rfl rfl)
theorem dX4_init_1 : decode cX4_init 1 = .ok (.invokespecial 1, 3) := dk_183 0 1 (dk_at dksX4_init_0 1 rfl rfl)
theorem dX4_init_4 : decode cX4_init 4 = .ok (.aload_n 0, 1) := dk_42 (dk_at dksX4_init_0 4 rfl rfl)
theorem dX4_init_5 : decode cX4_init 5 = .ok (.bipush 73, 2) := dk_16 73 (dk_at dksX4_init_0 5 rfl rfl)
theorem dX4_init_7 : decode cX4_init 7 = .ok (.newarray .int, 2) := dk_188_10 (dk_at dksX4_init_0 7 rfl rfl)
theorem dX4_init_9 : decode cX4_init 9 = .ok (.putfield 7, 3) := dk_181 0 7 (dk_at dksX4_init_0 9 rfl rfl)
theorem dX4_init_12 : decode cX4_init 12 = .ok (.aload_n 0, 1) := dk_42 (dk_at dksX4_init_0 12 rfl rfl)
theorem dX4_init_13 : decode cX4_init 13 = .ok (.sipush 438, 3) := dk_17 1 182 (dk_at dksX4_init_0 13 rfl rfl)
theorem dX4_init_16 : decode cX4_init 16 = .ok (.newarray .int, 2) := dk_188_10 (dk_at dksX4_init_0 16 rfl rfl)
theorem dX4_init_18 : decode cX4_init 18 = .ok (.putfield 13, 3) := dk_181 0 13 (dk_at dksX4_init_0 18 rfl rfl)
theorem dX4_init_21 : decode cX4_init 21 = .ok (.aload_n 0, 1) := dk_42 (dk_at dksX4_init_0 21 rfl rfl)
theorem dX4_init_22 : decode cX4_init 22 = .ok (.bipush 73, 2) := dk_16 73 (dk_at dksX4_init_0 22 rfl rfl)
theorem dX4_init_24 : decode cX4_init 24 = .ok (.newarray .int, 2) := dk_188_10 (dk_at dksX4_init_1 0 rfl rfl)
theorem dX4_init_26 : decode cX4_init 26 = .ok (.putfield 16, 3) := dk_181 0 16 (dk_at dksX4_init_1 2 rfl rfl)
theorem dX4_init_29 : decode cX4_init 29 = .ok (.aload_n 0, 1) := dk_42 (dk_at dksX4_init_1 5 rfl rfl)
theorem dX4_init_30 : decode cX4_init 30 = .ok (.bipush 120, 2) := dk_16 120 (dk_at dksX4_init_1 6 rfl rfl)
theorem dX4_init_32 : decode cX4_init 32 = .ok (.newarray .int, 2) := dk_188_10 (dk_at dksX4_init_1 8 rfl rfl)
theorem dX4_init_34 : decode cX4_init 34 = .ok (.putfield 19, 3) := dk_181 0 19 (dk_at dksX4_init_1 10 rfl rfl)
theorem dX4_init_37 : decode cX4_init 37 = .ok (.aload_n 0, 1) := dk_42 (dk_at dksX4_init_1 13 rfl rfl)
theorem dX4_init_38 : decode cX4_init 38 = .ok (.bipush 64, 2) := dk_16 64 (dk_at dksX4_init_1 14 rfl rfl)
theorem dX4_init_40 : decode cX4_init 40 = .ok (.newarray .int, 2) := dk_188_10 (dk_at dksX4_init_1 16 rfl rfl)
theorem dX4_init_42 : decode cX4_init 42 = .ok (.putfield 22, 3) := dk_181 0 22 (dk_at dksX4_init_1 18 rfl rfl)
theorem dX4_init_45 : decode cX4_init 45 = .ok (.aload_n 0, 1) := dk_42 (dk_at dksX4_init_1 21 rfl rfl)
theorem dX4_init_46 : decode cX4_init 46 = .ok (.bipush 8, 2) := dk_16 8 (dk_at dksX4_init_1 22 rfl rfl)
theorem dX4_init_48 : decode cX4_init 48 = .ok (.newarray .int, 2) := dk_188_10 (dk_at dksX4_init_2 0 rfl rfl)
theorem dX4_init_50 : decode cX4_init 50 = .ok (.putfield 25, 3) := dk_181 0 25 (dk_at dksX4_init_2 2 rfl rfl)
theorem dX4_init_53 : decode cX4_init 53 = .ok (.aload_n 0, 1) := dk_42 (dk_at dksX4_init_2 5 rfl rfl)
theorem dX4_init_54 : decode cX4_init 54 = .ok (.sipush 160, 3) := dk_17 0 160 (dk_at dksX4_init_2 6 rfl rfl)
theorem dX4_init_57 : decode cX4_init 57 = .ok (.newarray .long, 2) := dk_188_11 (dk_at dksX4_init_2 9 rfl rfl)
theorem dX4_init_59 : decode cX4_init 59 = .ok (.putfield 28, 3) := dk_181 0 28 (dk_at dksX4_init_2 11 rfl rfl)
theorem dX4_init_62 : decode cX4_init 62 = .ok (.aload_n 0, 1) := dk_42 (dk_at dksX4_init_2 14 rfl rfl)
theorem dX4_init_63 : decode cX4_init 63 = .ok (.sipush 160, 3) := dk_17 0 160 (dk_at dksX4_init_2 15 rfl rfl)
theorem dX4_init_66 : decode cX4_init 66 = .ok (.newarray .long, 2) := dk_188_11 (dk_at dksX4_init_2 18 rfl rfl)
theorem dX4_init_68 : decode cX4_init 68 = .ok (.putfield 32, 3) := dk_181 0 32 (dk_at dksX4_init_2 20 rfl rfl)
theorem dX4_init_71 : decode cX4_init 71 = .ok (.aload_n 0, 1) := dk_42 (dk_at dksX4_init_2 23 rfl rfl)
theorem dX4_init_72 : decode cX4_init 72 = .ok (.sipush 256, 3) := dk_17 1 0 (dk_at dksX4_init_3 0 rfl rfl)
theorem dX4_init_75 : decode cX4_init 75 = .ok (.newarray .long, 2) := dk_188_11 (dk_at dksX4_init_3 3 rfl rfl)
theorem dX4_init_77 : decode cX4_init 77 = .ok (.putfield 35, 3) := dk_181 0 35 (dk_at dksX4_init_3 5 rfl rfl)
theorem dX4_init_80 : decode cX4_init 80 = .ok (.aload_n 0, 1) := dk_42 (dk_at dksX4_init_3 8 rfl rfl)
theorem dX4_init_81 : decode cX4_init 81 = .ok (.sipush 256, 3) := dk_17 1 0 (dk_at dksX4_init_3 9 rfl rfl)
theorem dX4_init_84 : decode cX4_init 84 = .ok (.newarray .long, 2) := dk_188_11 (dk_at dksX4_init_3 12 rfl rfl)
theorem dX4_init_86 : decode cX4_init 86 = .ok (.putfield 38, 3) := dk_181 0 38 (dk_at dksX4_init_3 14 rfl rfl)
theorem dX4_init_89 : decode cX4_init 89 = .ok (.aload_n 0, 1) := dk_42 (dk_at dksX4_init_3 17 rfl rfl)
theorem dX4_init_90 : decode cX4_init 90 = .ok (.sipush 256, 3) := dk_17 1 0 (dk_at dksX4_init_3 18 rfl rfl)
theorem dX4_init_93 : decode cX4_init 93 = .ok (.newarray .long, 2) := dk_188_11 (dk_at dksX4_init_3 21 rfl rfl)
theorem dX4_init_95 : decode cX4_init 95 = .ok (.putfield 41, 3) := dk_181 0 41 (dk_at dksX4_init_4 0 rfl rfl)
theorem dX4_init_98 : decode cX4_init 98 = .ok (.aload_n 0, 1) := dk_42 (dk_at dksX4_init_4 3 rfl rfl)
theorem dX4_init_99 : decode cX4_init 99 = .ok (.sipush 256, 3) := dk_17 1 0 (dk_at dksX4_init_4 4 rfl rfl)
theorem dX4_init_102 : decode cX4_init 102 = .ok (.newarray .long, 2) := dk_188_11 (dk_at dksX4_init_4 7 rfl rfl)
theorem dX4_init_104 : decode cX4_init 104 = .ok (.putfield 44, 3) := dk_181 0 44 (dk_at dksX4_init_4 9 rfl rfl)
theorem dX4_init_107 : decode cX4_init 107 = .ok (.aload_n 0, 1) := dk_42 (dk_at dksX4_init_4 12 rfl rfl)
theorem dX4_init_108 : decode cX4_init 108 = .ok (.sipush 256, 3) := dk_17 1 0 (dk_at dksX4_init_4 13 rfl rfl)
theorem dX4_init_111 : decode cX4_init 111 = .ok (.newarray .int, 2) := dk_188_10 (dk_at dksX4_init_4 16 rfl rfl)
theorem dX4_init_113 : decode cX4_init 113 = .ok (.putfield 47, 3) := dk_181 0 47 (dk_at dksX4_init_4 18 rfl rfl)
theorem dX4_init_116 : decode cX4_init 116 = .ok (.aload_n 0, 1) := dk_42 (dk_at dksX4_init_4 21 rfl rfl)
theorem dX4_init_117 : decode cX4_init 117 = .ok (.iconst 4, 1) := dk_7 (dk_at dksX4_init_4 22 rfl rfl)
theorem dX4_init_118 : decode cX4_init 118 = .ok (.invokevirtual 50, 3) := dk_182 0 50 (dk_at dksX4_init_5 0 rfl rfl)
theorem dX4_init_121 : decode cX4_init 121 = .ok (.return_, 1) := dk_177 (dk_at dksX4_init_5 3 rfl rfl)
abbrev cX4_begins : ByteArray := prog_19_method_2_code
def yX4_begins : MethodName := ⟨RX4, "begins", "(I)V"⟩
def dkwX4_begins_1 : List UInt8 := [162, 0, 7, 4, 167, 0, 4, 3, 79, 132, 2, 1, 167, 255, 224, 42, 180, 0, 7, 3, 27, 79, 177]
abbrev dktX4_begins_1 : List UInt8 := dkwX4_begins_1 ++ []
def dkwX4_begins_0 : List UInt8 := [3, 61, 28, 16, 73, 162, 0, 32, 42, 180, 0, 7, 28, 28, 4, 161, 0, 14, 28, 4, 27, 96]
abbrev dktX4_begins_0 : List UInt8 := dkwX4_begins_0 ++ dktX4_begins_1
theorem dksX4_begins_0 : cX4_begins.data.toList.drop 0 = dktX4_begins_0 := by decide +kernel
theorem dksX4_begins_1 : cX4_begins.data.toList.drop 22 = dktX4_begins_1 := dk_seg dksX4_begins_0 22 rfl rfl
theorem dX4_begins_0 : decode cX4_begins 0 = .ok (.iconst 0, 1) := dk_3 (dk_at dksX4_begins_0 0 rfl rfl)
theorem dX4_begins_1 : decode cX4_begins 1 = .ok (.istore_n 2, 1) := dk_61 (dk_at dksX4_begins_0 1 rfl rfl)
theorem dX4_begins_2 : decode cX4_begins 2 = .ok (.iload_n 2, 1) := dk_28 (dk_at dksX4_begins_0 2 rfl rfl)
theorem dX4_begins_3 : decode cX4_begins 3 = .ok (.bipush 73, 2) := dk_16 73 (dk_at dksX4_begins_0 3 rfl rfl)
theorem dX4_begins_5 : decode cX4_begins 5 = .ok (.if_icmp .ge 32, 3) := dk_162 0 32 (dk_at dksX4_begins_0 5 rfl rfl)
theorem dX4_begins_8 : decode cX4_begins 8 = .ok (.aload_n 0, 1) := dk_42 (dk_at dksX4_begins_0 8 rfl rfl)
theorem dX4_begins_9 : decode cX4_begins 9 = .ok (.getfield 7, 3) := dk_180 0 7 (dk_at dksX4_begins_0 9 rfl rfl)
theorem dX4_begins_12 : decode cX4_begins 12 = .ok (.iload_n 2, 1) := dk_28 (dk_at dksX4_begins_0 12 rfl rfl)
theorem dX4_begins_13 : decode cX4_begins 13 = .ok (.iload_n 2, 1) := dk_28 (dk_at dksX4_begins_0 13 rfl rfl)
theorem dX4_begins_14 : decode cX4_begins 14 = .ok (.iconst 1, 1) := dk_4 (dk_at dksX4_begins_0 14 rfl rfl)
theorem dX4_begins_15 : decode cX4_begins 15 = .ok (.if_icmp .lt 14, 3) := dk_161 0 14 (dk_at dksX4_begins_0 15 rfl rfl)
theorem dX4_begins_18 : decode cX4_begins 18 = .ok (.iload_n 2, 1) := dk_28 (dk_at dksX4_begins_0 18 rfl rfl)
theorem dX4_begins_19 : decode cX4_begins 19 = .ok (.iconst 1, 1) := dk_4 (dk_at dksX4_begins_0 19 rfl rfl)
theorem dX4_begins_20 : decode cX4_begins 20 = .ok (.iload_n 1, 1) := dk_27 (dk_at dksX4_begins_0 20 rfl rfl)
theorem dX4_begins_21 : decode cX4_begins 21 = .ok (.iadd, 1) := dk_96 (dk_at dksX4_begins_0 21 rfl rfl)
theorem dX4_begins_22 : decode cX4_begins 22 = .ok (.if_icmp .ge 7, 3) := dk_162 0 7 (dk_at dksX4_begins_1 0 rfl rfl)
theorem dX4_begins_25 : decode cX4_begins 25 = .ok (.iconst 1, 1) := dk_4 (dk_at dksX4_begins_1 3 rfl rfl)
theorem dX4_begins_26 : decode cX4_begins 26 = .ok (.goto 4, 3) := dk_167 0 4 (dk_at dksX4_begins_1 4 rfl rfl)
theorem dX4_begins_29 : decode cX4_begins 29 = .ok (.iconst 0, 1) := dk_3 (dk_at dksX4_begins_1 7 rfl rfl)
theorem dX4_begins_30 : decode cX4_begins 30 = .ok (.iastore, 1) := dk_79 (dk_at dksX4_begins_1 8 rfl rfl)
theorem dX4_begins_31 : decode cX4_begins 31 = .ok (.iinc 2 1, 3) := dk_132 2 1 (dk_at dksX4_begins_1 9 rfl rfl)
theorem dX4_begins_34 : decode cX4_begins 34 = .ok (.goto (-32), 3) := dk_167 255 224 (dk_at dksX4_begins_1 12 rfl rfl)
theorem dX4_begins_37 : decode cX4_begins 37 = .ok (.aload_n 0, 1) := dk_42 (dk_at dksX4_begins_1 15 rfl rfl)
theorem dX4_begins_38 : decode cX4_begins 38 = .ok (.getfield 7, 3) := dk_180 0 7 (dk_at dksX4_begins_1 16 rfl rfl)
theorem dX4_begins_41 : decode cX4_begins 41 = .ok (.iconst 0, 1) := dk_3 (dk_at dksX4_begins_1 19 rfl rfl)
theorem dX4_begins_42 : decode cX4_begins 42 = .ok (.iload_n 1, 1) := dk_27 (dk_at dksX4_begins_1 20 rfl rfl)
theorem dX4_begins_43 : decode cX4_begins 43 = .ok (.iastore, 1) := dk_79 (dk_at dksX4_begins_1 21 rfl rfl)
theorem dX4_begins_44 : decode cX4_begins 44 = .ok (.return_, 1) := dk_177 (dk_at dksX4_begins_1 22 rfl rfl)
abbrev cX4_thrown : ByteArray := prog_19_method_3_code
def yX4_thrown : MethodName := ⟨RX4, "thrown", "()I"⟩
theorem dX4_thrown_0 : decode cX4_thrown 0 = .ok (.aload_n 0, 1) := by decide +kernel
theorem dX4_thrown_1 : decode cX4_thrown 1 = .ok (.getfield 54, 3) := by decide +kernel
theorem dX4_thrown_4 : decode cX4_thrown 4 = .ok (.ireturn, 1) := by decide +kernel
abbrev cX4_undo : ByteArray := prog_19_method_8_code
def yX4_undo : MethodName := ⟨RX4, "undo", "()I"⟩
def dkwX4_undo_3 : List UInt8 := [172]
abbrev dktX4_undo_3 : List UInt8 := dkwX4_undo_3 ++ []
def dkwX4_undo_2 : List UInt8 := [180, 0, 13, 16, 73, 42, 180, 0, 58, 104, 27, 96, 46, 79, 132, 1, 1, 167, 255, 227, 42, 180, 0, 58]
abbrev dktX4_undo_2 : List UInt8 := dkwX4_undo_2 ++ dktX4_undo_3
def dkwX4_undo_1 : List UInt8 := [180, 0, 58, 4, 100, 181, 0, 58, 3, 60, 27, 16, 73, 162, 0, 29, 42, 180, 0, 7, 27, 42]
abbrev dktX4_undo_1 : List UInt8 := dkwX4_undo_1 ++ dktX4_undo_2
def dkwX4_undo_0 : List UInt8 := [42, 42, 180, 0, 58, 154, 0, 7, 4, 167, 0, 4, 3, 182, 0, 61, 153, 0, 5, 3, 172, 42, 89]
abbrev dktX4_undo_0 : List UInt8 := dkwX4_undo_0 ++ dktX4_undo_1
theorem dksX4_undo_0 : cX4_undo.data.toList.drop 0 = dktX4_undo_0 := by decide +kernel
theorem dksX4_undo_1 : cX4_undo.data.toList.drop 23 = dktX4_undo_1 := dk_seg dksX4_undo_0 23 rfl rfl
theorem dksX4_undo_2 : cX4_undo.data.toList.drop 45 = dktX4_undo_2 := dk_seg dksX4_undo_1 22 rfl rfl
theorem dksX4_undo_3 : cX4_undo.data.toList.drop 69 = dktX4_undo_3 := dk_seg dksX4_undo_2 24 rfl rfl
theorem dX4_undo_0 : decode cX4_undo 0 = .ok (.aload_n 0, 1) := dk_42 (dk_at dksX4_undo_0 0 rfl rfl)
theorem dX4_undo_1 : decode cX4_undo 1 = .ok (.aload_n 0, 1) := dk_42 (dk_at dksX4_undo_0 1 rfl rfl)
theorem dX4_undo_2 : decode cX4_undo 2 = .ok (.getfield 58, 3) := dk_180 0 58 (dk_at dksX4_undo_0 2 rfl rfl)
theorem dX4_undo_5 : decode cX4_undo 5 = .ok (.ifCond .ne 7, 3) := dk_154 0 7 (dk_at dksX4_undo_0 5 rfl rfl)
theorem dX4_undo_8 : decode cX4_undo 8 = .ok (.iconst 1, 1) := dk_4 (dk_at dksX4_undo_0 8 rfl rfl)
theorem dX4_undo_9 : decode cX4_undo 9 = .ok (.goto 4, 3) := dk_167 0 4 (dk_at dksX4_undo_0 9 rfl rfl)
theorem dX4_undo_12 : decode cX4_undo 12 = .ok (.iconst 0, 1) := dk_3 (dk_at dksX4_undo_0 12 rfl rfl)
theorem dX4_undo_13 : decode cX4_undo 13 = .ok (.invokevirtual 61, 3) := dk_182 0 61 (dk_at dksX4_undo_0 13 rfl rfl)
theorem dX4_undo_16 : decode cX4_undo 16 = .ok (.ifCond .eq 5, 3) := dk_153 0 5 (dk_at dksX4_undo_0 16 rfl rfl)
theorem dX4_undo_19 : decode cX4_undo 19 = .ok (.iconst 0, 1) := dk_3 (dk_at dksX4_undo_0 19 rfl rfl)
theorem dX4_undo_20 : decode cX4_undo 20 = .ok (.ireturn, 1) := dk_172 (dk_at dksX4_undo_0 20 rfl rfl)
theorem dX4_undo_21 : decode cX4_undo 21 = .ok (.aload_n 0, 1) := dk_42 (dk_at dksX4_undo_0 21 rfl rfl)
theorem dX4_undo_22 : decode cX4_undo 22 = .ok (.dup, 1) := dk_89 (dk_at dksX4_undo_0 22 rfl rfl)
theorem dX4_undo_23 : decode cX4_undo 23 = .ok (.getfield 58, 3) := dk_180 0 58 (dk_at dksX4_undo_1 0 rfl rfl)
theorem dX4_undo_26 : decode cX4_undo 26 = .ok (.iconst 1, 1) := dk_4 (dk_at dksX4_undo_1 3 rfl rfl)
theorem dX4_undo_27 : decode cX4_undo 27 = .ok (.isub, 1) := dk_100 (dk_at dksX4_undo_1 4 rfl rfl)
theorem dX4_undo_28 : decode cX4_undo 28 = .ok (.putfield 58, 3) := dk_181 0 58 (dk_at dksX4_undo_1 5 rfl rfl)
theorem dX4_undo_31 : decode cX4_undo 31 = .ok (.iconst 0, 1) := dk_3 (dk_at dksX4_undo_1 8 rfl rfl)
theorem dX4_undo_32 : decode cX4_undo 32 = .ok (.istore_n 1, 1) := dk_60 (dk_at dksX4_undo_1 9 rfl rfl)
theorem dX4_undo_33 : decode cX4_undo 33 = .ok (.iload_n 1, 1) := dk_27 (dk_at dksX4_undo_1 10 rfl rfl)
theorem dX4_undo_34 : decode cX4_undo 34 = .ok (.bipush 73, 2) := dk_16 73 (dk_at dksX4_undo_1 11 rfl rfl)
theorem dX4_undo_36 : decode cX4_undo 36 = .ok (.if_icmp .ge 29, 3) := dk_162 0 29 (dk_at dksX4_undo_1 13 rfl rfl)
theorem dX4_undo_39 : decode cX4_undo 39 = .ok (.aload_n 0, 1) := dk_42 (dk_at dksX4_undo_1 16 rfl rfl)
theorem dX4_undo_40 : decode cX4_undo 40 = .ok (.getfield 7, 3) := dk_180 0 7 (dk_at dksX4_undo_1 17 rfl rfl)
theorem dX4_undo_43 : decode cX4_undo 43 = .ok (.iload_n 1, 1) := dk_27 (dk_at dksX4_undo_1 20 rfl rfl)
theorem dX4_undo_44 : decode cX4_undo 44 = .ok (.aload_n 0, 1) := dk_42 (dk_at dksX4_undo_1 21 rfl rfl)
theorem dX4_undo_45 : decode cX4_undo 45 = .ok (.getfield 13, 3) := dk_180 0 13 (dk_at dksX4_undo_2 0 rfl rfl)
theorem dX4_undo_48 : decode cX4_undo 48 = .ok (.bipush 73, 2) := dk_16 73 (dk_at dksX4_undo_2 3 rfl rfl)
theorem dX4_undo_50 : decode cX4_undo 50 = .ok (.aload_n 0, 1) := dk_42 (dk_at dksX4_undo_2 5 rfl rfl)
theorem dX4_undo_51 : decode cX4_undo 51 = .ok (.getfield 58, 3) := dk_180 0 58 (dk_at dksX4_undo_2 6 rfl rfl)
theorem dX4_undo_54 : decode cX4_undo 54 = .ok (.imul, 1) := dk_104 (dk_at dksX4_undo_2 9 rfl rfl)
theorem dX4_undo_55 : decode cX4_undo 55 = .ok (.iload_n 1, 1) := dk_27 (dk_at dksX4_undo_2 10 rfl rfl)
theorem dX4_undo_56 : decode cX4_undo 56 = .ok (.iadd, 1) := dk_96 (dk_at dksX4_undo_2 11 rfl rfl)
theorem dX4_undo_57 : decode cX4_undo 57 = .ok (.iaload, 1) := dk_46 (dk_at dksX4_undo_2 12 rfl rfl)
theorem dX4_undo_58 : decode cX4_undo 58 = .ok (.iastore, 1) := dk_79 (dk_at dksX4_undo_2 13 rfl rfl)
theorem dX4_undo_59 : decode cX4_undo 59 = .ok (.iinc 1 1, 3) := dk_132 1 1 (dk_at dksX4_undo_2 14 rfl rfl)
theorem dX4_undo_62 : decode cX4_undo 62 = .ok (.goto (-29), 3) := dk_167 255 227 (dk_at dksX4_undo_2 17 rfl rfl)
theorem dX4_undo_65 : decode cX4_undo 65 = .ok (.aload_n 0, 1) := dk_42 (dk_at dksX4_undo_2 20 rfl rfl)
theorem dX4_undo_66 : decode cX4_undo 66 = .ok (.getfield 58, 3) := dk_180 0 58 (dk_at dksX4_undo_2 21 rfl rfl)
theorem dX4_undo_69 : decode cX4_undo 69 = .ok (.ireturn, 1) := dk_172 (dk_at dksX4_undo_3 0 rfl rfl)
abbrev cX4_refused : ByteArray := prog_19_method_4_code
def yX4_refused : MethodName := ⟨RX4, "refused", "(I)Z"⟩
def dkwX4_refused_0 : List UInt8 := [42, 27, 181, 0, 54, 27, 158, 0, 7, 4, 167, 0, 4, 3, 172]
abbrev dktX4_refused_0 : List UInt8 := dkwX4_refused_0 ++ []
theorem dksX4_refused_0 : cX4_refused.data.toList.drop 0 = dktX4_refused_0 := by decide +kernel
theorem dX4_refused_0 : decode cX4_refused 0 = .ok (.aload_n 0, 1) := dk_42 (dk_at dksX4_refused_0 0 rfl rfl)
theorem dX4_refused_1 : decode cX4_refused 1 = .ok (.iload_n 1, 1) := dk_27 (dk_at dksX4_refused_0 1 rfl rfl)
theorem dX4_refused_2 : decode cX4_refused 2 = .ok (.putfield 54, 3) := dk_181 0 54 (dk_at dksX4_refused_0 2 rfl rfl)
theorem dX4_refused_5 : decode cX4_refused 5 = .ok (.iload_n 1, 1) := dk_27 (dk_at dksX4_refused_0 5 rfl rfl)
theorem dX4_refused_6 : decode cX4_refused 6 = .ok (.ifCond .le 7, 3) := dk_158 0 7 (dk_at dksX4_refused_0 6 rfl rfl)
theorem dX4_refused_9 : decode cX4_refused 9 = .ok (.iconst 1, 1) := dk_4 (dk_at dksX4_refused_0 9 rfl rfl)
theorem dX4_refused_10 : decode cX4_refused 10 = .ok (.goto 4, 3) := dk_167 0 4 (dk_at dksX4_refused_0 10 rfl rfl)
theorem dX4_refused_13 : decode cX4_refused 13 = .ok (.iconst 0, 1) := dk_3 (dk_at dksX4_refused_0 13 rfl rfl)
theorem dX4_refused_14 : decode cX4_refused 14 = .ok (.ireturn, 1) := dk_172 (dk_at dksX4_refused_0 14 rfl rfl)
abbrev cX4_reset : ByteArray := prog_19_method_16_code
def yX4_reset : MethodName := ⟨RX4, "reset", "(I)I"⟩
def dkwX4_reset_1 : List UInt8 := [42, 182, 0, 65, 61, 42, 182, 0, 76, 42, 27, 182, 0, 50, 28, 172]
abbrev dktX4_reset_1 : List UInt8 := dkwX4_reset_1 ++ []
def dkwX4_reset_0 : List UInt8 := [42, 27, 4, 16, 8, 184, 0, 69, 153, 0, 7, 3, 167, 0, 4, 4, 182, 0, 61, 153, 0, 5, 3, 172]
abbrev dktX4_reset_0 : List UInt8 := dkwX4_reset_0 ++ dktX4_reset_1
theorem dksX4_reset_0 : cX4_reset.data.toList.drop 0 = dktX4_reset_0 := by decide +kernel
theorem dksX4_reset_1 : cX4_reset.data.toList.drop 24 = dktX4_reset_1 := dk_seg dksX4_reset_0 24 rfl rfl
theorem dX4_reset_0 : decode cX4_reset 0 = .ok (.aload_n 0, 1) := dk_42 (dk_at dksX4_reset_0 0 rfl rfl)
theorem dX4_reset_1 : decode cX4_reset 1 = .ok (.iload_n 1, 1) := dk_27 (dk_at dksX4_reset_0 1 rfl rfl)
theorem dX4_reset_2 : decode cX4_reset 2 = .ok (.iconst 1, 1) := dk_4 (dk_at dksX4_reset_0 2 rfl rfl)
theorem dX4_reset_3 : decode cX4_reset 3 = .ok (.bipush 8, 2) := dk_16 8 (dk_at dksX4_reset_0 3 rfl rfl)
theorem dX4_reset_5 : decode cX4_reset 5 = .ok (.invokestatic 69, 3) := dk_184 0 69 (dk_at dksX4_reset_0 5 rfl rfl)
theorem dX4_reset_8 : decode cX4_reset 8 = .ok (.ifCond .eq 7, 3) := dk_153 0 7 (dk_at dksX4_reset_0 8 rfl rfl)
theorem dX4_reset_11 : decode cX4_reset 11 = .ok (.iconst 0, 1) := dk_3 (dk_at dksX4_reset_0 11 rfl rfl)
theorem dX4_reset_12 : decode cX4_reset 12 = .ok (.goto 4, 3) := dk_167 0 4 (dk_at dksX4_reset_0 12 rfl rfl)
theorem dX4_reset_15 : decode cX4_reset 15 = .ok (.iconst 1, 1) := dk_4 (dk_at dksX4_reset_0 15 rfl rfl)
theorem dX4_reset_16 : decode cX4_reset 16 = .ok (.invokevirtual 61, 3) := dk_182 0 61 (dk_at dksX4_reset_0 16 rfl rfl)
theorem dX4_reset_19 : decode cX4_reset 19 = .ok (.ifCond .eq 5, 3) := dk_153 0 5 (dk_at dksX4_reset_0 19 rfl rfl)
theorem dX4_reset_22 : decode cX4_reset 22 = .ok (.iconst 0, 1) := dk_3 (dk_at dksX4_reset_0 22 rfl rfl)
theorem dX4_reset_23 : decode cX4_reset 23 = .ok (.ireturn, 1) := dk_172 (dk_at dksX4_reset_0 23 rfl rfl)
theorem dX4_reset_24 : decode cX4_reset 24 = .ok (.aload_n 0, 1) := dk_42 (dk_at dksX4_reset_1 0 rfl rfl)
theorem dX4_reset_25 : decode cX4_reset 25 = .ok (.invokevirtual 65, 3) := dk_182 0 65 (dk_at dksX4_reset_1 1 rfl rfl)
theorem dX4_reset_28 : decode cX4_reset 28 = .ok (.istore_n 2, 1) := dk_61 (dk_at dksX4_reset_1 4 rfl rfl)
theorem dX4_reset_29 : decode cX4_reset 29 = .ok (.aload_n 0, 1) := dk_42 (dk_at dksX4_reset_1 5 rfl rfl)
theorem dX4_reset_30 : decode cX4_reset 30 = .ok (.invokevirtual 76, 3) := dk_182 0 76 (dk_at dksX4_reset_1 6 rfl rfl)
theorem dX4_reset_33 : decode cX4_reset 33 = .ok (.aload_n 0, 1) := dk_42 (dk_at dksX4_reset_1 9 rfl rfl)
theorem dX4_reset_34 : decode cX4_reset 34 = .ok (.iload_n 1, 1) := dk_27 (dk_at dksX4_reset_1 10 rfl rfl)
theorem dX4_reset_35 : decode cX4_reset 35 = .ok (.invokevirtual 50, 3) := dk_182 0 50 (dk_at dksX4_reset_1 11 rfl rfl)
theorem dX4_reset_38 : decode cX4_reset 38 = .ok (.iload_n 2, 1) := dk_28 (dk_at dksX4_reset_1 14 rfl rfl)
theorem dX4_reset_39 : decode cX4_reset 39 = .ok (.ireturn, 1) := dk_172 (dk_at dksX4_reset_1 15 rfl rfl)
abbrev cX4_within : ByteArray := prog_19_method_5_code
def yX4_within : MethodName := ⟨RX4, "within", "(III)Z"⟩
def dkwX4_within_0 : List UInt8 := [26, 27, 161, 0, 12, 26, 28, 163, 0, 7, 4, 167, 0, 4, 3, 172]
abbrev dktX4_within_0 : List UInt8 := dkwX4_within_0 ++ []
theorem dksX4_within_0 : cX4_within.data.toList.drop 0 = dktX4_within_0 := by decide +kernel
theorem dX4_within_0 : decode cX4_within 0 = .ok (.iload_n 0, 1) := dk_26 (dk_at dksX4_within_0 0 rfl rfl)
theorem dX4_within_1 : decode cX4_within 1 = .ok (.iload_n 1, 1) := dk_27 (dk_at dksX4_within_0 1 rfl rfl)
theorem dX4_within_2 : decode cX4_within 2 = .ok (.if_icmp .lt 12, 3) := dk_161 0 12 (dk_at dksX4_within_0 2 rfl rfl)
theorem dX4_within_5 : decode cX4_within 5 = .ok (.iload_n 0, 1) := dk_26 (dk_at dksX4_within_0 5 rfl rfl)
theorem dX4_within_6 : decode cX4_within 6 = .ok (.iload_n 2, 1) := dk_28 (dk_at dksX4_within_0 6 rfl rfl)
theorem dX4_within_7 : decode cX4_within 7 = .ok (.if_icmp .gt 7, 3) := dk_163 0 7 (dk_at dksX4_within_0 7 rfl rfl)
theorem dX4_within_10 : decode cX4_within 10 = .ok (.iconst 1, 1) := dk_4 (dk_at dksX4_within_0 10 rfl rfl)
theorem dX4_within_11 : decode cX4_within 11 = .ok (.goto 4, 3) := dk_167 0 4 (dk_at dksX4_within_0 11 rfl rfl)
theorem dX4_within_14 : decode cX4_within 14 = .ok (.iconst 0, 1) := dk_3 (dk_at dksX4_within_0 14 rfl rfl)
theorem dX4_within_15 : decode cX4_within 15 = .ok (.ireturn, 1) := dk_172 (dk_at dksX4_within_0 15 rfl rfl)
abbrev cX4_many : ByteArray := prog_19_method_9_code
def yX4_many : MethodName := ⟨RX4, "many", "()I"⟩
def dkwX4_many_0 : List UInt8 := [42, 180, 0, 7, 3, 46, 172]
abbrev dktX4_many_0 : List UInt8 := dkwX4_many_0 ++ []
theorem dksX4_many_0 : cX4_many.data.toList.drop 0 = dktX4_many_0 := by decide +kernel
theorem dX4_many_0 : decode cX4_many 0 = .ok (.aload_n 0, 1) := dk_42 (dk_at dksX4_many_0 0 rfl rfl)
theorem dX4_many_1 : decode cX4_many 1 = .ok (.getfield 7, 3) := dk_180 0 7 (dk_at dksX4_many_0 1 rfl rfl)
theorem dX4_many_4 : decode cX4_many 4 = .ok (.iconst 0, 1) := dk_3 (dk_at dksX4_many_0 4 rfl rfl)
theorem dX4_many_5 : decode cX4_many 5 = .ok (.iaload, 1) := dk_46 (dk_at dksX4_many_0 5 rfl rfl)
theorem dX4_many_6 : decode cX4_many 6 = .ok (.ireturn, 1) := dk_172 (dk_at dksX4_many_0 6 rfl rfl)
abbrev cX4_saves : ByteArray := prog_19_method_7_code
def yX4_saves : MethodName := ⟨RX4, "saves", "()V"⟩
def dkwX4_saves_3 : List UInt8 := [42, 180, 0, 7, 27, 46, 79, 132, 1, 1, 167, 255, 227, 42, 89, 180, 0, 58, 4, 96, 181, 0, 58, 177]
abbrev dktX4_saves_3 : List UInt8 := dkwX4_saves_3 ++ []
def dkwX4_saves_2 : List UInt8 := [181, 0, 58, 3, 60, 27, 16, 73, 162, 0, 29, 42, 180, 0, 13, 16, 73, 42, 180, 0, 58, 104, 27, 96]
abbrev dktX4_saves_2 : List UInt8 := dkwX4_saves_2 ++ dktX4_saves_3
def dkwX4_saves_1 : List UInt8 := [180, 0, 13, 27, 16, 73, 96, 46, 79, 132, 1, 1, 167, 255, 231, 42, 89, 180, 0, 58, 4, 100]
abbrev dktX4_saves_1 : List UInt8 := dkwX4_saves_1 ++ dktX4_saves_2
def dkwX4_saves_0 : List UInt8 := [42, 180, 0, 58, 16, 6, 160, 0, 43, 3, 60, 27, 17, 1, 109, 162, 0, 24, 42, 180, 0, 13, 27, 42]
abbrev dktX4_saves_0 : List UInt8 := dkwX4_saves_0 ++ dktX4_saves_1
theorem dksX4_saves_0 : cX4_saves.data.toList.drop 0 = dktX4_saves_0 := by decide +kernel
theorem dksX4_saves_1 : cX4_saves.data.toList.drop 24 = dktX4_saves_1 := dk_seg dksX4_saves_0 24 rfl rfl
theorem dksX4_saves_2 : cX4_saves.data.toList.drop 46 = dktX4_saves_2 := dk_seg dksX4_saves_1 22 rfl rfl
theorem dksX4_saves_3 : cX4_saves.data.toList.drop 70 = dktX4_saves_3 := dk_seg dksX4_saves_2 24 rfl rfl
theorem dX4_saves_0 : decode cX4_saves 0 = .ok (.aload_n 0, 1) := dk_42 (dk_at dksX4_saves_0 0 rfl rfl)
theorem dX4_saves_1 : decode cX4_saves 1 = .ok (.getfield 58, 3) := dk_180 0 58 (dk_at dksX4_saves_0 1 rfl rfl)
theorem dX4_saves_4 : decode cX4_saves 4 = .ok (.bipush 6, 2) := dk_16 6 (dk_at dksX4_saves_0 4 rfl rfl)
theorem dX4_saves_6 : decode cX4_saves 6 = .ok (.if_icmp .ne 43, 3) := dk_160 0 43 (dk_at dksX4_saves_0 6 rfl rfl)
theorem dX4_saves_9 : decode cX4_saves 9 = .ok (.iconst 0, 1) := dk_3 (dk_at dksX4_saves_0 9 rfl rfl)
theorem dX4_saves_10 : decode cX4_saves 10 = .ok (.istore_n 1, 1) := dk_60 (dk_at dksX4_saves_0 10 rfl rfl)
theorem dX4_saves_11 : decode cX4_saves 11 = .ok (.iload_n 1, 1) := dk_27 (dk_at dksX4_saves_0 11 rfl rfl)
theorem dX4_saves_12 : decode cX4_saves 12 = .ok (.sipush 365, 3) := dk_17 1 109 (dk_at dksX4_saves_0 12 rfl rfl)
theorem dX4_saves_15 : decode cX4_saves 15 = .ok (.if_icmp .ge 24, 3) := dk_162 0 24 (dk_at dksX4_saves_0 15 rfl rfl)
theorem dX4_saves_18 : decode cX4_saves 18 = .ok (.aload_n 0, 1) := dk_42 (dk_at dksX4_saves_0 18 rfl rfl)
theorem dX4_saves_19 : decode cX4_saves 19 = .ok (.getfield 13, 3) := dk_180 0 13 (dk_at dksX4_saves_0 19 rfl rfl)
theorem dX4_saves_22 : decode cX4_saves 22 = .ok (.iload_n 1, 1) := dk_27 (dk_at dksX4_saves_0 22 rfl rfl)
theorem dX4_saves_23 : decode cX4_saves 23 = .ok (.aload_n 0, 1) := dk_42 (dk_at dksX4_saves_0 23 rfl rfl)
theorem dX4_saves_24 : decode cX4_saves 24 = .ok (.getfield 13, 3) := dk_180 0 13 (dk_at dksX4_saves_1 0 rfl rfl)
theorem dX4_saves_27 : decode cX4_saves 27 = .ok (.iload_n 1, 1) := dk_27 (dk_at dksX4_saves_1 3 rfl rfl)
theorem dX4_saves_28 : decode cX4_saves 28 = .ok (.bipush 73, 2) := dk_16 73 (dk_at dksX4_saves_1 4 rfl rfl)
theorem dX4_saves_30 : decode cX4_saves 30 = .ok (.iadd, 1) := dk_96 (dk_at dksX4_saves_1 6 rfl rfl)
theorem dX4_saves_31 : decode cX4_saves 31 = .ok (.iaload, 1) := dk_46 (dk_at dksX4_saves_1 7 rfl rfl)
theorem dX4_saves_32 : decode cX4_saves 32 = .ok (.iastore, 1) := dk_79 (dk_at dksX4_saves_1 8 rfl rfl)
theorem dX4_saves_33 : decode cX4_saves 33 = .ok (.iinc 1 1, 3) := dk_132 1 1 (dk_at dksX4_saves_1 9 rfl rfl)
theorem dX4_saves_36 : decode cX4_saves 36 = .ok (.goto (-25), 3) := dk_167 255 231 (dk_at dksX4_saves_1 12 rfl rfl)
theorem dX4_saves_39 : decode cX4_saves 39 = .ok (.aload_n 0, 1) := dk_42 (dk_at dksX4_saves_1 15 rfl rfl)
theorem dX4_saves_40 : decode cX4_saves 40 = .ok (.dup, 1) := dk_89 (dk_at dksX4_saves_1 16 rfl rfl)
theorem dX4_saves_41 : decode cX4_saves 41 = .ok (.getfield 58, 3) := dk_180 0 58 (dk_at dksX4_saves_1 17 rfl rfl)
theorem dX4_saves_44 : decode cX4_saves 44 = .ok (.iconst 1, 1) := dk_4 (dk_at dksX4_saves_1 20 rfl rfl)
theorem dX4_saves_45 : decode cX4_saves 45 = .ok (.isub, 1) := dk_100 (dk_at dksX4_saves_1 21 rfl rfl)
theorem dX4_saves_46 : decode cX4_saves 46 = .ok (.putfield 58, 3) := dk_181 0 58 (dk_at dksX4_saves_2 0 rfl rfl)
theorem dX4_saves_49 : decode cX4_saves 49 = .ok (.iconst 0, 1) := dk_3 (dk_at dksX4_saves_2 3 rfl rfl)
theorem dX4_saves_50 : decode cX4_saves 50 = .ok (.istore_n 1, 1) := dk_60 (dk_at dksX4_saves_2 4 rfl rfl)
theorem dX4_saves_51 : decode cX4_saves 51 = .ok (.iload_n 1, 1) := dk_27 (dk_at dksX4_saves_2 5 rfl rfl)
theorem dX4_saves_52 : decode cX4_saves 52 = .ok (.bipush 73, 2) := dk_16 73 (dk_at dksX4_saves_2 6 rfl rfl)
theorem dX4_saves_54 : decode cX4_saves 54 = .ok (.if_icmp .ge 29, 3) := dk_162 0 29 (dk_at dksX4_saves_2 8 rfl rfl)
theorem dX4_saves_57 : decode cX4_saves 57 = .ok (.aload_n 0, 1) := dk_42 (dk_at dksX4_saves_2 11 rfl rfl)
theorem dX4_saves_58 : decode cX4_saves 58 = .ok (.getfield 13, 3) := dk_180 0 13 (dk_at dksX4_saves_2 12 rfl rfl)
theorem dX4_saves_61 : decode cX4_saves 61 = .ok (.bipush 73, 2) := dk_16 73 (dk_at dksX4_saves_2 15 rfl rfl)
theorem dX4_saves_63 : decode cX4_saves 63 = .ok (.aload_n 0, 1) := dk_42 (dk_at dksX4_saves_2 17 rfl rfl)
theorem dX4_saves_64 : decode cX4_saves 64 = .ok (.getfield 58, 3) := dk_180 0 58 (dk_at dksX4_saves_2 18 rfl rfl)
theorem dX4_saves_67 : decode cX4_saves 67 = .ok (.imul, 1) := dk_104 (dk_at dksX4_saves_2 21 rfl rfl)
theorem dX4_saves_68 : decode cX4_saves 68 = .ok (.iload_n 1, 1) := dk_27 (dk_at dksX4_saves_2 22 rfl rfl)
theorem dX4_saves_69 : decode cX4_saves 69 = .ok (.iadd, 1) := dk_96 (dk_at dksX4_saves_2 23 rfl rfl)
theorem dX4_saves_70 : decode cX4_saves 70 = .ok (.aload_n 0, 1) := dk_42 (dk_at dksX4_saves_3 0 rfl rfl)
theorem dX4_saves_71 : decode cX4_saves 71 = .ok (.getfield 7, 3) := dk_180 0 7 (dk_at dksX4_saves_3 1 rfl rfl)
theorem dX4_saves_74 : decode cX4_saves 74 = .ok (.iload_n 1, 1) := dk_27 (dk_at dksX4_saves_3 4 rfl rfl)
theorem dX4_saves_75 : decode cX4_saves 75 = .ok (.iaload, 1) := dk_46 (dk_at dksX4_saves_3 5 rfl rfl)
theorem dX4_saves_76 : decode cX4_saves 76 = .ok (.iastore, 1) := dk_79 (dk_at dksX4_saves_3 6 rfl rfl)
theorem dX4_saves_77 : decode cX4_saves 77 = .ok (.iinc 1 1, 3) := dk_132 1 1 (dk_at dksX4_saves_3 7 rfl rfl)
theorem dX4_saves_80 : decode cX4_saves 80 = .ok (.goto (-29), 3) := dk_167 255 227 (dk_at dksX4_saves_3 10 rfl rfl)
theorem dX4_saves_83 : decode cX4_saves 83 = .ok (.aload_n 0, 1) := dk_42 (dk_at dksX4_saves_3 13 rfl rfl)
theorem dX4_saves_84 : decode cX4_saves 84 = .ok (.dup, 1) := dk_89 (dk_at dksX4_saves_3 14 rfl rfl)
theorem dX4_saves_85 : decode cX4_saves 85 = .ok (.getfield 58, 3) := dk_180 0 58 (dk_at dksX4_saves_3 15 rfl rfl)
theorem dX4_saves_88 : decode cX4_saves 88 = .ok (.iconst 1, 1) := dk_4 (dk_at dksX4_saves_3 18 rfl rfl)
theorem dX4_saves_89 : decode cX4_saves 89 = .ok (.iadd, 1) := dk_96 (dk_at dksX4_saves_3 19 rfl rfl)
theorem dX4_saves_90 : decode cX4_saves 90 = .ok (.putfield 58, 3) := dk_181 0 58 (dk_at dksX4_saves_3 20 rfl rfl)
theorem dX4_saves_93 : decode cX4_saves 93 = .ok (.return_, 1) := dk_177 (dk_at dksX4_saves_3 23 rfl rfl)
abbrev cX4_connect : ByteArray := prog_19_method_20_code
def yX4_connect : MethodName := ⟨RX4, "connect", "(III)I"⟩
def dkwX4_connect_1 : List UInt8 := [182, 0, 94, 172]
abbrev dktX4_connect_1 : List UInt8 := dkwX4_connect_1 ++ []
def dkwX4_connect_0 : List UInt8 := [42, 42, 27, 28, 29, 182, 0, 90, 182, 0, 61, 153, 0, 5, 3, 172, 42, 182, 0, 76, 42, 27, 28, 29]
abbrev dktX4_connect_0 : List UInt8 := dkwX4_connect_0 ++ dktX4_connect_1
theorem dksX4_connect_0 : cX4_connect.data.toList.drop 0 = dktX4_connect_0 := by decide +kernel
theorem dksX4_connect_1 : cX4_connect.data.toList.drop 24 = dktX4_connect_1 := dk_seg dksX4_connect_0 24 rfl rfl
theorem dX4_connect_0 : decode cX4_connect 0 = .ok (.aload_n 0, 1) := dk_42 (dk_at dksX4_connect_0 0 rfl rfl)
theorem dX4_connect_1 : decode cX4_connect 1 = .ok (.aload_n 0, 1) := dk_42 (dk_at dksX4_connect_0 1 rfl rfl)
theorem dX4_connect_2 : decode cX4_connect 2 = .ok (.iload_n 1, 1) := dk_27 (dk_at dksX4_connect_0 2 rfl rfl)
theorem dX4_connect_3 : decode cX4_connect 3 = .ok (.iload_n 2, 1) := dk_28 (dk_at dksX4_connect_0 3 rfl rfl)
theorem dX4_connect_4 : decode cX4_connect 4 = .ok (.iload_n 3, 1) := dk_29 (dk_at dksX4_connect_0 4 rfl rfl)
theorem dX4_connect_5 : decode cX4_connect 5 = .ok (.invokevirtual 90, 3) := dk_182 0 90 (dk_at dksX4_connect_0 5 rfl rfl)
theorem dX4_connect_8 : decode cX4_connect 8 = .ok (.invokevirtual 61, 3) := dk_182 0 61 (dk_at dksX4_connect_0 8 rfl rfl)
theorem dX4_connect_11 : decode cX4_connect 11 = .ok (.ifCond .eq 5, 3) := dk_153 0 5 (dk_at dksX4_connect_0 11 rfl rfl)
theorem dX4_connect_14 : decode cX4_connect 14 = .ok (.iconst 0, 1) := dk_3 (dk_at dksX4_connect_0 14 rfl rfl)
theorem dX4_connect_15 : decode cX4_connect 15 = .ok (.ireturn, 1) := dk_172 (dk_at dksX4_connect_0 15 rfl rfl)
theorem dX4_connect_16 : decode cX4_connect 16 = .ok (.aload_n 0, 1) := dk_42 (dk_at dksX4_connect_0 16 rfl rfl)
theorem dX4_connect_17 : decode cX4_connect 17 = .ok (.invokevirtual 76, 3) := dk_182 0 76 (dk_at dksX4_connect_0 17 rfl rfl)
theorem dX4_connect_20 : decode cX4_connect 20 = .ok (.aload_n 0, 1) := dk_42 (dk_at dksX4_connect_0 20 rfl rfl)
theorem dX4_connect_21 : decode cX4_connect 21 = .ok (.iload_n 1, 1) := dk_27 (dk_at dksX4_connect_0 21 rfl rfl)
theorem dX4_connect_22 : decode cX4_connect 22 = .ok (.iload_n 2, 1) := dk_28 (dk_at dksX4_connect_0 22 rfl rfl)
theorem dX4_connect_23 : decode cX4_connect 23 = .ok (.iload_n 3, 1) := dk_29 (dk_at dksX4_connect_0 23 rfl rfl)
theorem dX4_connect_24 : decode cX4_connect 24 = .ok (.invokevirtual 94, 3) := dk_182 0 94 (dk_at dksX4_connect_1 0 rfl rfl)
theorem dX4_connect_27 : decode cX4_connect 27 = .ok (.ireturn, 1) := dk_172 (dk_at dksX4_connect_1 3 rfl rfl)
abbrev cX4_needConnect : ByteArray := prog_19_method_18_code
def yX4_needConnect : MethodName := ⟨RX4, "needConnect", "(III)I"⟩
def dkwX4_needConnect_2 : List UInt8 := [16, 12, 160, 0, 7, 6, 167, 0, 4, 3, 172]
abbrev dktX4_needConnect_2 : List UInt8 := dkwX4_needConnect_2 ++ []
def dkwX4_needConnect_1 : List UInt8 := [4, 16, 50, 184, 0, 69, 154, 0, 5, 5, 172, 42, 27, 28, 182, 0, 86, 154, 0, 12, 42, 182, 0, 73]
abbrev dktX4_needConnect_1 : List UInt8 := dkwX4_needConnect_1 ++ dktX4_needConnect_2
def dkwX4_needConnect_0 : List UInt8 := [42, 27, 182, 0, 83, 153, 0, 11, 42, 28, 182, 0, 83, 154, 0, 5, 4, 172, 27, 28, 159, 0, 13, 29]
abbrev dktX4_needConnect_0 : List UInt8 := dkwX4_needConnect_0 ++ dktX4_needConnect_1
theorem dksX4_needConnect_0 : cX4_needConnect.data.toList.drop 0 = dktX4_needConnect_0 := by decide +kernel
theorem dksX4_needConnect_1 : cX4_needConnect.data.toList.drop 24 = dktX4_needConnect_1 := dk_seg dksX4_needConnect_0 24 rfl rfl
theorem dksX4_needConnect_2 : cX4_needConnect.data.toList.drop 48 = dktX4_needConnect_2 := dk_seg dksX4_needConnect_1 24 rfl rfl
theorem dX4_needConnect_0 : decode cX4_needConnect 0 = .ok (.aload_n 0, 1) := dk_42 (dk_at dksX4_needConnect_0 0 rfl rfl)
theorem dX4_needConnect_1 : decode cX4_needConnect 1 = .ok (.iload_n 1, 1) := dk_27 (dk_at dksX4_needConnect_0 1 rfl rfl)
theorem dX4_needConnect_2 : decode cX4_needConnect 2 = .ok (.invokevirtual 83, 3) := dk_182 0 83 (dk_at dksX4_needConnect_0 2 rfl rfl)
theorem dX4_needConnect_5 : decode cX4_needConnect 5 = .ok (.ifCond .eq 11, 3) := dk_153 0 11 (dk_at dksX4_needConnect_0 5 rfl rfl)
theorem dX4_needConnect_8 : decode cX4_needConnect 8 = .ok (.aload_n 0, 1) := dk_42 (dk_at dksX4_needConnect_0 8 rfl rfl)
theorem dX4_needConnect_9 : decode cX4_needConnect 9 = .ok (.iload_n 2, 1) := dk_28 (dk_at dksX4_needConnect_0 9 rfl rfl)
theorem dX4_needConnect_10 : decode cX4_needConnect 10 = .ok (.invokevirtual 83, 3) := dk_182 0 83 (dk_at dksX4_needConnect_0 10 rfl rfl)
theorem dX4_needConnect_13 : decode cX4_needConnect 13 = .ok (.ifCond .ne 5, 3) := dk_154 0 5 (dk_at dksX4_needConnect_0 13 rfl rfl)
theorem dX4_needConnect_16 : decode cX4_needConnect 16 = .ok (.iconst 1, 1) := dk_4 (dk_at dksX4_needConnect_0 16 rfl rfl)
theorem dX4_needConnect_17 : decode cX4_needConnect 17 = .ok (.ireturn, 1) := dk_172 (dk_at dksX4_needConnect_0 17 rfl rfl)
theorem dX4_needConnect_18 : decode cX4_needConnect 18 = .ok (.iload_n 1, 1) := dk_27 (dk_at dksX4_needConnect_0 18 rfl rfl)
theorem dX4_needConnect_19 : decode cX4_needConnect 19 = .ok (.iload_n 2, 1) := dk_28 (dk_at dksX4_needConnect_0 19 rfl rfl)
theorem dX4_needConnect_20 : decode cX4_needConnect 20 = .ok (.if_icmp .eq 13, 3) := dk_159 0 13 (dk_at dksX4_needConnect_0 20 rfl rfl)
theorem dX4_needConnect_23 : decode cX4_needConnect 23 = .ok (.iload_n 3, 1) := dk_29 (dk_at dksX4_needConnect_0 23 rfl rfl)
theorem dX4_needConnect_24 : decode cX4_needConnect 24 = .ok (.iconst 1, 1) := dk_4 (dk_at dksX4_needConnect_1 0 rfl rfl)
theorem dX4_needConnect_25 : decode cX4_needConnect 25 = .ok (.bipush 50, 2) := dk_16 50 (dk_at dksX4_needConnect_1 1 rfl rfl)
theorem dX4_needConnect_27 : decode cX4_needConnect 27 = .ok (.invokestatic 69, 3) := dk_184 0 69 (dk_at dksX4_needConnect_1 3 rfl rfl)
theorem dX4_needConnect_30 : decode cX4_needConnect 30 = .ok (.ifCond .ne 5, 3) := dk_154 0 5 (dk_at dksX4_needConnect_1 6 rfl rfl)
theorem dX4_needConnect_33 : decode cX4_needConnect 33 = .ok (.iconst 2, 1) := dk_5 (dk_at dksX4_needConnect_1 9 rfl rfl)
theorem dX4_needConnect_34 : decode cX4_needConnect 34 = .ok (.ireturn, 1) := dk_172 (dk_at dksX4_needConnect_1 10 rfl rfl)
theorem dX4_needConnect_35 : decode cX4_needConnect 35 = .ok (.aload_n 0, 1) := dk_42 (dk_at dksX4_needConnect_1 11 rfl rfl)
theorem dX4_needConnect_36 : decode cX4_needConnect 36 = .ok (.iload_n 1, 1) := dk_27 (dk_at dksX4_needConnect_1 12 rfl rfl)
theorem dX4_needConnect_37 : decode cX4_needConnect 37 = .ok (.iload_n 2, 1) := dk_28 (dk_at dksX4_needConnect_1 13 rfl rfl)
theorem dX4_needConnect_38 : decode cX4_needConnect 38 = .ok (.invokevirtual 86, 3) := dk_182 0 86 (dk_at dksX4_needConnect_1 14 rfl rfl)
theorem dX4_needConnect_41 : decode cX4_needConnect 41 = .ok (.ifCond .ne 12, 3) := dk_154 0 12 (dk_at dksX4_needConnect_1 17 rfl rfl)
theorem dX4_needConnect_44 : decode cX4_needConnect 44 = .ok (.aload_n 0, 1) := dk_42 (dk_at dksX4_needConnect_1 20 rfl rfl)
theorem dX4_needConnect_45 : decode cX4_needConnect 45 = .ok (.invokevirtual 73, 3) := dk_182 0 73 (dk_at dksX4_needConnect_1 21 rfl rfl)
theorem dX4_needConnect_48 : decode cX4_needConnect 48 = .ok (.bipush 12, 2) := dk_16 12 (dk_at dksX4_needConnect_2 0 rfl rfl)
theorem dX4_needConnect_50 : decode cX4_needConnect 50 = .ok (.if_icmp .ne 7, 3) := dk_160 0 7 (dk_at dksX4_needConnect_2 2 rfl rfl)
theorem dX4_needConnect_53 : decode cX4_needConnect 53 = .ok (.iconst 3, 1) := dk_6 (dk_at dksX4_needConnect_2 5 rfl rfl)
theorem dX4_needConnect_54 : decode cX4_needConnect 54 = .ok (.goto 4, 3) := dk_167 0 4 (dk_at dksX4_needConnect_2 6 rfl rfl)
theorem dX4_needConnect_57 : decode cX4_needConnect 57 = .ok (.iconst 0, 1) := dk_3 (dk_at dksX4_needConnect_2 9 rfl rfl)
theorem dX4_needConnect_58 : decode cX4_needConnect 58 = .ok (.ireturn, 1) := dk_172 (dk_at dksX4_needConnect_2 10 rfl rfl)
abbrev cX4_isNode : ByteArray := prog_19_method_10_code
def yX4_isNode : MethodName := ⟨RX4, "isNode", "(I)Z"⟩
def dkwX4_isNode_0 : List UInt8 := [27, 3, 42, 182, 0, 65, 4, 100, 184, 0, 69, 172]
abbrev dktX4_isNode_0 : List UInt8 := dkwX4_isNode_0 ++ []
theorem dksX4_isNode_0 : cX4_isNode.data.toList.drop 0 = dktX4_isNode_0 := by decide +kernel
theorem dX4_isNode_0 : decode cX4_isNode 0 = .ok (.iload_n 1, 1) := dk_27 (dk_at dksX4_isNode_0 0 rfl rfl)
theorem dX4_isNode_1 : decode cX4_isNode 1 = .ok (.iconst 0, 1) := dk_3 (dk_at dksX4_isNode_0 1 rfl rfl)
theorem dX4_isNode_2 : decode cX4_isNode 2 = .ok (.aload_n 0, 1) := dk_42 (dk_at dksX4_isNode_0 2 rfl rfl)
theorem dX4_isNode_3 : decode cX4_isNode 3 = .ok (.invokevirtual 65, 3) := dk_182 0 65 (dk_at dksX4_isNode_0 3 rfl rfl)
theorem dX4_isNode_6 : decode cX4_isNode 6 = .ok (.iconst 1, 1) := dk_4 (dk_at dksX4_isNode_0 6 rfl rfl)
theorem dX4_isNode_7 : decode cX4_isNode 7 = .ok (.isub, 1) := dk_100 (dk_at dksX4_isNode_0 7 rfl rfl)
theorem dX4_isNode_8 : decode cX4_isNode 8 = .ok (.invokestatic 69, 3) := dk_184 0 69 (dk_at dksX4_isNode_0 8 rfl rfl)
theorem dX4_isNode_11 : decode cX4_isNode 11 = .ok (.ireturn, 1) := dk_172 (dk_at dksX4_isNode_0 11 rfl rfl)
abbrev cX4_areJoined : ByteArray := prog_19_method_17_code
def yX4_areJoined : MethodName := ⟨RX4, "areJoined", "(II)Z"⟩
def dkwX4_areJoined_3 : List UInt8 := [132, 4, 1, 167, 255, 190, 29, 172]
abbrev dktX4_areJoined_3 : List UInt8 := dkwX4_areJoined_3 ++ []
def dkwX4_areJoined_2 : List UInt8 := [182, 0, 79, 28, 160, 0, 18, 42, 21, 4, 4, 182, 0, 79, 27, 160, 0, 7, 4, 167, 0, 4, 3, 62]
abbrev dktX4_areJoined_2 : List UInt8 := dkwX4_areJoined_2 ++ dktX4_areJoined_3
def dkwX4_areJoined_1 : List UInt8 := [182, 0, 79, 27, 160, 0, 14, 42, 21, 4, 4, 182, 0, 79, 28, 159, 0, 25, 42, 21, 4, 3]
abbrev dktX4_areJoined_1 : List UInt8 := dkwX4_areJoined_1 ++ dktX4_areJoined_2
def dkwX4_areJoined_0 : List UInt8 := [3, 62, 3, 54, 4, 21, 4, 42, 182, 0, 73, 162, 0, 63, 29, 154, 0, 47, 42, 21, 4, 3]
abbrev dktX4_areJoined_0 : List UInt8 := dkwX4_areJoined_0 ++ dktX4_areJoined_1
theorem dksX4_areJoined_0 : cX4_areJoined.data.toList.drop 0 = dktX4_areJoined_0 := by decide +kernel
theorem dksX4_areJoined_1 : cX4_areJoined.data.toList.drop 22 = dktX4_areJoined_1 := dk_seg dksX4_areJoined_0 22 rfl rfl
theorem dksX4_areJoined_2 : cX4_areJoined.data.toList.drop 44 = dktX4_areJoined_2 := dk_seg dksX4_areJoined_1 22 rfl rfl
theorem dksX4_areJoined_3 : cX4_areJoined.data.toList.drop 68 = dktX4_areJoined_3 := dk_seg dksX4_areJoined_2 24 rfl rfl
theorem dX4_areJoined_0 : decode cX4_areJoined 0 = .ok (.iconst 0, 1) := dk_3 (dk_at dksX4_areJoined_0 0 rfl rfl)
theorem dX4_areJoined_1 : decode cX4_areJoined 1 = .ok (.istore_n 3, 1) := dk_62 (dk_at dksX4_areJoined_0 1 rfl rfl)
theorem dX4_areJoined_2 : decode cX4_areJoined 2 = .ok (.iconst 0, 1) := dk_3 (dk_at dksX4_areJoined_0 2 rfl rfl)
theorem dX4_areJoined_3 : decode cX4_areJoined 3 = .ok (.istore 4, 2) := dk_54 4 (dk_at dksX4_areJoined_0 3 rfl rfl)
theorem dX4_areJoined_5 : decode cX4_areJoined 5 = .ok (.iload 4, 2) := dk_21 4 (dk_at dksX4_areJoined_0 5 rfl rfl)
theorem dX4_areJoined_7 : decode cX4_areJoined 7 = .ok (.aload_n 0, 1) := dk_42 (dk_at dksX4_areJoined_0 7 rfl rfl)
theorem dX4_areJoined_8 : decode cX4_areJoined 8 = .ok (.invokevirtual 73, 3) := dk_182 0 73 (dk_at dksX4_areJoined_0 8 rfl rfl)
theorem dX4_areJoined_11 : decode cX4_areJoined 11 = .ok (.if_icmp .ge 63, 3) := dk_162 0 63 (dk_at dksX4_areJoined_0 11 rfl rfl)
theorem dX4_areJoined_14 : decode cX4_areJoined 14 = .ok (.iload_n 3, 1) := dk_29 (dk_at dksX4_areJoined_0 14 rfl rfl)
theorem dX4_areJoined_15 : decode cX4_areJoined 15 = .ok (.ifCond .ne 47, 3) := dk_154 0 47 (dk_at dksX4_areJoined_0 15 rfl rfl)
theorem dX4_areJoined_18 : decode cX4_areJoined 18 = .ok (.aload_n 0, 1) := dk_42 (dk_at dksX4_areJoined_0 18 rfl rfl)
theorem dX4_areJoined_19 : decode cX4_areJoined 19 = .ok (.iload 4, 2) := dk_21 4 (dk_at dksX4_areJoined_0 19 rfl rfl)
theorem dX4_areJoined_21 : decode cX4_areJoined 21 = .ok (.iconst 0, 1) := dk_3 (dk_at dksX4_areJoined_0 21 rfl rfl)
theorem dX4_areJoined_22 : decode cX4_areJoined 22 = .ok (.invokevirtual 79, 3) := dk_182 0 79 (dk_at dksX4_areJoined_1 0 rfl rfl)
theorem dX4_areJoined_25 : decode cX4_areJoined 25 = .ok (.iload_n 1, 1) := dk_27 (dk_at dksX4_areJoined_1 3 rfl rfl)
theorem dX4_areJoined_26 : decode cX4_areJoined 26 = .ok (.if_icmp .ne 14, 3) := dk_160 0 14 (dk_at dksX4_areJoined_1 4 rfl rfl)
theorem dX4_areJoined_29 : decode cX4_areJoined 29 = .ok (.aload_n 0, 1) := dk_42 (dk_at dksX4_areJoined_1 7 rfl rfl)
theorem dX4_areJoined_30 : decode cX4_areJoined 30 = .ok (.iload 4, 2) := dk_21 4 (dk_at dksX4_areJoined_1 8 rfl rfl)
theorem dX4_areJoined_32 : decode cX4_areJoined 32 = .ok (.iconst 1, 1) := dk_4 (dk_at dksX4_areJoined_1 10 rfl rfl)
theorem dX4_areJoined_33 : decode cX4_areJoined 33 = .ok (.invokevirtual 79, 3) := dk_182 0 79 (dk_at dksX4_areJoined_1 11 rfl rfl)
theorem dX4_areJoined_36 : decode cX4_areJoined 36 = .ok (.iload_n 2, 1) := dk_28 (dk_at dksX4_areJoined_1 14 rfl rfl)
theorem dX4_areJoined_37 : decode cX4_areJoined 37 = .ok (.if_icmp .eq 25, 3) := dk_159 0 25 (dk_at dksX4_areJoined_1 15 rfl rfl)
theorem dX4_areJoined_40 : decode cX4_areJoined 40 = .ok (.aload_n 0, 1) := dk_42 (dk_at dksX4_areJoined_1 18 rfl rfl)
theorem dX4_areJoined_41 : decode cX4_areJoined 41 = .ok (.iload 4, 2) := dk_21 4 (dk_at dksX4_areJoined_1 19 rfl rfl)
theorem dX4_areJoined_43 : decode cX4_areJoined 43 = .ok (.iconst 0, 1) := dk_3 (dk_at dksX4_areJoined_1 21 rfl rfl)
theorem dX4_areJoined_44 : decode cX4_areJoined 44 = .ok (.invokevirtual 79, 3) := dk_182 0 79 (dk_at dksX4_areJoined_2 0 rfl rfl)
theorem dX4_areJoined_47 : decode cX4_areJoined 47 = .ok (.iload_n 2, 1) := dk_28 (dk_at dksX4_areJoined_2 3 rfl rfl)
theorem dX4_areJoined_48 : decode cX4_areJoined 48 = .ok (.if_icmp .ne 18, 3) := dk_160 0 18 (dk_at dksX4_areJoined_2 4 rfl rfl)
theorem dX4_areJoined_51 : decode cX4_areJoined 51 = .ok (.aload_n 0, 1) := dk_42 (dk_at dksX4_areJoined_2 7 rfl rfl)
theorem dX4_areJoined_52 : decode cX4_areJoined 52 = .ok (.iload 4, 2) := dk_21 4 (dk_at dksX4_areJoined_2 8 rfl rfl)
theorem dX4_areJoined_54 : decode cX4_areJoined 54 = .ok (.iconst 1, 1) := dk_4 (dk_at dksX4_areJoined_2 10 rfl rfl)
theorem dX4_areJoined_55 : decode cX4_areJoined 55 = .ok (.invokevirtual 79, 3) := dk_182 0 79 (dk_at dksX4_areJoined_2 11 rfl rfl)
theorem dX4_areJoined_58 : decode cX4_areJoined 58 = .ok (.iload_n 1, 1) := dk_27 (dk_at dksX4_areJoined_2 14 rfl rfl)
theorem dX4_areJoined_59 : decode cX4_areJoined 59 = .ok (.if_icmp .ne 7, 3) := dk_160 0 7 (dk_at dksX4_areJoined_2 15 rfl rfl)
theorem dX4_areJoined_62 : decode cX4_areJoined 62 = .ok (.iconst 1, 1) := dk_4 (dk_at dksX4_areJoined_2 18 rfl rfl)
theorem dX4_areJoined_63 : decode cX4_areJoined 63 = .ok (.goto 4, 3) := dk_167 0 4 (dk_at dksX4_areJoined_2 19 rfl rfl)
theorem dX4_areJoined_66 : decode cX4_areJoined 66 = .ok (.iconst 0, 1) := dk_3 (dk_at dksX4_areJoined_2 22 rfl rfl)
theorem dX4_areJoined_67 : decode cX4_areJoined 67 = .ok (.istore_n 3, 1) := dk_62 (dk_at dksX4_areJoined_2 23 rfl rfl)
theorem dX4_areJoined_68 : decode cX4_areJoined 68 = .ok (.iinc 4 1, 3) := dk_132 4 1 (dk_at dksX4_areJoined_3 0 rfl rfl)
theorem dX4_areJoined_71 : decode cX4_areJoined 71 = .ok (.goto (-66), 3) := dk_167 255 190 (dk_at dksX4_areJoined_3 3 rfl rfl)
theorem dX4_areJoined_74 : decode cX4_areJoined 74 = .ok (.iload_n 3, 1) := dk_29 (dk_at dksX4_areJoined_3 6 rfl rfl)
theorem dX4_areJoined_75 : decode cX4_areJoined 75 = .ok (.ireturn, 1) := dk_172 (dk_at dksX4_areJoined_3 7 rfl rfl)
abbrev cX4_edgeMany : ByteArray := prog_19_method_11_code
def yX4_edgeMany : MethodName := ⟨RX4, "edgeMany", "()I"⟩
def dkwX4_edgeMany_0 : List UInt8 := [42, 180, 0, 7, 16, 17, 46, 172]
abbrev dktX4_edgeMany_0 : List UInt8 := dkwX4_edgeMany_0 ++ []
theorem dksX4_edgeMany_0 : cX4_edgeMany.data.toList.drop 0 = dktX4_edgeMany_0 := by decide +kernel
theorem dX4_edgeMany_0 : decode cX4_edgeMany 0 = .ok (.aload_n 0, 1) := dk_42 (dk_at dksX4_edgeMany_0 0 rfl rfl)
theorem dX4_edgeMany_1 : decode cX4_edgeMany 1 = .ok (.getfield 7, 3) := dk_180 0 7 (dk_at dksX4_edgeMany_0 1 rfl rfl)
theorem dX4_edgeMany_4 : decode cX4_edgeMany 4 = .ok (.bipush 17, 2) := dk_16 17 (dk_at dksX4_edgeMany_0 4 rfl rfl)
theorem dX4_edgeMany_6 : decode cX4_edgeMany 6 = .ok (.iaload, 1) := dk_46 (dk_at dksX4_edgeMany_0 6 rfl rfl)
theorem dX4_edgeMany_7 : decode cX4_edgeMany 7 = .ok (.ireturn, 1) := dk_172 (dk_at dksX4_edgeMany_0 7 rfl rfl)
abbrev cX4_of : ByteArray := prog_19_method_13_code
def yX4_of : MethodName := ⟨RX4, "of", "(II)I"⟩
def dkwX4_of_0 : List UInt8 := [42, 180, 0, 7, 16, 18, 6, 27, 104, 96, 28, 96, 46, 172]
abbrev dktX4_of_0 : List UInt8 := dkwX4_of_0 ++ []
theorem dksX4_of_0 : cX4_of.data.toList.drop 0 = dktX4_of_0 := by decide +kernel
theorem dX4_of_0 : decode cX4_of 0 = .ok (.aload_n 0, 1) := dk_42 (dk_at dksX4_of_0 0 rfl rfl)
theorem dX4_of_1 : decode cX4_of 1 = .ok (.getfield 7, 3) := dk_180 0 7 (dk_at dksX4_of_0 1 rfl rfl)
theorem dX4_of_4 : decode cX4_of 4 = .ok (.bipush 18, 2) := dk_16 18 (dk_at dksX4_of_0 4 rfl rfl)
theorem dX4_of_6 : decode cX4_of 6 = .ok (.iconst 3, 1) := dk_6 (dk_at dksX4_of_0 6 rfl rfl)
theorem dX4_of_7 : decode cX4_of 7 = .ok (.iload_n 1, 1) := dk_27 (dk_at dksX4_of_0 7 rfl rfl)
theorem dX4_of_8 : decode cX4_of 8 = .ok (.imul, 1) := dk_104 (dk_at dksX4_of_0 8 rfl rfl)
theorem dX4_of_9 : decode cX4_of 9 = .ok (.iadd, 1) := dk_96 (dk_at dksX4_of_0 9 rfl rfl)
theorem dX4_of_10 : decode cX4_of 10 = .ok (.iload_n 2, 1) := dk_28 (dk_at dksX4_of_0 10 rfl rfl)
theorem dX4_of_11 : decode cX4_of 11 = .ok (.iadd, 1) := dk_96 (dk_at dksX4_of_0 11 rfl rfl)
theorem dX4_of_12 : decode cX4_of 12 = .ok (.iaload, 1) := dk_46 (dk_at dksX4_of_0 12 rfl rfl)
theorem dX4_of_13 : decode cX4_of 13 = .ok (.ireturn, 1) := dk_172 (dk_at dksX4_of_0 13 rfl rfl)
abbrev cX4_connects : ByteArray := prog_19_method_19_code
def yX4_connects : MethodName := ⟨RX4, "connects", "(III)I"⟩
def dkwX4_connects_2 : List UInt8 := [29, 79, 42, 180, 0, 7, 16, 17, 92, 46, 4, 96, 79, 21, 4, 172]
abbrev dktX4_connects_2 : List UInt8 := dkwX4_connects_2 ++ []
def dkwX4_connects_1 : List UInt8 := [16, 18, 6, 21, 4, 104, 96, 4, 96, 28, 79, 42, 180, 0, 7, 16, 18, 6, 21, 4, 104, 96, 5, 96]
abbrev dktX4_connects_1 : List UInt8 := dkwX4_connects_1 ++ dktX4_connects_2
def dkwX4_connects_0 : List UInt8 := [42, 182, 0, 73, 54, 4, 42, 180, 0, 7, 16, 18, 6, 21, 4, 104, 96, 27, 79, 42, 180, 0, 7]
abbrev dktX4_connects_0 : List UInt8 := dkwX4_connects_0 ++ dktX4_connects_1
theorem dksX4_connects_0 : cX4_connects.data.toList.drop 0 = dktX4_connects_0 := by decide +kernel
theorem dksX4_connects_1 : cX4_connects.data.toList.drop 23 = dktX4_connects_1 := dk_seg dksX4_connects_0 23 rfl rfl
theorem dksX4_connects_2 : cX4_connects.data.toList.drop 47 = dktX4_connects_2 := dk_seg dksX4_connects_1 24 rfl rfl
theorem dX4_connects_0 : decode cX4_connects 0 = .ok (.aload_n 0, 1) := dk_42 (dk_at dksX4_connects_0 0 rfl rfl)
theorem dX4_connects_1 : decode cX4_connects 1 = .ok (.invokevirtual 73, 3) := dk_182 0 73 (dk_at dksX4_connects_0 1 rfl rfl)
theorem dX4_connects_4 : decode cX4_connects 4 = .ok (.istore 4, 2) := dk_54 4 (dk_at dksX4_connects_0 4 rfl rfl)
theorem dX4_connects_6 : decode cX4_connects 6 = .ok (.aload_n 0, 1) := dk_42 (dk_at dksX4_connects_0 6 rfl rfl)
theorem dX4_connects_7 : decode cX4_connects 7 = .ok (.getfield 7, 3) := dk_180 0 7 (dk_at dksX4_connects_0 7 rfl rfl)
theorem dX4_connects_10 : decode cX4_connects 10 = .ok (.bipush 18, 2) := dk_16 18 (dk_at dksX4_connects_0 10 rfl rfl)
theorem dX4_connects_12 : decode cX4_connects 12 = .ok (.iconst 3, 1) := dk_6 (dk_at dksX4_connects_0 12 rfl rfl)
theorem dX4_connects_13 : decode cX4_connects 13 = .ok (.iload 4, 2) := dk_21 4 (dk_at dksX4_connects_0 13 rfl rfl)
theorem dX4_connects_15 : decode cX4_connects 15 = .ok (.imul, 1) := dk_104 (dk_at dksX4_connects_0 15 rfl rfl)
theorem dX4_connects_16 : decode cX4_connects 16 = .ok (.iadd, 1) := dk_96 (dk_at dksX4_connects_0 16 rfl rfl)
theorem dX4_connects_17 : decode cX4_connects 17 = .ok (.iload_n 1, 1) := dk_27 (dk_at dksX4_connects_0 17 rfl rfl)
theorem dX4_connects_18 : decode cX4_connects 18 = .ok (.iastore, 1) := dk_79 (dk_at dksX4_connects_0 18 rfl rfl)
theorem dX4_connects_19 : decode cX4_connects 19 = .ok (.aload_n 0, 1) := dk_42 (dk_at dksX4_connects_0 19 rfl rfl)
theorem dX4_connects_20 : decode cX4_connects 20 = .ok (.getfield 7, 3) := dk_180 0 7 (dk_at dksX4_connects_0 20 rfl rfl)
theorem dX4_connects_23 : decode cX4_connects 23 = .ok (.bipush 18, 2) := dk_16 18 (dk_at dksX4_connects_1 0 rfl rfl)
theorem dX4_connects_25 : decode cX4_connects 25 = .ok (.iconst 3, 1) := dk_6 (dk_at dksX4_connects_1 2 rfl rfl)
theorem dX4_connects_26 : decode cX4_connects 26 = .ok (.iload 4, 2) := dk_21 4 (dk_at dksX4_connects_1 3 rfl rfl)
theorem dX4_connects_28 : decode cX4_connects 28 = .ok (.imul, 1) := dk_104 (dk_at dksX4_connects_1 5 rfl rfl)
theorem dX4_connects_29 : decode cX4_connects 29 = .ok (.iadd, 1) := dk_96 (dk_at dksX4_connects_1 6 rfl rfl)
theorem dX4_connects_30 : decode cX4_connects 30 = .ok (.iconst 1, 1) := dk_4 (dk_at dksX4_connects_1 7 rfl rfl)
theorem dX4_connects_31 : decode cX4_connects 31 = .ok (.iadd, 1) := dk_96 (dk_at dksX4_connects_1 8 rfl rfl)
theorem dX4_connects_32 : decode cX4_connects 32 = .ok (.iload_n 2, 1) := dk_28 (dk_at dksX4_connects_1 9 rfl rfl)
theorem dX4_connects_33 : decode cX4_connects 33 = .ok (.iastore, 1) := dk_79 (dk_at dksX4_connects_1 10 rfl rfl)
theorem dX4_connects_34 : decode cX4_connects 34 = .ok (.aload_n 0, 1) := dk_42 (dk_at dksX4_connects_1 11 rfl rfl)
theorem dX4_connects_35 : decode cX4_connects 35 = .ok (.getfield 7, 3) := dk_180 0 7 (dk_at dksX4_connects_1 12 rfl rfl)
theorem dX4_connects_38 : decode cX4_connects 38 = .ok (.bipush 18, 2) := dk_16 18 (dk_at dksX4_connects_1 15 rfl rfl)
theorem dX4_connects_40 : decode cX4_connects 40 = .ok (.iconst 3, 1) := dk_6 (dk_at dksX4_connects_1 17 rfl rfl)
theorem dX4_connects_41 : decode cX4_connects 41 = .ok (.iload 4, 2) := dk_21 4 (dk_at dksX4_connects_1 18 rfl rfl)
theorem dX4_connects_43 : decode cX4_connects 43 = .ok (.imul, 1) := dk_104 (dk_at dksX4_connects_1 20 rfl rfl)
theorem dX4_connects_44 : decode cX4_connects 44 = .ok (.iadd, 1) := dk_96 (dk_at dksX4_connects_1 21 rfl rfl)
theorem dX4_connects_45 : decode cX4_connects 45 = .ok (.iconst 2, 1) := dk_5 (dk_at dksX4_connects_1 22 rfl rfl)
theorem dX4_connects_46 : decode cX4_connects 46 = .ok (.iadd, 1) := dk_96 (dk_at dksX4_connects_1 23 rfl rfl)
theorem dX4_connects_47 : decode cX4_connects 47 = .ok (.iload_n 3, 1) := dk_29 (dk_at dksX4_connects_2 0 rfl rfl)
theorem dX4_connects_48 : decode cX4_connects 48 = .ok (.iastore, 1) := dk_79 (dk_at dksX4_connects_2 1 rfl rfl)
theorem dX4_connects_49 : decode cX4_connects 49 = .ok (.aload_n 0, 1) := dk_42 (dk_at dksX4_connects_2 2 rfl rfl)
theorem dX4_connects_50 : decode cX4_connects 50 = .ok (.getfield 7, 3) := dk_180 0 7 (dk_at dksX4_connects_2 3 rfl rfl)
theorem dX4_connects_53 : decode cX4_connects 53 = .ok (.bipush 17, 2) := dk_16 17 (dk_at dksX4_connects_2 6 rfl rfl)
theorem dX4_connects_55 : decode cX4_connects 55 = .ok (.dup2, 1) := dk_92 (dk_at dksX4_connects_2 8 rfl rfl)
theorem dX4_connects_56 : decode cX4_connects 56 = .ok (.iaload, 1) := dk_46 (dk_at dksX4_connects_2 9 rfl rfl)
theorem dX4_connects_57 : decode cX4_connects 57 = .ok (.iconst 1, 1) := dk_4 (dk_at dksX4_connects_2 10 rfl rfl)
theorem dX4_connects_58 : decode cX4_connects 58 = .ok (.iadd, 1) := dk_96 (dk_at dksX4_connects_2 11 rfl rfl)
theorem dX4_connects_59 : decode cX4_connects 59 = .ok (.iastore, 1) := dk_79 (dk_at dksX4_connects_2 12 rfl rfl)
theorem dX4_connects_60 : decode cX4_connects 60 = .ok (.iload 4, 2) := dk_21 4 (dk_at dksX4_connects_2 13 rfl rfl)
theorem dX4_connects_62 : decode cX4_connects 62 = .ok (.ireturn, 1) := dk_172 (dk_at dksX4_connects_2 15 rfl rfl)
abbrev cX4_disconnect : ByteArray := prog_19_method_23_code
def yX4_disconnect : MethodName := ⟨RX4, "disconnect", "(I)I"⟩
def dkwX4_disconnect_1 : List UInt8 := [182, 0, 76, 42, 27, 182, 0, 109, 172]
abbrev dktX4_disconnect_1 : List UInt8 := dkwX4_disconnect_1 ++ []
def dkwX4_disconnect_0 : List UInt8 := [42, 42, 27, 182, 0, 106, 153, 0, 7, 3, 167, 0, 4, 4, 182, 0, 61, 153, 0, 5, 3, 172, 42]
abbrev dktX4_disconnect_0 : List UInt8 := dkwX4_disconnect_0 ++ dktX4_disconnect_1
theorem dksX4_disconnect_0 : cX4_disconnect.data.toList.drop 0 = dktX4_disconnect_0 := by decide +kernel
theorem dksX4_disconnect_1 : cX4_disconnect.data.toList.drop 23 = dktX4_disconnect_1 := dk_seg dksX4_disconnect_0 23 rfl rfl
theorem dX4_disconnect_0 : decode cX4_disconnect 0 = .ok (.aload_n 0, 1) := dk_42 (dk_at dksX4_disconnect_0 0 rfl rfl)
theorem dX4_disconnect_1 : decode cX4_disconnect 1 = .ok (.aload_n 0, 1) := dk_42 (dk_at dksX4_disconnect_0 1 rfl rfl)
theorem dX4_disconnect_2 : decode cX4_disconnect 2 = .ok (.iload_n 1, 1) := dk_27 (dk_at dksX4_disconnect_0 2 rfl rfl)
theorem dX4_disconnect_3 : decode cX4_disconnect 3 = .ok (.invokevirtual 106, 3) := dk_182 0 106 (dk_at dksX4_disconnect_0 3 rfl rfl)
theorem dX4_disconnect_6 : decode cX4_disconnect 6 = .ok (.ifCond .eq 7, 3) := dk_153 0 7 (dk_at dksX4_disconnect_0 6 rfl rfl)
theorem dX4_disconnect_9 : decode cX4_disconnect 9 = .ok (.iconst 0, 1) := dk_3 (dk_at dksX4_disconnect_0 9 rfl rfl)
theorem dX4_disconnect_10 : decode cX4_disconnect 10 = .ok (.goto 4, 3) := dk_167 0 4 (dk_at dksX4_disconnect_0 10 rfl rfl)
theorem dX4_disconnect_13 : decode cX4_disconnect 13 = .ok (.iconst 1, 1) := dk_4 (dk_at dksX4_disconnect_0 13 rfl rfl)
theorem dX4_disconnect_14 : decode cX4_disconnect 14 = .ok (.invokevirtual 61, 3) := dk_182 0 61 (dk_at dksX4_disconnect_0 14 rfl rfl)
theorem dX4_disconnect_17 : decode cX4_disconnect 17 = .ok (.ifCond .eq 5, 3) := dk_153 0 5 (dk_at dksX4_disconnect_0 17 rfl rfl)
theorem dX4_disconnect_20 : decode cX4_disconnect 20 = .ok (.iconst 0, 1) := dk_3 (dk_at dksX4_disconnect_0 20 rfl rfl)
theorem dX4_disconnect_21 : decode cX4_disconnect 21 = .ok (.ireturn, 1) := dk_172 (dk_at dksX4_disconnect_0 21 rfl rfl)
theorem dX4_disconnect_22 : decode cX4_disconnect 22 = .ok (.aload_n 0, 1) := dk_42 (dk_at dksX4_disconnect_0 22 rfl rfl)
theorem dX4_disconnect_23 : decode cX4_disconnect 23 = .ok (.invokevirtual 76, 3) := dk_182 0 76 (dk_at dksX4_disconnect_1 0 rfl rfl)
theorem dX4_disconnect_26 : decode cX4_disconnect 26 = .ok (.aload_n 0, 1) := dk_42 (dk_at dksX4_disconnect_1 3 rfl rfl)
theorem dX4_disconnect_27 : decode cX4_disconnect 27 = .ok (.iload_n 1, 1) := dk_27 (dk_at dksX4_disconnect_1 4 rfl rfl)
theorem dX4_disconnect_28 : decode cX4_disconnect 28 = .ok (.invokevirtual 109, 3) := dk_182 0 109 (dk_at dksX4_disconnect_1 5 rfl rfl)
theorem dX4_disconnect_31 : decode cX4_disconnect 31 = .ok (.ireturn, 1) := dk_172 (dk_at dksX4_disconnect_1 8 rfl rfl)
abbrev cX4_isEdge : ByteArray := prog_19_method_12_code
def yX4_isEdge : MethodName := ⟨RX4, "isEdge", "(I)Z"⟩
def dkwX4_isEdge_0 : List UInt8 := [27, 3, 42, 182, 0, 73, 4, 100, 184, 0, 69, 172]
abbrev dktX4_isEdge_0 : List UInt8 := dkwX4_isEdge_0 ++ []
theorem dksX4_isEdge_0 : cX4_isEdge.data.toList.drop 0 = dktX4_isEdge_0 := by decide +kernel
theorem dX4_isEdge_0 : decode cX4_isEdge 0 = .ok (.iload_n 1, 1) := dk_27 (dk_at dksX4_isEdge_0 0 rfl rfl)
theorem dX4_isEdge_1 : decode cX4_isEdge 1 = .ok (.iconst 0, 1) := dk_3 (dk_at dksX4_isEdge_0 1 rfl rfl)
theorem dX4_isEdge_2 : decode cX4_isEdge 2 = .ok (.aload_n 0, 1) := dk_42 (dk_at dksX4_isEdge_0 2 rfl rfl)
theorem dX4_isEdge_3 : decode cX4_isEdge 3 = .ok (.invokevirtual 73, 3) := dk_182 0 73 (dk_at dksX4_isEdge_0 3 rfl rfl)
theorem dX4_isEdge_6 : decode cX4_isEdge 6 = .ok (.iconst 1, 1) := dk_4 (dk_at dksX4_isEdge_0 6 rfl rfl)
theorem dX4_isEdge_7 : decode cX4_isEdge 7 = .ok (.isub, 1) := dk_100 (dk_at dksX4_isEdge_0 7 rfl rfl)
theorem dX4_isEdge_8 : decode cX4_isEdge 8 = .ok (.invokestatic 69, 3) := dk_184 0 69 (dk_at dksX4_isEdge_0 8 rfl rfl)
theorem dX4_isEdge_11 : decode cX4_isEdge 11 = .ok (.ireturn, 1) := dk_172 (dk_at dksX4_isEdge_0 11 rfl rfl)
abbrev cX4_dropsEdge : ByteArray := prog_19_method_22_code
def yX4_dropsEdge : MethodName := ⟨RX4, "dropsEdge", "(I)I"⟩
def dkwX4_dropsEdge_4 : List UInt8 := [29, 6, 96, 46, 79, 132, 3, 1, 167, 255, 224, 42, 180, 0, 7, 16, 17, 92, 46, 4, 100, 79, 28, 172]
abbrev dktX4_dropsEdge_4 : List UInt8 := dkwX4_dropsEdge_4 ++ []
def dkwX4_dropsEdge_3 : List UInt8 := [29, 16, 18, 6, 42, 182, 0, 73, 4, 100, 104, 96, 162, 0, 23, 42, 180, 0, 7, 29, 42, 180, 0, 7]
abbrev dktX4_dropsEdge_3 : List UInt8 := dkwX4_dropsEdge_3 ++ dktX4_dropsEdge_4
def dkwX4_dropsEdge_2 : List UInt8 := [16, 55, 6, 29, 104, 96, 92, 46, 4, 100, 79, 132, 3, 255, 167, 255, 203, 16, 18, 6, 27, 104, 96, 62]
abbrev dktX4_dropsEdge_2 : List UInt8 := dkwX4_dropsEdge_2 ++ dktX4_dropsEdge_3
def dkwX4_dropsEdge_1 : List UInt8 := [29, 182, 0, 103, 132, 2, 1, 167, 0, 28, 42, 29, 3, 182, 0, 100, 27, 164, 0, 18, 42, 180, 0, 7]
abbrev dktX4_dropsEdge_1 : List UInt8 := dkwX4_dropsEdge_1 ++ dktX4_dropsEdge_2
def dkwX4_dropsEdge_0 : List UInt8 := [3, 61, 42, 182, 0, 97, 4, 100, 62, 29, 155, 0, 55, 42, 29, 3, 182, 0, 100, 27, 160, 0, 14, 42]
abbrev dktX4_dropsEdge_0 : List UInt8 := dkwX4_dropsEdge_0 ++ dktX4_dropsEdge_1
theorem dksX4_dropsEdge_0 : cX4_dropsEdge.data.toList.drop 0 = dktX4_dropsEdge_0 := by decide +kernel
theorem dksX4_dropsEdge_1 : cX4_dropsEdge.data.toList.drop 24 = dktX4_dropsEdge_1 := dk_seg dksX4_dropsEdge_0 24 rfl rfl
theorem dksX4_dropsEdge_2 : cX4_dropsEdge.data.toList.drop 48 = dktX4_dropsEdge_2 := dk_seg dksX4_dropsEdge_1 24 rfl rfl
theorem dksX4_dropsEdge_3 : cX4_dropsEdge.data.toList.drop 72 = dktX4_dropsEdge_3 := dk_seg dksX4_dropsEdge_2 24 rfl rfl
theorem dksX4_dropsEdge_4 : cX4_dropsEdge.data.toList.drop 96 = dktX4_dropsEdge_4 := dk_seg dksX4_dropsEdge_3 24 rfl rfl
theorem dX4_dropsEdge_0 : decode cX4_dropsEdge 0 = .ok (.iconst 0, 1) := dk_3 (dk_at dksX4_dropsEdge_0 0 rfl rfl)
theorem dX4_dropsEdge_1 : decode cX4_dropsEdge 1 = .ok (.istore_n 2, 1) := dk_61 (dk_at dksX4_dropsEdge_0 1 rfl rfl)
theorem dX4_dropsEdge_2 : decode cX4_dropsEdge 2 = .ok (.aload_n 0, 1) := dk_42 (dk_at dksX4_dropsEdge_0 2 rfl rfl)
theorem dX4_dropsEdge_3 : decode cX4_dropsEdge 3 = .ok (.invokevirtual 97, 3) := dk_182 0 97 (dk_at dksX4_dropsEdge_0 3 rfl rfl)
theorem dX4_dropsEdge_6 : decode cX4_dropsEdge 6 = .ok (.iconst 1, 1) := dk_4 (dk_at dksX4_dropsEdge_0 6 rfl rfl)
theorem dX4_dropsEdge_7 : decode cX4_dropsEdge 7 = .ok (.isub, 1) := dk_100 (dk_at dksX4_dropsEdge_0 7 rfl rfl)
theorem dX4_dropsEdge_8 : decode cX4_dropsEdge 8 = .ok (.istore_n 3, 1) := dk_62 (dk_at dksX4_dropsEdge_0 8 rfl rfl)
theorem dX4_dropsEdge_9 : decode cX4_dropsEdge 9 = .ok (.iload_n 3, 1) := dk_29 (dk_at dksX4_dropsEdge_0 9 rfl rfl)
theorem dX4_dropsEdge_10 : decode cX4_dropsEdge 10 = .ok (.ifCond .lt 55, 3) := dk_155 0 55 (dk_at dksX4_dropsEdge_0 10 rfl rfl)
theorem dX4_dropsEdge_13 : decode cX4_dropsEdge 13 = .ok (.aload_n 0, 1) := dk_42 (dk_at dksX4_dropsEdge_0 13 rfl rfl)
theorem dX4_dropsEdge_14 : decode cX4_dropsEdge 14 = .ok (.iload_n 3, 1) := dk_29 (dk_at dksX4_dropsEdge_0 14 rfl rfl)
theorem dX4_dropsEdge_15 : decode cX4_dropsEdge 15 = .ok (.iconst 0, 1) := dk_3 (dk_at dksX4_dropsEdge_0 15 rfl rfl)
theorem dX4_dropsEdge_16 : decode cX4_dropsEdge 16 = .ok (.invokevirtual 100, 3) := dk_182 0 100 (dk_at dksX4_dropsEdge_0 16 rfl rfl)
theorem dX4_dropsEdge_19 : decode cX4_dropsEdge 19 = .ok (.iload_n 1, 1) := dk_27 (dk_at dksX4_dropsEdge_0 19 rfl rfl)
theorem dX4_dropsEdge_20 : decode cX4_dropsEdge 20 = .ok (.if_icmp .ne 14, 3) := dk_160 0 14 (dk_at dksX4_dropsEdge_0 20 rfl rfl)
theorem dX4_dropsEdge_23 : decode cX4_dropsEdge 23 = .ok (.aload_n 0, 1) := dk_42 (dk_at dksX4_dropsEdge_0 23 rfl rfl)
theorem dX4_dropsEdge_24 : decode cX4_dropsEdge 24 = .ok (.iload_n 3, 1) := dk_29 (dk_at dksX4_dropsEdge_1 0 rfl rfl)
theorem dX4_dropsEdge_25 : decode cX4_dropsEdge 25 = .ok (.invokevirtual 103, 3) := dk_182 0 103 (dk_at dksX4_dropsEdge_1 1 rfl rfl)
theorem dX4_dropsEdge_28 : decode cX4_dropsEdge 28 = .ok (.iinc 2 1, 3) := dk_132 2 1 (dk_at dksX4_dropsEdge_1 4 rfl rfl)
theorem dX4_dropsEdge_31 : decode cX4_dropsEdge 31 = .ok (.goto 28, 3) := dk_167 0 28 (dk_at dksX4_dropsEdge_1 7 rfl rfl)
theorem dX4_dropsEdge_34 : decode cX4_dropsEdge 34 = .ok (.aload_n 0, 1) := dk_42 (dk_at dksX4_dropsEdge_1 10 rfl rfl)
theorem dX4_dropsEdge_35 : decode cX4_dropsEdge 35 = .ok (.iload_n 3, 1) := dk_29 (dk_at dksX4_dropsEdge_1 11 rfl rfl)
theorem dX4_dropsEdge_36 : decode cX4_dropsEdge 36 = .ok (.iconst 0, 1) := dk_3 (dk_at dksX4_dropsEdge_1 12 rfl rfl)
theorem dX4_dropsEdge_37 : decode cX4_dropsEdge 37 = .ok (.invokevirtual 100, 3) := dk_182 0 100 (dk_at dksX4_dropsEdge_1 13 rfl rfl)
theorem dX4_dropsEdge_40 : decode cX4_dropsEdge 40 = .ok (.iload_n 1, 1) := dk_27 (dk_at dksX4_dropsEdge_1 16 rfl rfl)
theorem dX4_dropsEdge_41 : decode cX4_dropsEdge 41 = .ok (.if_icmp .le 18, 3) := dk_164 0 18 (dk_at dksX4_dropsEdge_1 17 rfl rfl)
theorem dX4_dropsEdge_44 : decode cX4_dropsEdge 44 = .ok (.aload_n 0, 1) := dk_42 (dk_at dksX4_dropsEdge_1 20 rfl rfl)
theorem dX4_dropsEdge_45 : decode cX4_dropsEdge 45 = .ok (.getfield 7, 3) := dk_180 0 7 (dk_at dksX4_dropsEdge_1 21 rfl rfl)
theorem dX4_dropsEdge_48 : decode cX4_dropsEdge 48 = .ok (.bipush 55, 2) := dk_16 55 (dk_at dksX4_dropsEdge_2 0 rfl rfl)
theorem dX4_dropsEdge_50 : decode cX4_dropsEdge 50 = .ok (.iconst 3, 1) := dk_6 (dk_at dksX4_dropsEdge_2 2 rfl rfl)
theorem dX4_dropsEdge_51 : decode cX4_dropsEdge 51 = .ok (.iload_n 3, 1) := dk_29 (dk_at dksX4_dropsEdge_2 3 rfl rfl)
theorem dX4_dropsEdge_52 : decode cX4_dropsEdge 52 = .ok (.imul, 1) := dk_104 (dk_at dksX4_dropsEdge_2 4 rfl rfl)
theorem dX4_dropsEdge_53 : decode cX4_dropsEdge 53 = .ok (.iadd, 1) := dk_96 (dk_at dksX4_dropsEdge_2 5 rfl rfl)
theorem dX4_dropsEdge_54 : decode cX4_dropsEdge 54 = .ok (.dup2, 1) := dk_92 (dk_at dksX4_dropsEdge_2 6 rfl rfl)
theorem dX4_dropsEdge_55 : decode cX4_dropsEdge 55 = .ok (.iaload, 1) := dk_46 (dk_at dksX4_dropsEdge_2 7 rfl rfl)
theorem dX4_dropsEdge_56 : decode cX4_dropsEdge 56 = .ok (.iconst 1, 1) := dk_4 (dk_at dksX4_dropsEdge_2 8 rfl rfl)
theorem dX4_dropsEdge_57 : decode cX4_dropsEdge 57 = .ok (.isub, 1) := dk_100 (dk_at dksX4_dropsEdge_2 9 rfl rfl)
theorem dX4_dropsEdge_58 : decode cX4_dropsEdge 58 = .ok (.iastore, 1) := dk_79 (dk_at dksX4_dropsEdge_2 10 rfl rfl)
theorem dX4_dropsEdge_59 : decode cX4_dropsEdge 59 = .ok (.iinc 3 (-1), 3) := dk_132 3 255 (dk_at dksX4_dropsEdge_2 11 rfl rfl)
theorem dX4_dropsEdge_62 : decode cX4_dropsEdge 62 = .ok (.goto (-53), 3) := dk_167 255 203 (dk_at dksX4_dropsEdge_2 14 rfl rfl)
theorem dX4_dropsEdge_65 : decode cX4_dropsEdge 65 = .ok (.bipush 18, 2) := dk_16 18 (dk_at dksX4_dropsEdge_2 17 rfl rfl)
theorem dX4_dropsEdge_67 : decode cX4_dropsEdge 67 = .ok (.iconst 3, 1) := dk_6 (dk_at dksX4_dropsEdge_2 19 rfl rfl)
theorem dX4_dropsEdge_68 : decode cX4_dropsEdge 68 = .ok (.iload_n 1, 1) := dk_27 (dk_at dksX4_dropsEdge_2 20 rfl rfl)
theorem dX4_dropsEdge_69 : decode cX4_dropsEdge 69 = .ok (.imul, 1) := dk_104 (dk_at dksX4_dropsEdge_2 21 rfl rfl)
theorem dX4_dropsEdge_70 : decode cX4_dropsEdge 70 = .ok (.iadd, 1) := dk_96 (dk_at dksX4_dropsEdge_2 22 rfl rfl)
theorem dX4_dropsEdge_71 : decode cX4_dropsEdge 71 = .ok (.istore_n 3, 1) := dk_62 (dk_at dksX4_dropsEdge_2 23 rfl rfl)
theorem dX4_dropsEdge_72 : decode cX4_dropsEdge 72 = .ok (.iload_n 3, 1) := dk_29 (dk_at dksX4_dropsEdge_3 0 rfl rfl)
theorem dX4_dropsEdge_73 : decode cX4_dropsEdge 73 = .ok (.bipush 18, 2) := dk_16 18 (dk_at dksX4_dropsEdge_3 1 rfl rfl)
theorem dX4_dropsEdge_75 : decode cX4_dropsEdge 75 = .ok (.iconst 3, 1) := dk_6 (dk_at dksX4_dropsEdge_3 3 rfl rfl)
theorem dX4_dropsEdge_76 : decode cX4_dropsEdge 76 = .ok (.aload_n 0, 1) := dk_42 (dk_at dksX4_dropsEdge_3 4 rfl rfl)
theorem dX4_dropsEdge_77 : decode cX4_dropsEdge 77 = .ok (.invokevirtual 73, 3) := dk_182 0 73 (dk_at dksX4_dropsEdge_3 5 rfl rfl)
theorem dX4_dropsEdge_80 : decode cX4_dropsEdge 80 = .ok (.iconst 1, 1) := dk_4 (dk_at dksX4_dropsEdge_3 8 rfl rfl)
theorem dX4_dropsEdge_81 : decode cX4_dropsEdge 81 = .ok (.isub, 1) := dk_100 (dk_at dksX4_dropsEdge_3 9 rfl rfl)
theorem dX4_dropsEdge_82 : decode cX4_dropsEdge 82 = .ok (.imul, 1) := dk_104 (dk_at dksX4_dropsEdge_3 10 rfl rfl)
theorem dX4_dropsEdge_83 : decode cX4_dropsEdge 83 = .ok (.iadd, 1) := dk_96 (dk_at dksX4_dropsEdge_3 11 rfl rfl)
theorem dX4_dropsEdge_84 : decode cX4_dropsEdge 84 = .ok (.if_icmp .ge 23, 3) := dk_162 0 23 (dk_at dksX4_dropsEdge_3 12 rfl rfl)
theorem dX4_dropsEdge_87 : decode cX4_dropsEdge 87 = .ok (.aload_n 0, 1) := dk_42 (dk_at dksX4_dropsEdge_3 15 rfl rfl)
theorem dX4_dropsEdge_88 : decode cX4_dropsEdge 88 = .ok (.getfield 7, 3) := dk_180 0 7 (dk_at dksX4_dropsEdge_3 16 rfl rfl)
theorem dX4_dropsEdge_91 : decode cX4_dropsEdge 91 = .ok (.iload_n 3, 1) := dk_29 (dk_at dksX4_dropsEdge_3 19 rfl rfl)
theorem dX4_dropsEdge_92 : decode cX4_dropsEdge 92 = .ok (.aload_n 0, 1) := dk_42 (dk_at dksX4_dropsEdge_3 20 rfl rfl)
theorem dX4_dropsEdge_93 : decode cX4_dropsEdge 93 = .ok (.getfield 7, 3) := dk_180 0 7 (dk_at dksX4_dropsEdge_3 21 rfl rfl)
theorem dX4_dropsEdge_96 : decode cX4_dropsEdge 96 = .ok (.iload_n 3, 1) := dk_29 (dk_at dksX4_dropsEdge_4 0 rfl rfl)
theorem dX4_dropsEdge_97 : decode cX4_dropsEdge 97 = .ok (.iconst 3, 1) := dk_6 (dk_at dksX4_dropsEdge_4 1 rfl rfl)
theorem dX4_dropsEdge_98 : decode cX4_dropsEdge 98 = .ok (.iadd, 1) := dk_96 (dk_at dksX4_dropsEdge_4 2 rfl rfl)
theorem dX4_dropsEdge_99 : decode cX4_dropsEdge 99 = .ok (.iaload, 1) := dk_46 (dk_at dksX4_dropsEdge_4 3 rfl rfl)
theorem dX4_dropsEdge_100 : decode cX4_dropsEdge 100 = .ok (.iastore, 1) := dk_79 (dk_at dksX4_dropsEdge_4 4 rfl rfl)
theorem dX4_dropsEdge_101 : decode cX4_dropsEdge 101 = .ok (.iinc 3 1, 3) := dk_132 3 1 (dk_at dksX4_dropsEdge_4 5 rfl rfl)
theorem dX4_dropsEdge_104 : decode cX4_dropsEdge 104 = .ok (.goto (-32), 3) := dk_167 255 224 (dk_at dksX4_dropsEdge_4 8 rfl rfl)
theorem dX4_dropsEdge_107 : decode cX4_dropsEdge 107 = .ok (.aload_n 0, 1) := dk_42 (dk_at dksX4_dropsEdge_4 11 rfl rfl)
theorem dX4_dropsEdge_108 : decode cX4_dropsEdge 108 = .ok (.getfield 7, 3) := dk_180 0 7 (dk_at dksX4_dropsEdge_4 12 rfl rfl)
theorem dX4_dropsEdge_111 : decode cX4_dropsEdge 111 = .ok (.bipush 17, 2) := dk_16 17 (dk_at dksX4_dropsEdge_4 15 rfl rfl)
theorem dX4_dropsEdge_113 : decode cX4_dropsEdge 113 = .ok (.dup2, 1) := dk_92 (dk_at dksX4_dropsEdge_4 17 rfl rfl)
theorem dX4_dropsEdge_114 : decode cX4_dropsEdge 114 = .ok (.iaload, 1) := dk_46 (dk_at dksX4_dropsEdge_4 18 rfl rfl)
theorem dX4_dropsEdge_115 : decode cX4_dropsEdge 115 = .ok (.iconst 1, 1) := dk_4 (dk_at dksX4_dropsEdge_4 19 rfl rfl)
theorem dX4_dropsEdge_116 : decode cX4_dropsEdge 116 = .ok (.isub, 1) := dk_100 (dk_at dksX4_dropsEdge_4 20 rfl rfl)
theorem dX4_dropsEdge_117 : decode cX4_dropsEdge 117 = .ok (.iastore, 1) := dk_79 (dk_at dksX4_dropsEdge_4 21 rfl rfl)
theorem dX4_dropsEdge_118 : decode cX4_dropsEdge 118 = .ok (.iload_n 2, 1) := dk_28 (dk_at dksX4_dropsEdge_4 22 rfl rfl)
theorem dX4_dropsEdge_119 : decode cX4_dropsEdge 119 = .ok (.ireturn, 1) := dk_172 (dk_at dksX4_dropsEdge_4 23 rfl rfl)
abbrev cX4_stretchMany : ByteArray := prog_19_method_14_code
def yX4_stretchMany : MethodName := ⟨RX4, "stretchMany", "()I"⟩
def dkwX4_stretchMany_0 : List UInt8 := [42, 180, 0, 7, 16, 54, 46, 172]
abbrev dktX4_stretchMany_0 : List UInt8 := dkwX4_stretchMany_0 ++ []
theorem dksX4_stretchMany_0 : cX4_stretchMany.data.toList.drop 0 = dktX4_stretchMany_0 := by decide +kernel
theorem dX4_stretchMany_0 : decode cX4_stretchMany 0 = .ok (.aload_n 0, 1) := dk_42 (dk_at dksX4_stretchMany_0 0 rfl rfl)
theorem dX4_stretchMany_1 : decode cX4_stretchMany 1 = .ok (.getfield 7, 3) := dk_180 0 7 (dk_at dksX4_stretchMany_0 1 rfl rfl)
theorem dX4_stretchMany_4 : decode cX4_stretchMany 4 = .ok (.bipush 54, 2) := dk_16 54 (dk_at dksX4_stretchMany_0 4 rfl rfl)
theorem dX4_stretchMany_6 : decode cX4_stretchMany 6 = .ok (.iaload, 1) := dk_46 (dk_at dksX4_stretchMany_0 6 rfl rfl)
theorem dX4_stretchMany_7 : decode cX4_stretchMany 7 = .ok (.ireturn, 1) := dk_172 (dk_at dksX4_stretchMany_0 7 rfl rfl)
abbrev cX4_at : ByteArray := prog_19_method_15_code
def yX4_at : MethodName := ⟨RX4, "at", "(II)I"⟩
def dkwX4_at_0 : List UInt8 := [42, 180, 0, 7, 16, 55, 6, 27, 104, 96, 28, 96, 46, 172]
abbrev dktX4_at_0 : List UInt8 := dkwX4_at_0 ++ []
theorem dksX4_at_0 : cX4_at.data.toList.drop 0 = dktX4_at_0 := by decide +kernel
theorem dX4_at_0 : decode cX4_at 0 = .ok (.aload_n 0, 1) := dk_42 (dk_at dksX4_at_0 0 rfl rfl)
theorem dX4_at_1 : decode cX4_at 1 = .ok (.getfield 7, 3) := dk_180 0 7 (dk_at dksX4_at_0 1 rfl rfl)
theorem dX4_at_4 : decode cX4_at 4 = .ok (.bipush 55, 2) := dk_16 55 (dk_at dksX4_at_0 4 rfl rfl)
theorem dX4_at_6 : decode cX4_at 6 = .ok (.iconst 3, 1) := dk_6 (dk_at dksX4_at_0 6 rfl rfl)
theorem dX4_at_7 : decode cX4_at 7 = .ok (.iload_n 1, 1) := dk_27 (dk_at dksX4_at_0 7 rfl rfl)
theorem dX4_at_8 : decode cX4_at 8 = .ok (.imul, 1) := dk_104 (dk_at dksX4_at_0 8 rfl rfl)
theorem dX4_at_9 : decode cX4_at 9 = .ok (.iadd, 1) := dk_96 (dk_at dksX4_at_0 9 rfl rfl)
theorem dX4_at_10 : decode cX4_at 10 = .ok (.iload_n 2, 1) := dk_28 (dk_at dksX4_at_0 10 rfl rfl)
theorem dX4_at_11 : decode cX4_at 11 = .ok (.iadd, 1) := dk_96 (dk_at dksX4_at_0 11 rfl rfl)
theorem dX4_at_12 : decode cX4_at 12 = .ok (.iaload, 1) := dk_46 (dk_at dksX4_at_0 12 rfl rfl)
theorem dX4_at_13 : decode cX4_at 13 = .ok (.ireturn, 1) := dk_172 (dk_at dksX4_at_0 13 rfl rfl)
abbrev cX4_dropsStretch : ByteArray := prog_19_method_21_code
def yX4_dropsStretch : MethodName := ⟨RX4, "dropsStretch", "(I)V"⟩
def dkwX4_dropsStretch_2 : List UInt8 := [16, 54, 92, 46, 4, 100, 79, 177]
abbrev dktX4_dropsStretch_2 : List UInt8 := dkwX4_dropsStretch_2 ++ []
def dkwX4_dropsStretch_1 : List UInt8 := [180, 0, 7, 28, 42, 180, 0, 7, 28, 6, 96, 46, 79, 132, 2, 1, 167, 255, 224, 42, 180, 0, 7]
abbrev dktX4_dropsStretch_1 : List UInt8 := dkwX4_dropsStretch_1 ++ dktX4_dropsStretch_2
def dkwX4_dropsStretch_0 : List UInt8 := [16, 55, 6, 27, 104, 96, 61, 28, 16, 55, 6, 42, 182, 0, 97, 4, 100, 104, 96, 162, 0, 23, 42]
abbrev dktX4_dropsStretch_0 : List UInt8 := dkwX4_dropsStretch_0 ++ dktX4_dropsStretch_1
theorem dksX4_dropsStretch_0 : cX4_dropsStretch.data.toList.drop 0 = dktX4_dropsStretch_0 := by decide +kernel
theorem dksX4_dropsStretch_1 : cX4_dropsStretch.data.toList.drop 23 = dktX4_dropsStretch_1 := dk_seg dksX4_dropsStretch_0 23 rfl rfl
theorem dksX4_dropsStretch_2 : cX4_dropsStretch.data.toList.drop 46 = dktX4_dropsStretch_2 := dk_seg dksX4_dropsStretch_1 23 rfl rfl
theorem dX4_dropsStretch_0 : decode cX4_dropsStretch 0 = .ok (.bipush 55, 2) := dk_16 55 (dk_at dksX4_dropsStretch_0 0 rfl rfl)
theorem dX4_dropsStretch_2 : decode cX4_dropsStretch 2 = .ok (.iconst 3, 1) := dk_6 (dk_at dksX4_dropsStretch_0 2 rfl rfl)
theorem dX4_dropsStretch_3 : decode cX4_dropsStretch 3 = .ok (.iload_n 1, 1) := dk_27 (dk_at dksX4_dropsStretch_0 3 rfl rfl)
theorem dX4_dropsStretch_4 : decode cX4_dropsStretch 4 = .ok (.imul, 1) := dk_104 (dk_at dksX4_dropsStretch_0 4 rfl rfl)
theorem dX4_dropsStretch_5 : decode cX4_dropsStretch 5 = .ok (.iadd, 1) := dk_96 (dk_at dksX4_dropsStretch_0 5 rfl rfl)
theorem dX4_dropsStretch_6 : decode cX4_dropsStretch 6 = .ok (.istore_n 2, 1) := dk_61 (dk_at dksX4_dropsStretch_0 6 rfl rfl)
theorem dX4_dropsStretch_7 : decode cX4_dropsStretch 7 = .ok (.iload_n 2, 1) := dk_28 (dk_at dksX4_dropsStretch_0 7 rfl rfl)
theorem dX4_dropsStretch_8 : decode cX4_dropsStretch 8 = .ok (.bipush 55, 2) := dk_16 55 (dk_at dksX4_dropsStretch_0 8 rfl rfl)
theorem dX4_dropsStretch_10 : decode cX4_dropsStretch 10 = .ok (.iconst 3, 1) := dk_6 (dk_at dksX4_dropsStretch_0 10 rfl rfl)
theorem dX4_dropsStretch_11 : decode cX4_dropsStretch 11 = .ok (.aload_n 0, 1) := dk_42 (dk_at dksX4_dropsStretch_0 11 rfl rfl)
theorem dX4_dropsStretch_12 : decode cX4_dropsStretch 12 = .ok (.invokevirtual 97, 3) := dk_182 0 97 (dk_at dksX4_dropsStretch_0 12 rfl rfl)
theorem dX4_dropsStretch_15 : decode cX4_dropsStretch 15 = .ok (.iconst 1, 1) := dk_4 (dk_at dksX4_dropsStretch_0 15 rfl rfl)
theorem dX4_dropsStretch_16 : decode cX4_dropsStretch 16 = .ok (.isub, 1) := dk_100 (dk_at dksX4_dropsStretch_0 16 rfl rfl)
theorem dX4_dropsStretch_17 : decode cX4_dropsStretch 17 = .ok (.imul, 1) := dk_104 (dk_at dksX4_dropsStretch_0 17 rfl rfl)
theorem dX4_dropsStretch_18 : decode cX4_dropsStretch 18 = .ok (.iadd, 1) := dk_96 (dk_at dksX4_dropsStretch_0 18 rfl rfl)
theorem dX4_dropsStretch_19 : decode cX4_dropsStretch 19 = .ok (.if_icmp .ge 23, 3) := dk_162 0 23 (dk_at dksX4_dropsStretch_0 19 rfl rfl)
theorem dX4_dropsStretch_22 : decode cX4_dropsStretch 22 = .ok (.aload_n 0, 1) := dk_42 (dk_at dksX4_dropsStretch_0 22 rfl rfl)
theorem dX4_dropsStretch_23 : decode cX4_dropsStretch 23 = .ok (.getfield 7, 3) := dk_180 0 7 (dk_at dksX4_dropsStretch_1 0 rfl rfl)
theorem dX4_dropsStretch_26 : decode cX4_dropsStretch 26 = .ok (.iload_n 2, 1) := dk_28 (dk_at dksX4_dropsStretch_1 3 rfl rfl)
theorem dX4_dropsStretch_27 : decode cX4_dropsStretch 27 = .ok (.aload_n 0, 1) := dk_42 (dk_at dksX4_dropsStretch_1 4 rfl rfl)
theorem dX4_dropsStretch_28 : decode cX4_dropsStretch 28 = .ok (.getfield 7, 3) := dk_180 0 7 (dk_at dksX4_dropsStretch_1 5 rfl rfl)
theorem dX4_dropsStretch_31 : decode cX4_dropsStretch 31 = .ok (.iload_n 2, 1) := dk_28 (dk_at dksX4_dropsStretch_1 8 rfl rfl)
theorem dX4_dropsStretch_32 : decode cX4_dropsStretch 32 = .ok (.iconst 3, 1) := dk_6 (dk_at dksX4_dropsStretch_1 9 rfl rfl)
theorem dX4_dropsStretch_33 : decode cX4_dropsStretch 33 = .ok (.iadd, 1) := dk_96 (dk_at dksX4_dropsStretch_1 10 rfl rfl)
theorem dX4_dropsStretch_34 : decode cX4_dropsStretch 34 = .ok (.iaload, 1) := dk_46 (dk_at dksX4_dropsStretch_1 11 rfl rfl)
theorem dX4_dropsStretch_35 : decode cX4_dropsStretch 35 = .ok (.iastore, 1) := dk_79 (dk_at dksX4_dropsStretch_1 12 rfl rfl)
theorem dX4_dropsStretch_36 : decode cX4_dropsStretch 36 = .ok (.iinc 2 1, 3) := dk_132 2 1 (dk_at dksX4_dropsStretch_1 13 rfl rfl)
theorem dX4_dropsStretch_39 : decode cX4_dropsStretch 39 = .ok (.goto (-32), 3) := dk_167 255 224 (dk_at dksX4_dropsStretch_1 16 rfl rfl)
theorem dX4_dropsStretch_42 : decode cX4_dropsStretch 42 = .ok (.aload_n 0, 1) := dk_42 (dk_at dksX4_dropsStretch_1 19 rfl rfl)
theorem dX4_dropsStretch_43 : decode cX4_dropsStretch 43 = .ok (.getfield 7, 3) := dk_180 0 7 (dk_at dksX4_dropsStretch_1 20 rfl rfl)
theorem dX4_dropsStretch_46 : decode cX4_dropsStretch 46 = .ok (.bipush 54, 2) := dk_16 54 (dk_at dksX4_dropsStretch_2 0 rfl rfl)
theorem dX4_dropsStretch_48 : decode cX4_dropsStretch 48 = .ok (.dup2, 1) := dk_92 (dk_at dksX4_dropsStretch_2 2 rfl rfl)
theorem dX4_dropsStretch_49 : decode cX4_dropsStretch 49 = .ok (.iaload, 1) := dk_46 (dk_at dksX4_dropsStretch_2 3 rfl rfl)
theorem dX4_dropsStretch_50 : decode cX4_dropsStretch 50 = .ok (.iconst 1, 1) := dk_4 (dk_at dksX4_dropsStretch_2 4 rfl rfl)
theorem dX4_dropsStretch_51 : decode cX4_dropsStretch 51 = .ok (.isub, 1) := dk_100 (dk_at dksX4_dropsStretch_2 5 rfl rfl)
theorem dX4_dropsStretch_52 : decode cX4_dropsStretch 52 = .ok (.iastore, 1) := dk_79 (dk_at dksX4_dropsStretch_2 6 rfl rfl)
theorem dX4_dropsStretch_53 : decode cX4_dropsStretch 53 = .ok (.return_, 1) := dk_177 (dk_at dksX4_dropsStretch_2 7 rfl rfl)
abbrev cX4_setWeight : ByteArray := prog_19_method_25_code
def yX4_setWeight : MethodName := ⟨RX4, "setWeight", "(II)I"⟩
def dkwX4_setWeight_1 : List UInt8 := [42, 182, 0, 76, 42, 180, 0, 7, 4, 27, 96, 28, 79, 29, 172]
abbrev dktX4_setWeight_1 : List UInt8 := dkwX4_setWeight_1 ++ []
def dkwX4_setWeight_0 : List UInt8 := [42, 42, 27, 28, 182, 0, 113, 182, 0, 61, 153, 0, 5, 3, 172, 42, 180, 0, 7, 4, 27, 96, 46, 62]
abbrev dktX4_setWeight_0 : List UInt8 := dkwX4_setWeight_0 ++ dktX4_setWeight_1
theorem dksX4_setWeight_0 : cX4_setWeight.data.toList.drop 0 = dktX4_setWeight_0 := by decide +kernel
theorem dksX4_setWeight_1 : cX4_setWeight.data.toList.drop 24 = dktX4_setWeight_1 := dk_seg dksX4_setWeight_0 24 rfl rfl
theorem dX4_setWeight_0 : decode cX4_setWeight 0 = .ok (.aload_n 0, 1) := dk_42 (dk_at dksX4_setWeight_0 0 rfl rfl)
theorem dX4_setWeight_1 : decode cX4_setWeight 1 = .ok (.aload_n 0, 1) := dk_42 (dk_at dksX4_setWeight_0 1 rfl rfl)
theorem dX4_setWeight_2 : decode cX4_setWeight 2 = .ok (.iload_n 1, 1) := dk_27 (dk_at dksX4_setWeight_0 2 rfl rfl)
theorem dX4_setWeight_3 : decode cX4_setWeight 3 = .ok (.iload_n 2, 1) := dk_28 (dk_at dksX4_setWeight_0 3 rfl rfl)
theorem dX4_setWeight_4 : decode cX4_setWeight 4 = .ok (.invokevirtual 113, 3) := dk_182 0 113 (dk_at dksX4_setWeight_0 4 rfl rfl)
theorem dX4_setWeight_7 : decode cX4_setWeight 7 = .ok (.invokevirtual 61, 3) := dk_182 0 61 (dk_at dksX4_setWeight_0 7 rfl rfl)
theorem dX4_setWeight_10 : decode cX4_setWeight 10 = .ok (.ifCond .eq 5, 3) := dk_153 0 5 (dk_at dksX4_setWeight_0 10 rfl rfl)
theorem dX4_setWeight_13 : decode cX4_setWeight 13 = .ok (.iconst 0, 1) := dk_3 (dk_at dksX4_setWeight_0 13 rfl rfl)
theorem dX4_setWeight_14 : decode cX4_setWeight 14 = .ok (.ireturn, 1) := dk_172 (dk_at dksX4_setWeight_0 14 rfl rfl)
theorem dX4_setWeight_15 : decode cX4_setWeight 15 = .ok (.aload_n 0, 1) := dk_42 (dk_at dksX4_setWeight_0 15 rfl rfl)
theorem dX4_setWeight_16 : decode cX4_setWeight 16 = .ok (.getfield 7, 3) := dk_180 0 7 (dk_at dksX4_setWeight_0 16 rfl rfl)
theorem dX4_setWeight_19 : decode cX4_setWeight 19 = .ok (.iconst 1, 1) := dk_4 (dk_at dksX4_setWeight_0 19 rfl rfl)
theorem dX4_setWeight_20 : decode cX4_setWeight 20 = .ok (.iload_n 1, 1) := dk_27 (dk_at dksX4_setWeight_0 20 rfl rfl)
theorem dX4_setWeight_21 : decode cX4_setWeight 21 = .ok (.iadd, 1) := dk_96 (dk_at dksX4_setWeight_0 21 rfl rfl)
theorem dX4_setWeight_22 : decode cX4_setWeight 22 = .ok (.iaload, 1) := dk_46 (dk_at dksX4_setWeight_0 22 rfl rfl)
theorem dX4_setWeight_23 : decode cX4_setWeight 23 = .ok (.istore_n 3, 1) := dk_62 (dk_at dksX4_setWeight_0 23 rfl rfl)
theorem dX4_setWeight_24 : decode cX4_setWeight 24 = .ok (.aload_n 0, 1) := dk_42 (dk_at dksX4_setWeight_1 0 rfl rfl)
theorem dX4_setWeight_25 : decode cX4_setWeight 25 = .ok (.invokevirtual 76, 3) := dk_182 0 76 (dk_at dksX4_setWeight_1 1 rfl rfl)
theorem dX4_setWeight_28 : decode cX4_setWeight 28 = .ok (.aload_n 0, 1) := dk_42 (dk_at dksX4_setWeight_1 4 rfl rfl)
theorem dX4_setWeight_29 : decode cX4_setWeight 29 = .ok (.getfield 7, 3) := dk_180 0 7 (dk_at dksX4_setWeight_1 5 rfl rfl)
theorem dX4_setWeight_32 : decode cX4_setWeight 32 = .ok (.iconst 1, 1) := dk_4 (dk_at dksX4_setWeight_1 8 rfl rfl)
theorem dX4_setWeight_33 : decode cX4_setWeight 33 = .ok (.iload_n 1, 1) := dk_27 (dk_at dksX4_setWeight_1 9 rfl rfl)
theorem dX4_setWeight_34 : decode cX4_setWeight 34 = .ok (.iadd, 1) := dk_96 (dk_at dksX4_setWeight_1 10 rfl rfl)
theorem dX4_setWeight_35 : decode cX4_setWeight 35 = .ok (.iload_n 2, 1) := dk_28 (dk_at dksX4_setWeight_1 11 rfl rfl)
theorem dX4_setWeight_36 : decode cX4_setWeight 36 = .ok (.iastore, 1) := dk_79 (dk_at dksX4_setWeight_1 12 rfl rfl)
theorem dX4_setWeight_37 : decode cX4_setWeight 37 = .ok (.iload_n 3, 1) := dk_29 (dk_at dksX4_setWeight_1 13 rfl rfl)
theorem dX4_setWeight_38 : decode cX4_setWeight 38 = .ok (.ireturn, 1) := dk_172 (dk_at dksX4_setWeight_1 14 rfl rfl)
abbrev cX4_needSet : ByteArray := prog_19_method_24_code
def yX4_needSet : MethodName := ⟨RX4, "needSet", "(II)I"⟩
def dkwX4_needSet_1 : List UInt8 := [167, 0, 4, 3, 172]
abbrev dktX4_needSet_1 : List UInt8 := dkwX4_needSet_1 ++ []
def dkwX4_needSet_0 : List UInt8 := [42, 27, 182, 0, 83, 154, 0, 7, 4, 167, 0, 18, 28, 3, 16, 9, 184, 0, 69, 154, 0, 7, 5]
abbrev dktX4_needSet_0 : List UInt8 := dkwX4_needSet_0 ++ dktX4_needSet_1
theorem dksX4_needSet_0 : cX4_needSet.data.toList.drop 0 = dktX4_needSet_0 := by decide +kernel
theorem dksX4_needSet_1 : cX4_needSet.data.toList.drop 23 = dktX4_needSet_1 := dk_seg dksX4_needSet_0 23 rfl rfl
theorem dX4_needSet_0 : decode cX4_needSet 0 = .ok (.aload_n 0, 1) := dk_42 (dk_at dksX4_needSet_0 0 rfl rfl)
theorem dX4_needSet_1 : decode cX4_needSet 1 = .ok (.iload_n 1, 1) := dk_27 (dk_at dksX4_needSet_0 1 rfl rfl)
theorem dX4_needSet_2 : decode cX4_needSet 2 = .ok (.invokevirtual 83, 3) := dk_182 0 83 (dk_at dksX4_needSet_0 2 rfl rfl)
theorem dX4_needSet_5 : decode cX4_needSet 5 = .ok (.ifCond .ne 7, 3) := dk_154 0 7 (dk_at dksX4_needSet_0 5 rfl rfl)
theorem dX4_needSet_8 : decode cX4_needSet 8 = .ok (.iconst 1, 1) := dk_4 (dk_at dksX4_needSet_0 8 rfl rfl)
theorem dX4_needSet_9 : decode cX4_needSet 9 = .ok (.goto 18, 3) := dk_167 0 18 (dk_at dksX4_needSet_0 9 rfl rfl)
theorem dX4_needSet_12 : decode cX4_needSet 12 = .ok (.iload_n 2, 1) := dk_28 (dk_at dksX4_needSet_0 12 rfl rfl)
theorem dX4_needSet_13 : decode cX4_needSet 13 = .ok (.iconst 0, 1) := dk_3 (dk_at dksX4_needSet_0 13 rfl rfl)
theorem dX4_needSet_14 : decode cX4_needSet 14 = .ok (.bipush 9, 2) := dk_16 9 (dk_at dksX4_needSet_0 14 rfl rfl)
theorem dX4_needSet_16 : decode cX4_needSet 16 = .ok (.invokestatic 69, 3) := dk_184 0 69 (dk_at dksX4_needSet_0 16 rfl rfl)
theorem dX4_needSet_19 : decode cX4_needSet 19 = .ok (.ifCond .ne 7, 3) := dk_154 0 7 (dk_at dksX4_needSet_0 19 rfl rfl)
theorem dX4_needSet_22 : decode cX4_needSet 22 = .ok (.iconst 2, 1) := dk_5 (dk_at dksX4_needSet_0 22 rfl rfl)
theorem dX4_needSet_23 : decode cX4_needSet 23 = .ok (.goto 4, 3) := dk_167 0 4 (dk_at dksX4_needSet_1 0 rfl rfl)
theorem dX4_needSet_26 : decode cX4_needSet 26 = .ok (.iconst 0, 1) := dk_3 (dk_at dksX4_needSet_1 3 rfl rfl)
theorem dX4_needSet_27 : decode cX4_needSet 27 = .ok (.ireturn, 1) := dk_172 (dk_at dksX4_needSet_1 4 rfl rfl)
abbrev cX4_setTrend : ByteArray := prog_19_method_26_code
def yX4_setTrend : MethodName := ⟨RX4, "setTrend", "(II)I"⟩
def dkwX4_setTrend_1 : List UInt8 := [62, 42, 182, 0, 76, 42, 180, 0, 7, 16, 9, 27, 96, 28, 79, 29, 172]
abbrev dktX4_setTrend_1 : List UInt8 := dkwX4_setTrend_1 ++ []
def dkwX4_setTrend_0 : List UInt8 := [42, 42, 27, 28, 182, 0, 113, 182, 0, 61, 153, 0, 5, 3, 172, 42, 180, 0, 7, 16, 9, 27, 96, 46]
abbrev dktX4_setTrend_0 : List UInt8 := dkwX4_setTrend_0 ++ dktX4_setTrend_1
theorem dksX4_setTrend_0 : cX4_setTrend.data.toList.drop 0 = dktX4_setTrend_0 := by decide +kernel
theorem dksX4_setTrend_1 : cX4_setTrend.data.toList.drop 24 = dktX4_setTrend_1 := dk_seg dksX4_setTrend_0 24 rfl rfl
theorem dX4_setTrend_0 : decode cX4_setTrend 0 = .ok (.aload_n 0, 1) := dk_42 (dk_at dksX4_setTrend_0 0 rfl rfl)
theorem dX4_setTrend_1 : decode cX4_setTrend 1 = .ok (.aload_n 0, 1) := dk_42 (dk_at dksX4_setTrend_0 1 rfl rfl)
theorem dX4_setTrend_2 : decode cX4_setTrend 2 = .ok (.iload_n 1, 1) := dk_27 (dk_at dksX4_setTrend_0 2 rfl rfl)
theorem dX4_setTrend_3 : decode cX4_setTrend 3 = .ok (.iload_n 2, 1) := dk_28 (dk_at dksX4_setTrend_0 3 rfl rfl)
theorem dX4_setTrend_4 : decode cX4_setTrend 4 = .ok (.invokevirtual 113, 3) := dk_182 0 113 (dk_at dksX4_setTrend_0 4 rfl rfl)
theorem dX4_setTrend_7 : decode cX4_setTrend 7 = .ok (.invokevirtual 61, 3) := dk_182 0 61 (dk_at dksX4_setTrend_0 7 rfl rfl)
theorem dX4_setTrend_10 : decode cX4_setTrend 10 = .ok (.ifCond .eq 5, 3) := dk_153 0 5 (dk_at dksX4_setTrend_0 10 rfl rfl)
theorem dX4_setTrend_13 : decode cX4_setTrend 13 = .ok (.iconst 0, 1) := dk_3 (dk_at dksX4_setTrend_0 13 rfl rfl)
theorem dX4_setTrend_14 : decode cX4_setTrend 14 = .ok (.ireturn, 1) := dk_172 (dk_at dksX4_setTrend_0 14 rfl rfl)
theorem dX4_setTrend_15 : decode cX4_setTrend 15 = .ok (.aload_n 0, 1) := dk_42 (dk_at dksX4_setTrend_0 15 rfl rfl)
theorem dX4_setTrend_16 : decode cX4_setTrend 16 = .ok (.getfield 7, 3) := dk_180 0 7 (dk_at dksX4_setTrend_0 16 rfl rfl)
theorem dX4_setTrend_19 : decode cX4_setTrend 19 = .ok (.bipush 9, 2) := dk_16 9 (dk_at dksX4_setTrend_0 19 rfl rfl)
theorem dX4_setTrend_21 : decode cX4_setTrend 21 = .ok (.iload_n 1, 1) := dk_27 (dk_at dksX4_setTrend_0 21 rfl rfl)
theorem dX4_setTrend_22 : decode cX4_setTrend 22 = .ok (.iadd, 1) := dk_96 (dk_at dksX4_setTrend_0 22 rfl rfl)
theorem dX4_setTrend_23 : decode cX4_setTrend 23 = .ok (.iaload, 1) := dk_46 (dk_at dksX4_setTrend_0 23 rfl rfl)
theorem dX4_setTrend_24 : decode cX4_setTrend 24 = .ok (.istore_n 3, 1) := dk_62 (dk_at dksX4_setTrend_1 0 rfl rfl)
theorem dX4_setTrend_25 : decode cX4_setTrend 25 = .ok (.aload_n 0, 1) := dk_42 (dk_at dksX4_setTrend_1 1 rfl rfl)
theorem dX4_setTrend_26 : decode cX4_setTrend 26 = .ok (.invokevirtual 76, 3) := dk_182 0 76 (dk_at dksX4_setTrend_1 2 rfl rfl)
theorem dX4_setTrend_29 : decode cX4_setTrend 29 = .ok (.aload_n 0, 1) := dk_42 (dk_at dksX4_setTrend_1 5 rfl rfl)
theorem dX4_setTrend_30 : decode cX4_setTrend 30 = .ok (.getfield 7, 3) := dk_180 0 7 (dk_at dksX4_setTrend_1 6 rfl rfl)
theorem dX4_setTrend_33 : decode cX4_setTrend 33 = .ok (.bipush 9, 2) := dk_16 9 (dk_at dksX4_setTrend_1 9 rfl rfl)
theorem dX4_setTrend_35 : decode cX4_setTrend 35 = .ok (.iload_n 1, 1) := dk_27 (dk_at dksX4_setTrend_1 11 rfl rfl)
theorem dX4_setTrend_36 : decode cX4_setTrend 36 = .ok (.iadd, 1) := dk_96 (dk_at dksX4_setTrend_1 12 rfl rfl)
theorem dX4_setTrend_37 : decode cX4_setTrend 37 = .ok (.iload_n 2, 1) := dk_28 (dk_at dksX4_setTrend_1 13 rfl rfl)
theorem dX4_setTrend_38 : decode cX4_setTrend 38 = .ok (.iastore, 1) := dk_79 (dk_at dksX4_setTrend_1 14 rfl rfl)
theorem dX4_setTrend_39 : decode cX4_setTrend 39 = .ok (.iload_n 3, 1) := dk_29 (dk_at dksX4_setTrend_1 15 rfl rfl)
theorem dX4_setTrend_40 : decode cX4_setTrend 40 = .ok (.ireturn, 1) := dk_172 (dk_at dksX4_setTrend_1 16 rfl rfl)
abbrev cX4_forbid : ByteArray := prog_19_method_29_code
def yX4_forbid : MethodName := ⟨RX4, "forbid", "(III)I"⟩
def dkwX4_forbid_1 : List UInt8 := [182, 0, 119, 172]
abbrev dktX4_forbid_1 : List UInt8 := dkwX4_forbid_1 ++ []
def dkwX4_forbid_0 : List UInt8 := [42, 42, 27, 28, 29, 182, 0, 116, 182, 0, 61, 153, 0, 5, 3, 172, 42, 182, 0, 76, 42, 27, 28, 29]
abbrev dktX4_forbid_0 : List UInt8 := dkwX4_forbid_0 ++ dktX4_forbid_1
theorem dksX4_forbid_0 : cX4_forbid.data.toList.drop 0 = dktX4_forbid_0 := by decide +kernel
theorem dksX4_forbid_1 : cX4_forbid.data.toList.drop 24 = dktX4_forbid_1 := dk_seg dksX4_forbid_0 24 rfl rfl
theorem dX4_forbid_0 : decode cX4_forbid 0 = .ok (.aload_n 0, 1) := dk_42 (dk_at dksX4_forbid_0 0 rfl rfl)
theorem dX4_forbid_1 : decode cX4_forbid 1 = .ok (.aload_n 0, 1) := dk_42 (dk_at dksX4_forbid_0 1 rfl rfl)
theorem dX4_forbid_2 : decode cX4_forbid 2 = .ok (.iload_n 1, 1) := dk_27 (dk_at dksX4_forbid_0 2 rfl rfl)
theorem dX4_forbid_3 : decode cX4_forbid 3 = .ok (.iload_n 2, 1) := dk_28 (dk_at dksX4_forbid_0 3 rfl rfl)
theorem dX4_forbid_4 : decode cX4_forbid 4 = .ok (.iload_n 3, 1) := dk_29 (dk_at dksX4_forbid_0 4 rfl rfl)
theorem dX4_forbid_5 : decode cX4_forbid 5 = .ok (.invokevirtual 116, 3) := dk_182 0 116 (dk_at dksX4_forbid_0 5 rfl rfl)
theorem dX4_forbid_8 : decode cX4_forbid 8 = .ok (.invokevirtual 61, 3) := dk_182 0 61 (dk_at dksX4_forbid_0 8 rfl rfl)
theorem dX4_forbid_11 : decode cX4_forbid 11 = .ok (.ifCond .eq 5, 3) := dk_153 0 5 (dk_at dksX4_forbid_0 11 rfl rfl)
theorem dX4_forbid_14 : decode cX4_forbid 14 = .ok (.iconst 0, 1) := dk_3 (dk_at dksX4_forbid_0 14 rfl rfl)
theorem dX4_forbid_15 : decode cX4_forbid 15 = .ok (.ireturn, 1) := dk_172 (dk_at dksX4_forbid_0 15 rfl rfl)
theorem dX4_forbid_16 : decode cX4_forbid 16 = .ok (.aload_n 0, 1) := dk_42 (dk_at dksX4_forbid_0 16 rfl rfl)
theorem dX4_forbid_17 : decode cX4_forbid 17 = .ok (.invokevirtual 76, 3) := dk_182 0 76 (dk_at dksX4_forbid_0 17 rfl rfl)
theorem dX4_forbid_20 : decode cX4_forbid 20 = .ok (.aload_n 0, 1) := dk_42 (dk_at dksX4_forbid_0 20 rfl rfl)
theorem dX4_forbid_21 : decode cX4_forbid 21 = .ok (.iload_n 1, 1) := dk_27 (dk_at dksX4_forbid_0 21 rfl rfl)
theorem dX4_forbid_22 : decode cX4_forbid 22 = .ok (.iload_n 2, 1) := dk_28 (dk_at dksX4_forbid_0 22 rfl rfl)
theorem dX4_forbid_23 : decode cX4_forbid 23 = .ok (.iload_n 3, 1) := dk_29 (dk_at dksX4_forbid_0 23 rfl rfl)
theorem dX4_forbid_24 : decode cX4_forbid 24 = .ok (.invokevirtual 119, 3) := dk_182 0 119 (dk_at dksX4_forbid_1 0 rfl rfl)
theorem dX4_forbid_27 : decode cX4_forbid 27 = .ok (.ireturn, 1) := dk_172 (dk_at dksX4_forbid_1 3 rfl rfl)
abbrev cX4_needForbid : ByteArray := prog_19_method_27_code
def yX4_needForbid : MethodName := ⟨RX4, "needForbid", "(III)I"⟩
def dkwX4_needForbid_2 : List UInt8 := [172]
abbrev dktX4_needForbid_2 : List UInt8 := dkwX4_needForbid_2 ++ []
def dkwX4_needForbid_1 : List UInt8 := [182, 0, 79, 164, 0, 7, 5, 167, 0, 17, 42, 182, 0, 97, 16, 6, 160, 0, 7, 6, 167, 0, 4, 3]
abbrev dktX4_needForbid_1 : List UInt8 := dkwX4_needForbid_1 ++ dktX4_needForbid_2
def dkwX4_needForbid_0 : List UInt8 := [42, 27, 182, 0, 106, 154, 0, 5, 4, 172, 28, 155, 0, 18, 28, 29, 162, 0, 13, 29, 42, 27, 5]
abbrev dktX4_needForbid_0 : List UInt8 := dkwX4_needForbid_0 ++ dktX4_needForbid_1
theorem dksX4_needForbid_0 : cX4_needForbid.data.toList.drop 0 = dktX4_needForbid_0 := by decide +kernel
theorem dksX4_needForbid_1 : cX4_needForbid.data.toList.drop 23 = dktX4_needForbid_1 := dk_seg dksX4_needForbid_0 23 rfl rfl
theorem dksX4_needForbid_2 : cX4_needForbid.data.toList.drop 47 = dktX4_needForbid_2 := dk_seg dksX4_needForbid_1 24 rfl rfl
theorem dX4_needForbid_0 : decode cX4_needForbid 0 = .ok (.aload_n 0, 1) := dk_42 (dk_at dksX4_needForbid_0 0 rfl rfl)
theorem dX4_needForbid_1 : decode cX4_needForbid 1 = .ok (.iload_n 1, 1) := dk_27 (dk_at dksX4_needForbid_0 1 rfl rfl)
theorem dX4_needForbid_2 : decode cX4_needForbid 2 = .ok (.invokevirtual 106, 3) := dk_182 0 106 (dk_at dksX4_needForbid_0 2 rfl rfl)
theorem dX4_needForbid_5 : decode cX4_needForbid 5 = .ok (.ifCond .ne 5, 3) := dk_154 0 5 (dk_at dksX4_needForbid_0 5 rfl rfl)
theorem dX4_needForbid_8 : decode cX4_needForbid 8 = .ok (.iconst 1, 1) := dk_4 (dk_at dksX4_needForbid_0 8 rfl rfl)
theorem dX4_needForbid_9 : decode cX4_needForbid 9 = .ok (.ireturn, 1) := dk_172 (dk_at dksX4_needForbid_0 9 rfl rfl)
theorem dX4_needForbid_10 : decode cX4_needForbid 10 = .ok (.iload_n 2, 1) := dk_28 (dk_at dksX4_needForbid_0 10 rfl rfl)
theorem dX4_needForbid_11 : decode cX4_needForbid 11 = .ok (.ifCond .lt 18, 3) := dk_155 0 18 (dk_at dksX4_needForbid_0 11 rfl rfl)
theorem dX4_needForbid_14 : decode cX4_needForbid 14 = .ok (.iload_n 2, 1) := dk_28 (dk_at dksX4_needForbid_0 14 rfl rfl)
theorem dX4_needForbid_15 : decode cX4_needForbid 15 = .ok (.iload_n 3, 1) := dk_29 (dk_at dksX4_needForbid_0 15 rfl rfl)
theorem dX4_needForbid_16 : decode cX4_needForbid 16 = .ok (.if_icmp .ge 13, 3) := dk_162 0 13 (dk_at dksX4_needForbid_0 16 rfl rfl)
theorem dX4_needForbid_19 : decode cX4_needForbid 19 = .ok (.iload_n 3, 1) := dk_29 (dk_at dksX4_needForbid_0 19 rfl rfl)
theorem dX4_needForbid_20 : decode cX4_needForbid 20 = .ok (.aload_n 0, 1) := dk_42 (dk_at dksX4_needForbid_0 20 rfl rfl)
theorem dX4_needForbid_21 : decode cX4_needForbid 21 = .ok (.iload_n 1, 1) := dk_27 (dk_at dksX4_needForbid_0 21 rfl rfl)
theorem dX4_needForbid_22 : decode cX4_needForbid 22 = .ok (.iconst 2, 1) := dk_5 (dk_at dksX4_needForbid_0 22 rfl rfl)
theorem dX4_needForbid_23 : decode cX4_needForbid 23 = .ok (.invokevirtual 79, 3) := dk_182 0 79 (dk_at dksX4_needForbid_1 0 rfl rfl)
theorem dX4_needForbid_26 : decode cX4_needForbid 26 = .ok (.if_icmp .le 7, 3) := dk_164 0 7 (dk_at dksX4_needForbid_1 3 rfl rfl)
theorem dX4_needForbid_29 : decode cX4_needForbid 29 = .ok (.iconst 2, 1) := dk_5 (dk_at dksX4_needForbid_1 6 rfl rfl)
theorem dX4_needForbid_30 : decode cX4_needForbid 30 = .ok (.goto 17, 3) := dk_167 0 17 (dk_at dksX4_needForbid_1 7 rfl rfl)
theorem dX4_needForbid_33 : decode cX4_needForbid 33 = .ok (.aload_n 0, 1) := dk_42 (dk_at dksX4_needForbid_1 10 rfl rfl)
theorem dX4_needForbid_34 : decode cX4_needForbid 34 = .ok (.invokevirtual 97, 3) := dk_182 0 97 (dk_at dksX4_needForbid_1 11 rfl rfl)
theorem dX4_needForbid_37 : decode cX4_needForbid 37 = .ok (.bipush 6, 2) := dk_16 6 (dk_at dksX4_needForbid_1 14 rfl rfl)
theorem dX4_needForbid_39 : decode cX4_needForbid 39 = .ok (.if_icmp .ne 7, 3) := dk_160 0 7 (dk_at dksX4_needForbid_1 16 rfl rfl)
theorem dX4_needForbid_42 : decode cX4_needForbid 42 = .ok (.iconst 3, 1) := dk_6 (dk_at dksX4_needForbid_1 19 rfl rfl)
theorem dX4_needForbid_43 : decode cX4_needForbid 43 = .ok (.goto 4, 3) := dk_167 0 4 (dk_at dksX4_needForbid_1 20 rfl rfl)
theorem dX4_needForbid_46 : decode cX4_needForbid 46 = .ok (.iconst 0, 1) := dk_3 (dk_at dksX4_needForbid_1 23 rfl rfl)
theorem dX4_needForbid_47 : decode cX4_needForbid 47 = .ok (.ireturn, 1) := dk_172 (dk_at dksX4_needForbid_2 0 rfl rfl)
abbrev cX4_forbids : ByteArray := prog_19_method_28_code
def yX4_forbids : MethodName := ⟨RX4, "forbids", "(III)I"⟩
def dkwX4_forbids_2 : List UInt8 := [29, 79, 42, 180, 0, 7, 16, 54, 92, 46, 4, 96, 79, 21, 4, 172]
abbrev dktX4_forbids_2 : List UInt8 := dkwX4_forbids_2 ++ []
def dkwX4_forbids_1 : List UInt8 := [16, 55, 6, 21, 4, 104, 96, 4, 96, 28, 79, 42, 180, 0, 7, 16, 55, 6, 21, 4, 104, 96, 5, 96]
abbrev dktX4_forbids_1 : List UInt8 := dkwX4_forbids_1 ++ dktX4_forbids_2
def dkwX4_forbids_0 : List UInt8 := [42, 182, 0, 97, 54, 4, 42, 180, 0, 7, 16, 55, 6, 21, 4, 104, 96, 27, 79, 42, 180, 0, 7]
abbrev dktX4_forbids_0 : List UInt8 := dkwX4_forbids_0 ++ dktX4_forbids_1
theorem dksX4_forbids_0 : cX4_forbids.data.toList.drop 0 = dktX4_forbids_0 := by decide +kernel
theorem dksX4_forbids_1 : cX4_forbids.data.toList.drop 23 = dktX4_forbids_1 := dk_seg dksX4_forbids_0 23 rfl rfl
theorem dksX4_forbids_2 : cX4_forbids.data.toList.drop 47 = dktX4_forbids_2 := dk_seg dksX4_forbids_1 24 rfl rfl
theorem dX4_forbids_0 : decode cX4_forbids 0 = .ok (.aload_n 0, 1) := dk_42 (dk_at dksX4_forbids_0 0 rfl rfl)
theorem dX4_forbids_1 : decode cX4_forbids 1 = .ok (.invokevirtual 97, 3) := dk_182 0 97 (dk_at dksX4_forbids_0 1 rfl rfl)
theorem dX4_forbids_4 : decode cX4_forbids 4 = .ok (.istore 4, 2) := dk_54 4 (dk_at dksX4_forbids_0 4 rfl rfl)
theorem dX4_forbids_6 : decode cX4_forbids 6 = .ok (.aload_n 0, 1) := dk_42 (dk_at dksX4_forbids_0 6 rfl rfl)
theorem dX4_forbids_7 : decode cX4_forbids 7 = .ok (.getfield 7, 3) := dk_180 0 7 (dk_at dksX4_forbids_0 7 rfl rfl)
theorem dX4_forbids_10 : decode cX4_forbids 10 = .ok (.bipush 55, 2) := dk_16 55 (dk_at dksX4_forbids_0 10 rfl rfl)
theorem dX4_forbids_12 : decode cX4_forbids 12 = .ok (.iconst 3, 1) := dk_6 (dk_at dksX4_forbids_0 12 rfl rfl)
theorem dX4_forbids_13 : decode cX4_forbids 13 = .ok (.iload 4, 2) := dk_21 4 (dk_at dksX4_forbids_0 13 rfl rfl)
theorem dX4_forbids_15 : decode cX4_forbids 15 = .ok (.imul, 1) := dk_104 (dk_at dksX4_forbids_0 15 rfl rfl)
theorem dX4_forbids_16 : decode cX4_forbids 16 = .ok (.iadd, 1) := dk_96 (dk_at dksX4_forbids_0 16 rfl rfl)
theorem dX4_forbids_17 : decode cX4_forbids 17 = .ok (.iload_n 1, 1) := dk_27 (dk_at dksX4_forbids_0 17 rfl rfl)
theorem dX4_forbids_18 : decode cX4_forbids 18 = .ok (.iastore, 1) := dk_79 (dk_at dksX4_forbids_0 18 rfl rfl)
theorem dX4_forbids_19 : decode cX4_forbids 19 = .ok (.aload_n 0, 1) := dk_42 (dk_at dksX4_forbids_0 19 rfl rfl)
theorem dX4_forbids_20 : decode cX4_forbids 20 = .ok (.getfield 7, 3) := dk_180 0 7 (dk_at dksX4_forbids_0 20 rfl rfl)
theorem dX4_forbids_23 : decode cX4_forbids 23 = .ok (.bipush 55, 2) := dk_16 55 (dk_at dksX4_forbids_1 0 rfl rfl)
theorem dX4_forbids_25 : decode cX4_forbids 25 = .ok (.iconst 3, 1) := dk_6 (dk_at dksX4_forbids_1 2 rfl rfl)
theorem dX4_forbids_26 : decode cX4_forbids 26 = .ok (.iload 4, 2) := dk_21 4 (dk_at dksX4_forbids_1 3 rfl rfl)
theorem dX4_forbids_28 : decode cX4_forbids 28 = .ok (.imul, 1) := dk_104 (dk_at dksX4_forbids_1 5 rfl rfl)
theorem dX4_forbids_29 : decode cX4_forbids 29 = .ok (.iadd, 1) := dk_96 (dk_at dksX4_forbids_1 6 rfl rfl)
theorem dX4_forbids_30 : decode cX4_forbids 30 = .ok (.iconst 1, 1) := dk_4 (dk_at dksX4_forbids_1 7 rfl rfl)
theorem dX4_forbids_31 : decode cX4_forbids 31 = .ok (.iadd, 1) := dk_96 (dk_at dksX4_forbids_1 8 rfl rfl)
theorem dX4_forbids_32 : decode cX4_forbids 32 = .ok (.iload_n 2, 1) := dk_28 (dk_at dksX4_forbids_1 9 rfl rfl)
theorem dX4_forbids_33 : decode cX4_forbids 33 = .ok (.iastore, 1) := dk_79 (dk_at dksX4_forbids_1 10 rfl rfl)
theorem dX4_forbids_34 : decode cX4_forbids 34 = .ok (.aload_n 0, 1) := dk_42 (dk_at dksX4_forbids_1 11 rfl rfl)
theorem dX4_forbids_35 : decode cX4_forbids 35 = .ok (.getfield 7, 3) := dk_180 0 7 (dk_at dksX4_forbids_1 12 rfl rfl)
theorem dX4_forbids_38 : decode cX4_forbids 38 = .ok (.bipush 55, 2) := dk_16 55 (dk_at dksX4_forbids_1 15 rfl rfl)
theorem dX4_forbids_40 : decode cX4_forbids 40 = .ok (.iconst 3, 1) := dk_6 (dk_at dksX4_forbids_1 17 rfl rfl)
theorem dX4_forbids_41 : decode cX4_forbids 41 = .ok (.iload 4, 2) := dk_21 4 (dk_at dksX4_forbids_1 18 rfl rfl)
theorem dX4_forbids_43 : decode cX4_forbids 43 = .ok (.imul, 1) := dk_104 (dk_at dksX4_forbids_1 20 rfl rfl)
theorem dX4_forbids_44 : decode cX4_forbids 44 = .ok (.iadd, 1) := dk_96 (dk_at dksX4_forbids_1 21 rfl rfl)
theorem dX4_forbids_45 : decode cX4_forbids 45 = .ok (.iconst 2, 1) := dk_5 (dk_at dksX4_forbids_1 22 rfl rfl)
theorem dX4_forbids_46 : decode cX4_forbids 46 = .ok (.iadd, 1) := dk_96 (dk_at dksX4_forbids_1 23 rfl rfl)
theorem dX4_forbids_47 : decode cX4_forbids 47 = .ok (.iload_n 3, 1) := dk_29 (dk_at dksX4_forbids_2 0 rfl rfl)
theorem dX4_forbids_48 : decode cX4_forbids 48 = .ok (.iastore, 1) := dk_79 (dk_at dksX4_forbids_2 1 rfl rfl)
theorem dX4_forbids_49 : decode cX4_forbids 49 = .ok (.aload_n 0, 1) := dk_42 (dk_at dksX4_forbids_2 2 rfl rfl)
theorem dX4_forbids_50 : decode cX4_forbids 50 = .ok (.getfield 7, 3) := dk_180 0 7 (dk_at dksX4_forbids_2 3 rfl rfl)
theorem dX4_forbids_53 : decode cX4_forbids 53 = .ok (.bipush 54, 2) := dk_16 54 (dk_at dksX4_forbids_2 6 rfl rfl)
theorem dX4_forbids_55 : decode cX4_forbids 55 = .ok (.dup2, 1) := dk_92 (dk_at dksX4_forbids_2 8 rfl rfl)
theorem dX4_forbids_56 : decode cX4_forbids 56 = .ok (.iaload, 1) := dk_46 (dk_at dksX4_forbids_2 9 rfl rfl)
theorem dX4_forbids_57 : decode cX4_forbids 57 = .ok (.iconst 1, 1) := dk_4 (dk_at dksX4_forbids_2 10 rfl rfl)
theorem dX4_forbids_58 : decode cX4_forbids 58 = .ok (.iadd, 1) := dk_96 (dk_at dksX4_forbids_2 11 rfl rfl)
theorem dX4_forbids_59 : decode cX4_forbids 59 = .ok (.iastore, 1) := dk_79 (dk_at dksX4_forbids_2 12 rfl rfl)
theorem dX4_forbids_60 : decode cX4_forbids 60 = .ok (.iload 4, 2) := dk_21 4 (dk_at dksX4_forbids_2 13 rfl rfl)
theorem dX4_forbids_62 : decode cX4_forbids 62 = .ok (.ireturn, 1) := dk_172 (dk_at dksX4_forbids_2 15 rfl rfl)
abbrev cX4_allow : ByteArray := prog_19_method_30_code
def yX4_allow : MethodName := ⟨RX4, "allow", "(I)I"⟩
def dkwX4_allow_1 : List UInt8 := [153, 0, 5, 3, 172, 42, 27, 3, 182, 0, 100, 61, 42, 182, 0, 76, 42, 27, 182, 0, 103, 28, 172]
abbrev dktX4_allow_1 : List UInt8 := dkwX4_allow_1 ++ []
def dkwX4_allow_0 : List UInt8 := [42, 27, 3, 42, 182, 0, 97, 4, 100, 184, 0, 69, 153, 0, 7, 3, 167, 0, 4, 4, 182, 0, 61]
abbrev dktX4_allow_0 : List UInt8 := dkwX4_allow_0 ++ dktX4_allow_1
theorem dksX4_allow_0 : cX4_allow.data.toList.drop 0 = dktX4_allow_0 := by decide +kernel
theorem dksX4_allow_1 : cX4_allow.data.toList.drop 23 = dktX4_allow_1 := dk_seg dksX4_allow_0 23 rfl rfl
theorem dX4_allow_0 : decode cX4_allow 0 = .ok (.aload_n 0, 1) := dk_42 (dk_at dksX4_allow_0 0 rfl rfl)
theorem dX4_allow_1 : decode cX4_allow 1 = .ok (.iload_n 1, 1) := dk_27 (dk_at dksX4_allow_0 1 rfl rfl)
theorem dX4_allow_2 : decode cX4_allow 2 = .ok (.iconst 0, 1) := dk_3 (dk_at dksX4_allow_0 2 rfl rfl)
theorem dX4_allow_3 : decode cX4_allow 3 = .ok (.aload_n 0, 1) := dk_42 (dk_at dksX4_allow_0 3 rfl rfl)
theorem dX4_allow_4 : decode cX4_allow 4 = .ok (.invokevirtual 97, 3) := dk_182 0 97 (dk_at dksX4_allow_0 4 rfl rfl)
theorem dX4_allow_7 : decode cX4_allow 7 = .ok (.iconst 1, 1) := dk_4 (dk_at dksX4_allow_0 7 rfl rfl)
theorem dX4_allow_8 : decode cX4_allow 8 = .ok (.isub, 1) := dk_100 (dk_at dksX4_allow_0 8 rfl rfl)
theorem dX4_allow_9 : decode cX4_allow 9 = .ok (.invokestatic 69, 3) := dk_184 0 69 (dk_at dksX4_allow_0 9 rfl rfl)
theorem dX4_allow_12 : decode cX4_allow 12 = .ok (.ifCond .eq 7, 3) := dk_153 0 7 (dk_at dksX4_allow_0 12 rfl rfl)
theorem dX4_allow_15 : decode cX4_allow 15 = .ok (.iconst 0, 1) := dk_3 (dk_at dksX4_allow_0 15 rfl rfl)
theorem dX4_allow_16 : decode cX4_allow 16 = .ok (.goto 4, 3) := dk_167 0 4 (dk_at dksX4_allow_0 16 rfl rfl)
theorem dX4_allow_19 : decode cX4_allow 19 = .ok (.iconst 1, 1) := dk_4 (dk_at dksX4_allow_0 19 rfl rfl)
theorem dX4_allow_20 : decode cX4_allow 20 = .ok (.invokevirtual 61, 3) := dk_182 0 61 (dk_at dksX4_allow_0 20 rfl rfl)
theorem dX4_allow_23 : decode cX4_allow 23 = .ok (.ifCond .eq 5, 3) := dk_153 0 5 (dk_at dksX4_allow_1 0 rfl rfl)
theorem dX4_allow_26 : decode cX4_allow 26 = .ok (.iconst 0, 1) := dk_3 (dk_at dksX4_allow_1 3 rfl rfl)
theorem dX4_allow_27 : decode cX4_allow 27 = .ok (.ireturn, 1) := dk_172 (dk_at dksX4_allow_1 4 rfl rfl)
theorem dX4_allow_28 : decode cX4_allow 28 = .ok (.aload_n 0, 1) := dk_42 (dk_at dksX4_allow_1 5 rfl rfl)
theorem dX4_allow_29 : decode cX4_allow 29 = .ok (.iload_n 1, 1) := dk_27 (dk_at dksX4_allow_1 6 rfl rfl)
theorem dX4_allow_30 : decode cX4_allow 30 = .ok (.iconst 0, 1) := dk_3 (dk_at dksX4_allow_1 7 rfl rfl)
theorem dX4_allow_31 : decode cX4_allow 31 = .ok (.invokevirtual 100, 3) := dk_182 0 100 (dk_at dksX4_allow_1 8 rfl rfl)
theorem dX4_allow_34 : decode cX4_allow 34 = .ok (.istore_n 2, 1) := dk_61 (dk_at dksX4_allow_1 11 rfl rfl)
theorem dX4_allow_35 : decode cX4_allow 35 = .ok (.aload_n 0, 1) := dk_42 (dk_at dksX4_allow_1 12 rfl rfl)
theorem dX4_allow_36 : decode cX4_allow 36 = .ok (.invokevirtual 76, 3) := dk_182 0 76 (dk_at dksX4_allow_1 13 rfl rfl)
theorem dX4_allow_39 : decode cX4_allow 39 = .ok (.aload_n 0, 1) := dk_42 (dk_at dksX4_allow_1 16 rfl rfl)
theorem dX4_allow_40 : decode cX4_allow 40 = .ok (.iload_n 1, 1) := dk_27 (dk_at dksX4_allow_1 17 rfl rfl)
theorem dX4_allow_41 : decode cX4_allow 41 = .ok (.invokevirtual 103, 3) := dk_182 0 103 (dk_at dksX4_allow_1 18 rfl rfl)
theorem dX4_allow_44 : decode cX4_allow 44 = .ok (.iload_n 2, 1) := dk_28 (dk_at dksX4_allow_1 21 rfl rfl)
theorem dX4_allow_45 : decode cX4_allow 45 = .ok (.ireturn, 1) := dk_172 (dk_at dksX4_allow_1 22 rfl rfl)
abbrev cX4_count : ByteArray := prog_19_method_32_code
def yX4_count : MethodName := ⟨RX4, "count", "(I)I"⟩
def dkwX4_count_1 : List UInt8 := [167, 0, 8, 42, 27, 182, 0, 126, 172]
abbrev dktX4_count_1 : List UInt8 := dkwX4_count_1 ++ []
def dkwX4_count_0 : List UInt8 := [42, 27, 3, 6, 184, 0, 69, 153, 0, 7, 3, 167, 0, 4, 4, 182, 0, 61, 153, 0, 7, 3]
abbrev dktX4_count_0 : List UInt8 := dkwX4_count_0 ++ dktX4_count_1
theorem dksX4_count_0 : cX4_count.data.toList.drop 0 = dktX4_count_0 := by decide +kernel
theorem dksX4_count_1 : cX4_count.data.toList.drop 22 = dktX4_count_1 := dk_seg dksX4_count_0 22 rfl rfl
theorem dX4_count_0 : decode cX4_count 0 = .ok (.aload_n 0, 1) := dk_42 (dk_at dksX4_count_0 0 rfl rfl)
theorem dX4_count_1 : decode cX4_count 1 = .ok (.iload_n 1, 1) := dk_27 (dk_at dksX4_count_0 1 rfl rfl)
theorem dX4_count_2 : decode cX4_count 2 = .ok (.iconst 0, 1) := dk_3 (dk_at dksX4_count_0 2 rfl rfl)
theorem dX4_count_3 : decode cX4_count 3 = .ok (.iconst 3, 1) := dk_6 (dk_at dksX4_count_0 3 rfl rfl)
theorem dX4_count_4 : decode cX4_count 4 = .ok (.invokestatic 69, 3) := dk_184 0 69 (dk_at dksX4_count_0 4 rfl rfl)
theorem dX4_count_7 : decode cX4_count 7 = .ok (.ifCond .eq 7, 3) := dk_153 0 7 (dk_at dksX4_count_0 7 rfl rfl)
theorem dX4_count_10 : decode cX4_count 10 = .ok (.iconst 0, 1) := dk_3 (dk_at dksX4_count_0 10 rfl rfl)
theorem dX4_count_11 : decode cX4_count 11 = .ok (.goto 4, 3) := dk_167 0 4 (dk_at dksX4_count_0 11 rfl rfl)
theorem dX4_count_14 : decode cX4_count 14 = .ok (.iconst 1, 1) := dk_4 (dk_at dksX4_count_0 14 rfl rfl)
theorem dX4_count_15 : decode cX4_count 15 = .ok (.invokevirtual 61, 3) := dk_182 0 61 (dk_at dksX4_count_0 15 rfl rfl)
theorem dX4_count_18 : decode cX4_count 18 = .ok (.ifCond .eq 7, 3) := dk_153 0 7 (dk_at dksX4_count_0 18 rfl rfl)
theorem dX4_count_21 : decode cX4_count 21 = .ok (.iconst 0, 1) := dk_3 (dk_at dksX4_count_0 21 rfl rfl)
theorem dX4_count_22 : decode cX4_count 22 = .ok (.goto 8, 3) := dk_167 0 8 (dk_at dksX4_count_1 0 rfl rfl)
theorem dX4_count_25 : decode cX4_count 25 = .ok (.aload_n 0, 1) := dk_42 (dk_at dksX4_count_1 3 rfl rfl)
theorem dX4_count_26 : decode cX4_count 26 = .ok (.iload_n 1, 1) := dk_27 (dk_at dksX4_count_1 4 rfl rfl)
theorem dX4_count_27 : decode cX4_count 27 = .ok (.invokevirtual 126, 3) := dk_182 0 126 (dk_at dksX4_count_1 5 rfl rfl)
theorem dX4_count_30 : decode cX4_count 30 = .ok (.ireturn, 1) := dk_172 (dk_at dksX4_count_1 8 rfl rfl)
abbrev cX4_counted : ByteArray := prog_19_method_31_code
def yX4_counted : MethodName := ⟨RX4, "counted", "(I)I"⟩
def dkwX4_counted_1 : List UInt8 := [5, 160, 0, 10, 42, 182, 0, 97, 167, 0, 15, 42, 182, 0, 122, 153, 0, 7, 4, 167, 0, 4, 3, 172]
abbrev dktX4_counted_1 : List UInt8 := dkwX4_counted_1 ++ []
def dkwX4_counted_0 : List UInt8 := [27, 154, 0, 10, 42, 182, 0, 65, 167, 0, 39, 27, 4, 160, 0, 10, 42, 182, 0, 73, 167, 0, 27, 27]
abbrev dktX4_counted_0 : List UInt8 := dkwX4_counted_0 ++ dktX4_counted_1
theorem dksX4_counted_0 : cX4_counted.data.toList.drop 0 = dktX4_counted_0 := by decide +kernel
theorem dksX4_counted_1 : cX4_counted.data.toList.drop 24 = dktX4_counted_1 := dk_seg dksX4_counted_0 24 rfl rfl
theorem dX4_counted_0 : decode cX4_counted 0 = .ok (.iload_n 1, 1) := dk_27 (dk_at dksX4_counted_0 0 rfl rfl)
theorem dX4_counted_1 : decode cX4_counted 1 = .ok (.ifCond .ne 10, 3) := dk_154 0 10 (dk_at dksX4_counted_0 1 rfl rfl)
theorem dX4_counted_4 : decode cX4_counted 4 = .ok (.aload_n 0, 1) := dk_42 (dk_at dksX4_counted_0 4 rfl rfl)
theorem dX4_counted_5 : decode cX4_counted 5 = .ok (.invokevirtual 65, 3) := dk_182 0 65 (dk_at dksX4_counted_0 5 rfl rfl)
theorem dX4_counted_8 : decode cX4_counted 8 = .ok (.goto 39, 3) := dk_167 0 39 (dk_at dksX4_counted_0 8 rfl rfl)
theorem dX4_counted_11 : decode cX4_counted 11 = .ok (.iload_n 1, 1) := dk_27 (dk_at dksX4_counted_0 11 rfl rfl)
theorem dX4_counted_12 : decode cX4_counted 12 = .ok (.iconst 1, 1) := dk_4 (dk_at dksX4_counted_0 12 rfl rfl)
theorem dX4_counted_13 : decode cX4_counted 13 = .ok (.if_icmp .ne 10, 3) := dk_160 0 10 (dk_at dksX4_counted_0 13 rfl rfl)
theorem dX4_counted_16 : decode cX4_counted 16 = .ok (.aload_n 0, 1) := dk_42 (dk_at dksX4_counted_0 16 rfl rfl)
theorem dX4_counted_17 : decode cX4_counted 17 = .ok (.invokevirtual 73, 3) := dk_182 0 73 (dk_at dksX4_counted_0 17 rfl rfl)
theorem dX4_counted_20 : decode cX4_counted 20 = .ok (.goto 27, 3) := dk_167 0 27 (dk_at dksX4_counted_0 20 rfl rfl)
theorem dX4_counted_23 : decode cX4_counted 23 = .ok (.iload_n 1, 1) := dk_27 (dk_at dksX4_counted_0 23 rfl rfl)
theorem dX4_counted_24 : decode cX4_counted 24 = .ok (.iconst 2, 1) := dk_5 (dk_at dksX4_counted_1 0 rfl rfl)
theorem dX4_counted_25 : decode cX4_counted 25 = .ok (.if_icmp .ne 10, 3) := dk_160 0 10 (dk_at dksX4_counted_1 1 rfl rfl)
theorem dX4_counted_28 : decode cX4_counted 28 = .ok (.aload_n 0, 1) := dk_42 (dk_at dksX4_counted_1 4 rfl rfl)
theorem dX4_counted_29 : decode cX4_counted 29 = .ok (.invokevirtual 97, 3) := dk_182 0 97 (dk_at dksX4_counted_1 5 rfl rfl)
theorem dX4_counted_32 : decode cX4_counted 32 = .ok (.goto 15, 3) := dk_167 0 15 (dk_at dksX4_counted_1 8 rfl rfl)
theorem dX4_counted_35 : decode cX4_counted 35 = .ok (.aload_n 0, 1) := dk_42 (dk_at dksX4_counted_1 11 rfl rfl)
theorem dX4_counted_36 : decode cX4_counted 36 = .ok (.invokevirtual 122, 3) := dk_182 0 122 (dk_at dksX4_counted_1 12 rfl rfl)
theorem dX4_counted_39 : decode cX4_counted 39 = .ok (.ifCond .eq 7, 3) := dk_153 0 7 (dk_at dksX4_counted_1 15 rfl rfl)
theorem dX4_counted_42 : decode cX4_counted 42 = .ok (.iconst 1, 1) := dk_4 (dk_at dksX4_counted_1 18 rfl rfl)
theorem dX4_counted_43 : decode cX4_counted 43 = .ok (.goto 4, 3) := dk_167 0 4 (dk_at dksX4_counted_1 19 rfl rfl)
theorem dX4_counted_46 : decode cX4_counted 46 = .ok (.iconst 0, 1) := dk_3 (dk_at dksX4_counted_1 22 rfl rfl)
theorem dX4_counted_47 : decode cX4_counted 47 = .ok (.ireturn, 1) := dk_172 (dk_at dksX4_counted_1 23 rfl rfl)
abbrev cX4_isConnected : ByteArray := prog_19_method_38_code
def yX4_isConnected : MethodName := ⟨RX4, "isConnected", "()Z"⟩
def dkwX4_isConnected_1 : List UInt8 := [28, 46, 18, 132, 162, 0, 7, 4, 167, 0, 4, 3, 60, 132, 2, 1, 167, 255, 224, 27, 172]
abbrev dktX4_isConnected_1 : List UInt8 := dkwX4_isConnected_1 ++ []
def dkwX4_isConnected_0 : List UInt8 := [42, 182, 0, 133, 4, 60, 3, 61, 28, 42, 182, 0, 65, 162, 0, 30, 27, 153, 0, 18, 42, 180, 0, 22]
abbrev dktX4_isConnected_0 : List UInt8 := dkwX4_isConnected_0 ++ dktX4_isConnected_1
theorem dksX4_isConnected_0 : cX4_isConnected.data.toList.drop 0 = dktX4_isConnected_0 := by decide +kernel
theorem dksX4_isConnected_1 : cX4_isConnected.data.toList.drop 24 = dktX4_isConnected_1 := dk_seg dksX4_isConnected_0 24 rfl rfl
theorem dX4_isConnected_0 : decode cX4_isConnected 0 = .ok (.aload_n 0, 1) := dk_42 (dk_at dksX4_isConnected_0 0 rfl rfl)
theorem dX4_isConnected_1 : decode cX4_isConnected 1 = .ok (.invokevirtual 133, 3) := dk_182 0 133 (dk_at dksX4_isConnected_0 1 rfl rfl)
theorem dX4_isConnected_4 : decode cX4_isConnected 4 = .ok (.iconst 1, 1) := dk_4 (dk_at dksX4_isConnected_0 4 rfl rfl)
theorem dX4_isConnected_5 : decode cX4_isConnected 5 = .ok (.istore_n 1, 1) := dk_60 (dk_at dksX4_isConnected_0 5 rfl rfl)
theorem dX4_isConnected_6 : decode cX4_isConnected 6 = .ok (.iconst 0, 1) := dk_3 (dk_at dksX4_isConnected_0 6 rfl rfl)
theorem dX4_isConnected_7 : decode cX4_isConnected 7 = .ok (.istore_n 2, 1) := dk_61 (dk_at dksX4_isConnected_0 7 rfl rfl)
theorem dX4_isConnected_8 : decode cX4_isConnected 8 = .ok (.iload_n 2, 1) := dk_28 (dk_at dksX4_isConnected_0 8 rfl rfl)
theorem dX4_isConnected_9 : decode cX4_isConnected 9 = .ok (.aload_n 0, 1) := dk_42 (dk_at dksX4_isConnected_0 9 rfl rfl)
theorem dX4_isConnected_10 : decode cX4_isConnected 10 = .ok (.invokevirtual 65, 3) := dk_182 0 65 (dk_at dksX4_isConnected_0 10 rfl rfl)
theorem dX4_isConnected_13 : decode cX4_isConnected 13 = .ok (.if_icmp .ge 30, 3) := dk_162 0 30 (dk_at dksX4_isConnected_0 13 rfl rfl)
theorem dX4_isConnected_16 : decode cX4_isConnected 16 = .ok (.iload_n 1, 1) := dk_27 (dk_at dksX4_isConnected_0 16 rfl rfl)
theorem dX4_isConnected_17 : decode cX4_isConnected 17 = .ok (.ifCond .eq 18, 3) := dk_153 0 18 (dk_at dksX4_isConnected_0 17 rfl rfl)
theorem dX4_isConnected_20 : decode cX4_isConnected 20 = .ok (.aload_n 0, 1) := dk_42 (dk_at dksX4_isConnected_0 20 rfl rfl)
theorem dX4_isConnected_21 : decode cX4_isConnected 21 = .ok (.getfield 22, 3) := dk_180 0 22 (dk_at dksX4_isConnected_0 21 rfl rfl)
theorem dX4_isConnected_24 : decode cX4_isConnected 24 = .ok (.iload_n 2, 1) := dk_28 (dk_at dksX4_isConnected_1 0 rfl rfl)
theorem dX4_isConnected_25 : decode cX4_isConnected 25 = .ok (.iaload, 1) := dk_46 (dk_at dksX4_isConnected_1 1 rfl rfl)
theorem dX4_isConnected_26 : decode cX4_isConnected 26 = .ok (.ldc 132, 2) := dk_18 132 (dk_at dksX4_isConnected_1 2 rfl rfl)
theorem dX4_isConnected_28 : decode cX4_isConnected 28 = .ok (.if_icmp .ge 7, 3) := dk_162 0 7 (dk_at dksX4_isConnected_1 4 rfl rfl)
theorem dX4_isConnected_31 : decode cX4_isConnected 31 = .ok (.iconst 1, 1) := dk_4 (dk_at dksX4_isConnected_1 7 rfl rfl)
theorem dX4_isConnected_32 : decode cX4_isConnected 32 = .ok (.goto 4, 3) := dk_167 0 4 (dk_at dksX4_isConnected_1 8 rfl rfl)
theorem dX4_isConnected_35 : decode cX4_isConnected 35 = .ok (.iconst 0, 1) := dk_3 (dk_at dksX4_isConnected_1 11 rfl rfl)
theorem dX4_isConnected_36 : decode cX4_isConnected 36 = .ok (.istore_n 1, 1) := dk_60 (dk_at dksX4_isConnected_1 12 rfl rfl)
theorem dX4_isConnected_37 : decode cX4_isConnected 37 = .ok (.iinc 2 1, 3) := dk_132 2 1 (dk_at dksX4_isConnected_1 13 rfl rfl)
theorem dX4_isConnected_40 : decode cX4_isConnected 40 = .ok (.goto (-32), 3) := dk_167 255 224 (dk_at dksX4_isConnected_1 16 rfl rfl)
theorem dX4_isConnected_43 : decode cX4_isConnected 43 = .ok (.iload_n 1, 1) := dk_27 (dk_at dksX4_isConnected_1 19 rfl rfl)
theorem dX4_isConnected_44 : decode cX4_isConnected 44 = .ok (.ireturn, 1) := dk_172 (dk_at dksX4_isConnected_1 20 rfl rfl)
abbrev cX4_lays : ByteArray := prog_19_method_37_code
def yX4_lays : MethodName := ⟨RX4, "lays", "()V"⟩
def dkwX4_lays_9 : List UInt8 := [132, 1, 1, 167, 255, 145, 177]
abbrev dktX4_lays_9 : List UInt8 := dkwX4_lays_9 ++ []
def dkwX4_lays_8 : List UInt8 := [42, 180, 0, 22, 16, 8, 28, 104, 29, 96, 46, 79, 132, 3, 1, 167, 255, 177, 132, 2, 1, 167, 255, 161]
abbrev dktX4_lays_8 : List UInt8 := dkwX4_lays_8 ++ dktX4_lays_9
def dkwX4_lays_7 : List UInt8 := [104, 29, 96, 21, 4, 42, 180, 0, 22, 16, 8, 28, 104, 29, 96, 46, 162, 0, 8, 21, 4, 167, 0, 14]
abbrev dktX4_lays_7 : List UInt8 := dkwX4_lays_7 ++ dktX4_lays_8
def dkwX4_lays_6 : List UInt8 := [27, 96, 46, 42, 180, 0, 22, 16, 8, 27, 104, 29, 96, 46, 96, 54, 4, 42, 180, 0, 22, 16, 8, 28]
abbrev dktX4_lays_6 : List UInt8 := dkwX4_lays_6 ++ dktX4_lays_7
def dkwX4_lays_5 : List UInt8 := [182, 0, 65, 162, 0, 93, 3, 62, 29, 42, 182, 0, 65, 162, 0, 77, 42, 180, 0, 22, 16, 8, 28, 104]
abbrev dktX4_lays_5 : List UInt8 := dkwX4_lays_5 ++ dktX4_lays_6
def dkwX4_lays_4 : List UInt8 := [182, 0, 79, 79, 132, 1, 1, 167, 255, 191, 3, 60, 27, 42, 182, 0, 65, 162, 0, 109, 3, 61, 28, 42]
abbrev dktX4_lays_4 : List UInt8 := dkwX4_lays_4 ++ dktX4_lays_5
def dkwX4_lays_3 : List UInt8 := [180, 0, 22, 16, 8, 42, 27, 4, 182, 0, 79, 104, 42, 27, 3, 182, 0, 79, 96, 42, 27, 5]
abbrev dktX4_lays_3 : List UInt8 := dkwX4_lays_3 ++ dktX4_lays_4
def dkwX4_lays_2 : List UInt8 := [16, 8, 42, 27, 3, 182, 0, 79, 104, 42, 27, 4, 182, 0, 79, 96, 42, 27, 5, 182, 0, 79, 79, 42]
abbrev dktX4_lays_2 : List UInt8 := dkwX4_lays_2 ++ dktX4_lays_3
def dkwX4_lays_1 : List UInt8 := [18, 132, 79, 132, 1, 1, 167, 255, 228, 3, 60, 27, 42, 182, 0, 73, 162, 0, 63, 42, 180, 0, 22]
abbrev dktX4_lays_1 : List UInt8 := dkwX4_lays_1 ++ dktX4_lays_2
def dkwX4_lays_0 : List UInt8 := [3, 60, 27, 16, 64, 162, 0, 28, 42, 180, 0, 22, 27, 27, 16, 9, 112, 154, 0, 7, 3, 167, 0, 5]
abbrev dktX4_lays_0 : List UInt8 := dkwX4_lays_0 ++ dktX4_lays_1
theorem dksX4_lays_0 : cX4_lays.data.toList.drop 0 = dktX4_lays_0 := by decide +kernel
theorem dksX4_lays_1 : cX4_lays.data.toList.drop 24 = dktX4_lays_1 := dk_seg dksX4_lays_0 24 rfl rfl
theorem dksX4_lays_2 : cX4_lays.data.toList.drop 47 = dktX4_lays_2 := dk_seg dksX4_lays_1 23 rfl rfl
theorem dksX4_lays_3 : cX4_lays.data.toList.drop 71 = dktX4_lays_3 := dk_seg dksX4_lays_2 24 rfl rfl
theorem dksX4_lays_4 : cX4_lays.data.toList.drop 93 = dktX4_lays_4 := dk_seg dksX4_lays_3 22 rfl rfl
theorem dksX4_lays_5 : cX4_lays.data.toList.drop 117 = dktX4_lays_5 := dk_seg dksX4_lays_4 24 rfl rfl
theorem dksX4_lays_6 : cX4_lays.data.toList.drop 141 = dktX4_lays_6 := dk_seg dksX4_lays_5 24 rfl rfl
theorem dksX4_lays_7 : cX4_lays.data.toList.drop 165 = dktX4_lays_7 := dk_seg dksX4_lays_6 24 rfl rfl
theorem dksX4_lays_8 : cX4_lays.data.toList.drop 189 = dktX4_lays_8 := dk_seg dksX4_lays_7 24 rfl rfl
theorem dksX4_lays_9 : cX4_lays.data.toList.drop 213 = dktX4_lays_9 := dk_seg dksX4_lays_8 24 rfl rfl
theorem dX4_lays_0 : decode cX4_lays 0 = .ok (.iconst 0, 1) := dk_3 (dk_at dksX4_lays_0 0 rfl rfl)
theorem dX4_lays_1 : decode cX4_lays 1 = .ok (.istore_n 1, 1) := dk_60 (dk_at dksX4_lays_0 1 rfl rfl)
theorem dX4_lays_2 : decode cX4_lays 2 = .ok (.iload_n 1, 1) := dk_27 (dk_at dksX4_lays_0 2 rfl rfl)
theorem dX4_lays_3 : decode cX4_lays 3 = .ok (.bipush 64, 2) := dk_16 64 (dk_at dksX4_lays_0 3 rfl rfl)
theorem dX4_lays_5 : decode cX4_lays 5 = .ok (.if_icmp .ge 28, 3) := dk_162 0 28 (dk_at dksX4_lays_0 5 rfl rfl)
theorem dX4_lays_8 : decode cX4_lays 8 = .ok (.aload_n 0, 1) := dk_42 (dk_at dksX4_lays_0 8 rfl rfl)
theorem dX4_lays_9 : decode cX4_lays 9 = .ok (.getfield 22, 3) := dk_180 0 22 (dk_at dksX4_lays_0 9 rfl rfl)
theorem dX4_lays_12 : decode cX4_lays 12 = .ok (.iload_n 1, 1) := dk_27 (dk_at dksX4_lays_0 12 rfl rfl)
theorem dX4_lays_13 : decode cX4_lays 13 = .ok (.iload_n 1, 1) := dk_27 (dk_at dksX4_lays_0 13 rfl rfl)
theorem dX4_lays_14 : decode cX4_lays 14 = .ok (.bipush 9, 2) := dk_16 9 (dk_at dksX4_lays_0 14 rfl rfl)
theorem dX4_lays_16 : decode cX4_lays 16 = .ok (.irem, 1) := dk_112 (dk_at dksX4_lays_0 16 rfl rfl)
theorem dX4_lays_17 : decode cX4_lays 17 = .ok (.ifCond .ne 7, 3) := dk_154 0 7 (dk_at dksX4_lays_0 17 rfl rfl)
theorem dX4_lays_20 : decode cX4_lays 20 = .ok (.iconst 0, 1) := dk_3 (dk_at dksX4_lays_0 20 rfl rfl)
theorem dX4_lays_21 : decode cX4_lays 21 = .ok (.goto 5, 3) := dk_167 0 5 (dk_at dksX4_lays_0 21 rfl rfl)
theorem dX4_lays_24 : decode cX4_lays 24 = .ok (.ldc 132, 2) := dk_18 132 (dk_at dksX4_lays_1 0 rfl rfl)
theorem dX4_lays_26 : decode cX4_lays 26 = .ok (.iastore, 1) := dk_79 (dk_at dksX4_lays_1 2 rfl rfl)
theorem dX4_lays_27 : decode cX4_lays 27 = .ok (.iinc 1 1, 3) := dk_132 1 1 (dk_at dksX4_lays_1 3 rfl rfl)
theorem dX4_lays_30 : decode cX4_lays 30 = .ok (.goto (-28), 3) := dk_167 255 228 (dk_at dksX4_lays_1 6 rfl rfl)
theorem dX4_lays_33 : decode cX4_lays 33 = .ok (.iconst 0, 1) := dk_3 (dk_at dksX4_lays_1 9 rfl rfl)
theorem dX4_lays_34 : decode cX4_lays 34 = .ok (.istore_n 1, 1) := dk_60 (dk_at dksX4_lays_1 10 rfl rfl)
theorem dX4_lays_35 : decode cX4_lays 35 = .ok (.iload_n 1, 1) := dk_27 (dk_at dksX4_lays_1 11 rfl rfl)
theorem dX4_lays_36 : decode cX4_lays 36 = .ok (.aload_n 0, 1) := dk_42 (dk_at dksX4_lays_1 12 rfl rfl)
theorem dX4_lays_37 : decode cX4_lays 37 = .ok (.invokevirtual 73, 3) := dk_182 0 73 (dk_at dksX4_lays_1 13 rfl rfl)
theorem dX4_lays_40 : decode cX4_lays 40 = .ok (.if_icmp .ge 63, 3) := dk_162 0 63 (dk_at dksX4_lays_1 16 rfl rfl)
theorem dX4_lays_43 : decode cX4_lays 43 = .ok (.aload_n 0, 1) := dk_42 (dk_at dksX4_lays_1 19 rfl rfl)
theorem dX4_lays_44 : decode cX4_lays 44 = .ok (.getfield 22, 3) := dk_180 0 22 (dk_at dksX4_lays_1 20 rfl rfl)
theorem dX4_lays_47 : decode cX4_lays 47 = .ok (.bipush 8, 2) := dk_16 8 (dk_at dksX4_lays_2 0 rfl rfl)
theorem dX4_lays_49 : decode cX4_lays 49 = .ok (.aload_n 0, 1) := dk_42 (dk_at dksX4_lays_2 2 rfl rfl)
theorem dX4_lays_50 : decode cX4_lays 50 = .ok (.iload_n 1, 1) := dk_27 (dk_at dksX4_lays_2 3 rfl rfl)
theorem dX4_lays_51 : decode cX4_lays 51 = .ok (.iconst 0, 1) := dk_3 (dk_at dksX4_lays_2 4 rfl rfl)
theorem dX4_lays_52 : decode cX4_lays 52 = .ok (.invokevirtual 79, 3) := dk_182 0 79 (dk_at dksX4_lays_2 5 rfl rfl)
theorem dX4_lays_55 : decode cX4_lays 55 = .ok (.imul, 1) := dk_104 (dk_at dksX4_lays_2 8 rfl rfl)
theorem dX4_lays_56 : decode cX4_lays 56 = .ok (.aload_n 0, 1) := dk_42 (dk_at dksX4_lays_2 9 rfl rfl)
theorem dX4_lays_57 : decode cX4_lays 57 = .ok (.iload_n 1, 1) := dk_27 (dk_at dksX4_lays_2 10 rfl rfl)
theorem dX4_lays_58 : decode cX4_lays 58 = .ok (.iconst 1, 1) := dk_4 (dk_at dksX4_lays_2 11 rfl rfl)
theorem dX4_lays_59 : decode cX4_lays 59 = .ok (.invokevirtual 79, 3) := dk_182 0 79 (dk_at dksX4_lays_2 12 rfl rfl)
theorem dX4_lays_62 : decode cX4_lays 62 = .ok (.iadd, 1) := dk_96 (dk_at dksX4_lays_2 15 rfl rfl)
theorem dX4_lays_63 : decode cX4_lays 63 = .ok (.aload_n 0, 1) := dk_42 (dk_at dksX4_lays_2 16 rfl rfl)
theorem dX4_lays_64 : decode cX4_lays 64 = .ok (.iload_n 1, 1) := dk_27 (dk_at dksX4_lays_2 17 rfl rfl)
theorem dX4_lays_65 : decode cX4_lays 65 = .ok (.iconst 2, 1) := dk_5 (dk_at dksX4_lays_2 18 rfl rfl)
theorem dX4_lays_66 : decode cX4_lays 66 = .ok (.invokevirtual 79, 3) := dk_182 0 79 (dk_at dksX4_lays_2 19 rfl rfl)
theorem dX4_lays_69 : decode cX4_lays 69 = .ok (.iastore, 1) := dk_79 (dk_at dksX4_lays_2 22 rfl rfl)
theorem dX4_lays_70 : decode cX4_lays 70 = .ok (.aload_n 0, 1) := dk_42 (dk_at dksX4_lays_2 23 rfl rfl)
theorem dX4_lays_71 : decode cX4_lays 71 = .ok (.getfield 22, 3) := dk_180 0 22 (dk_at dksX4_lays_3 0 rfl rfl)
theorem dX4_lays_74 : decode cX4_lays 74 = .ok (.bipush 8, 2) := dk_16 8 (dk_at dksX4_lays_3 3 rfl rfl)
theorem dX4_lays_76 : decode cX4_lays 76 = .ok (.aload_n 0, 1) := dk_42 (dk_at dksX4_lays_3 5 rfl rfl)
theorem dX4_lays_77 : decode cX4_lays 77 = .ok (.iload_n 1, 1) := dk_27 (dk_at dksX4_lays_3 6 rfl rfl)
theorem dX4_lays_78 : decode cX4_lays 78 = .ok (.iconst 1, 1) := dk_4 (dk_at dksX4_lays_3 7 rfl rfl)
theorem dX4_lays_79 : decode cX4_lays 79 = .ok (.invokevirtual 79, 3) := dk_182 0 79 (dk_at dksX4_lays_3 8 rfl rfl)
theorem dX4_lays_82 : decode cX4_lays 82 = .ok (.imul, 1) := dk_104 (dk_at dksX4_lays_3 11 rfl rfl)
theorem dX4_lays_83 : decode cX4_lays 83 = .ok (.aload_n 0, 1) := dk_42 (dk_at dksX4_lays_3 12 rfl rfl)
theorem dX4_lays_84 : decode cX4_lays 84 = .ok (.iload_n 1, 1) := dk_27 (dk_at dksX4_lays_3 13 rfl rfl)
theorem dX4_lays_85 : decode cX4_lays 85 = .ok (.iconst 0, 1) := dk_3 (dk_at dksX4_lays_3 14 rfl rfl)
theorem dX4_lays_86 : decode cX4_lays 86 = .ok (.invokevirtual 79, 3) := dk_182 0 79 (dk_at dksX4_lays_3 15 rfl rfl)
theorem dX4_lays_89 : decode cX4_lays 89 = .ok (.iadd, 1) := dk_96 (dk_at dksX4_lays_3 18 rfl rfl)
theorem dX4_lays_90 : decode cX4_lays 90 = .ok (.aload_n 0, 1) := dk_42 (dk_at dksX4_lays_3 19 rfl rfl)
theorem dX4_lays_91 : decode cX4_lays 91 = .ok (.iload_n 1, 1) := dk_27 (dk_at dksX4_lays_3 20 rfl rfl)
theorem dX4_lays_92 : decode cX4_lays 92 = .ok (.iconst 2, 1) := dk_5 (dk_at dksX4_lays_3 21 rfl rfl)
theorem dX4_lays_93 : decode cX4_lays 93 = .ok (.invokevirtual 79, 3) := dk_182 0 79 (dk_at dksX4_lays_4 0 rfl rfl)
theorem dX4_lays_96 : decode cX4_lays 96 = .ok (.iastore, 1) := dk_79 (dk_at dksX4_lays_4 3 rfl rfl)
theorem dX4_lays_97 : decode cX4_lays 97 = .ok (.iinc 1 1, 3) := dk_132 1 1 (dk_at dksX4_lays_4 4 rfl rfl)
theorem dX4_lays_100 : decode cX4_lays 100 = .ok (.goto (-65), 3) := dk_167 255 191 (dk_at dksX4_lays_4 7 rfl rfl)
theorem dX4_lays_103 : decode cX4_lays 103 = .ok (.iconst 0, 1) := dk_3 (dk_at dksX4_lays_4 10 rfl rfl)
theorem dX4_lays_104 : decode cX4_lays 104 = .ok (.istore_n 1, 1) := dk_60 (dk_at dksX4_lays_4 11 rfl rfl)
theorem dX4_lays_105 : decode cX4_lays 105 = .ok (.iload_n 1, 1) := dk_27 (dk_at dksX4_lays_4 12 rfl rfl)
theorem dX4_lays_106 : decode cX4_lays 106 = .ok (.aload_n 0, 1) := dk_42 (dk_at dksX4_lays_4 13 rfl rfl)
theorem dX4_lays_107 : decode cX4_lays 107 = .ok (.invokevirtual 65, 3) := dk_182 0 65 (dk_at dksX4_lays_4 14 rfl rfl)
theorem dX4_lays_110 : decode cX4_lays 110 = .ok (.if_icmp .ge 109, 3) := dk_162 0 109 (dk_at dksX4_lays_4 17 rfl rfl)
theorem dX4_lays_113 : decode cX4_lays 113 = .ok (.iconst 0, 1) := dk_3 (dk_at dksX4_lays_4 20 rfl rfl)
theorem dX4_lays_114 : decode cX4_lays 114 = .ok (.istore_n 2, 1) := dk_61 (dk_at dksX4_lays_4 21 rfl rfl)
theorem dX4_lays_115 : decode cX4_lays 115 = .ok (.iload_n 2, 1) := dk_28 (dk_at dksX4_lays_4 22 rfl rfl)
theorem dX4_lays_116 : decode cX4_lays 116 = .ok (.aload_n 0, 1) := dk_42 (dk_at dksX4_lays_4 23 rfl rfl)
theorem dX4_lays_117 : decode cX4_lays 117 = .ok (.invokevirtual 65, 3) := dk_182 0 65 (dk_at dksX4_lays_5 0 rfl rfl)
theorem dX4_lays_120 : decode cX4_lays 120 = .ok (.if_icmp .ge 93, 3) := dk_162 0 93 (dk_at dksX4_lays_5 3 rfl rfl)
theorem dX4_lays_123 : decode cX4_lays 123 = .ok (.iconst 0, 1) := dk_3 (dk_at dksX4_lays_5 6 rfl rfl)
theorem dX4_lays_124 : decode cX4_lays 124 = .ok (.istore_n 3, 1) := dk_62 (dk_at dksX4_lays_5 7 rfl rfl)
theorem dX4_lays_125 : decode cX4_lays 125 = .ok (.iload_n 3, 1) := dk_29 (dk_at dksX4_lays_5 8 rfl rfl)
theorem dX4_lays_126 : decode cX4_lays 126 = .ok (.aload_n 0, 1) := dk_42 (dk_at dksX4_lays_5 9 rfl rfl)
theorem dX4_lays_127 : decode cX4_lays 127 = .ok (.invokevirtual 65, 3) := dk_182 0 65 (dk_at dksX4_lays_5 10 rfl rfl)
theorem dX4_lays_130 : decode cX4_lays 130 = .ok (.if_icmp .ge 77, 3) := dk_162 0 77 (dk_at dksX4_lays_5 13 rfl rfl)
theorem dX4_lays_133 : decode cX4_lays 133 = .ok (.aload_n 0, 1) := dk_42 (dk_at dksX4_lays_5 16 rfl rfl)
theorem dX4_lays_134 : decode cX4_lays 134 = .ok (.getfield 22, 3) := dk_180 0 22 (dk_at dksX4_lays_5 17 rfl rfl)
theorem dX4_lays_137 : decode cX4_lays 137 = .ok (.bipush 8, 2) := dk_16 8 (dk_at dksX4_lays_5 20 rfl rfl)
theorem dX4_lays_139 : decode cX4_lays 139 = .ok (.iload_n 2, 1) := dk_28 (dk_at dksX4_lays_5 22 rfl rfl)
theorem dX4_lays_140 : decode cX4_lays 140 = .ok (.imul, 1) := dk_104 (dk_at dksX4_lays_5 23 rfl rfl)
theorem dX4_lays_141 : decode cX4_lays 141 = .ok (.iload_n 1, 1) := dk_27 (dk_at dksX4_lays_6 0 rfl rfl)
theorem dX4_lays_142 : decode cX4_lays 142 = .ok (.iadd, 1) := dk_96 (dk_at dksX4_lays_6 1 rfl rfl)
theorem dX4_lays_143 : decode cX4_lays 143 = .ok (.iaload, 1) := dk_46 (dk_at dksX4_lays_6 2 rfl rfl)
theorem dX4_lays_144 : decode cX4_lays 144 = .ok (.aload_n 0, 1) := dk_42 (dk_at dksX4_lays_6 3 rfl rfl)
theorem dX4_lays_145 : decode cX4_lays 145 = .ok (.getfield 22, 3) := dk_180 0 22 (dk_at dksX4_lays_6 4 rfl rfl)
theorem dX4_lays_148 : decode cX4_lays 148 = .ok (.bipush 8, 2) := dk_16 8 (dk_at dksX4_lays_6 7 rfl rfl)
theorem dX4_lays_150 : decode cX4_lays 150 = .ok (.iload_n 1, 1) := dk_27 (dk_at dksX4_lays_6 9 rfl rfl)
theorem dX4_lays_151 : decode cX4_lays 151 = .ok (.imul, 1) := dk_104 (dk_at dksX4_lays_6 10 rfl rfl)
theorem dX4_lays_152 : decode cX4_lays 152 = .ok (.iload_n 3, 1) := dk_29 (dk_at dksX4_lays_6 11 rfl rfl)
theorem dX4_lays_153 : decode cX4_lays 153 = .ok (.iadd, 1) := dk_96 (dk_at dksX4_lays_6 12 rfl rfl)
theorem dX4_lays_154 : decode cX4_lays 154 = .ok (.iaload, 1) := dk_46 (dk_at dksX4_lays_6 13 rfl rfl)
theorem dX4_lays_155 : decode cX4_lays 155 = .ok (.iadd, 1) := dk_96 (dk_at dksX4_lays_6 14 rfl rfl)
theorem dX4_lays_156 : decode cX4_lays 156 = .ok (.istore 4, 2) := dk_54 4 (dk_at dksX4_lays_6 15 rfl rfl)
theorem dX4_lays_158 : decode cX4_lays 158 = .ok (.aload_n 0, 1) := dk_42 (dk_at dksX4_lays_6 17 rfl rfl)
theorem dX4_lays_159 : decode cX4_lays 159 = .ok (.getfield 22, 3) := dk_180 0 22 (dk_at dksX4_lays_6 18 rfl rfl)
theorem dX4_lays_162 : decode cX4_lays 162 = .ok (.bipush 8, 2) := dk_16 8 (dk_at dksX4_lays_6 21 rfl rfl)
theorem dX4_lays_164 : decode cX4_lays 164 = .ok (.iload_n 2, 1) := dk_28 (dk_at dksX4_lays_6 23 rfl rfl)
theorem dX4_lays_165 : decode cX4_lays 165 = .ok (.imul, 1) := dk_104 (dk_at dksX4_lays_7 0 rfl rfl)
theorem dX4_lays_166 : decode cX4_lays 166 = .ok (.iload_n 3, 1) := dk_29 (dk_at dksX4_lays_7 1 rfl rfl)
theorem dX4_lays_167 : decode cX4_lays 167 = .ok (.iadd, 1) := dk_96 (dk_at dksX4_lays_7 2 rfl rfl)
theorem dX4_lays_168 : decode cX4_lays 168 = .ok (.iload 4, 2) := dk_21 4 (dk_at dksX4_lays_7 3 rfl rfl)
theorem dX4_lays_170 : decode cX4_lays 170 = .ok (.aload_n 0, 1) := dk_42 (dk_at dksX4_lays_7 5 rfl rfl)
theorem dX4_lays_171 : decode cX4_lays 171 = .ok (.getfield 22, 3) := dk_180 0 22 (dk_at dksX4_lays_7 6 rfl rfl)
theorem dX4_lays_174 : decode cX4_lays 174 = .ok (.bipush 8, 2) := dk_16 8 (dk_at dksX4_lays_7 9 rfl rfl)
theorem dX4_lays_176 : decode cX4_lays 176 = .ok (.iload_n 2, 1) := dk_28 (dk_at dksX4_lays_7 11 rfl rfl)
theorem dX4_lays_177 : decode cX4_lays 177 = .ok (.imul, 1) := dk_104 (dk_at dksX4_lays_7 12 rfl rfl)
theorem dX4_lays_178 : decode cX4_lays 178 = .ok (.iload_n 3, 1) := dk_29 (dk_at dksX4_lays_7 13 rfl rfl)
theorem dX4_lays_179 : decode cX4_lays 179 = .ok (.iadd, 1) := dk_96 (dk_at dksX4_lays_7 14 rfl rfl)
theorem dX4_lays_180 : decode cX4_lays 180 = .ok (.iaload, 1) := dk_46 (dk_at dksX4_lays_7 15 rfl rfl)
theorem dX4_lays_181 : decode cX4_lays 181 = .ok (.if_icmp .ge 8, 3) := dk_162 0 8 (dk_at dksX4_lays_7 16 rfl rfl)
theorem dX4_lays_184 : decode cX4_lays 184 = .ok (.iload 4, 2) := dk_21 4 (dk_at dksX4_lays_7 19 rfl rfl)
theorem dX4_lays_186 : decode cX4_lays 186 = .ok (.goto 14, 3) := dk_167 0 14 (dk_at dksX4_lays_7 21 rfl rfl)
theorem dX4_lays_189 : decode cX4_lays 189 = .ok (.aload_n 0, 1) := dk_42 (dk_at dksX4_lays_8 0 rfl rfl)
theorem dX4_lays_190 : decode cX4_lays 190 = .ok (.getfield 22, 3) := dk_180 0 22 (dk_at dksX4_lays_8 1 rfl rfl)
theorem dX4_lays_193 : decode cX4_lays 193 = .ok (.bipush 8, 2) := dk_16 8 (dk_at dksX4_lays_8 4 rfl rfl)
theorem dX4_lays_195 : decode cX4_lays 195 = .ok (.iload_n 2, 1) := dk_28 (dk_at dksX4_lays_8 6 rfl rfl)
theorem dX4_lays_196 : decode cX4_lays 196 = .ok (.imul, 1) := dk_104 (dk_at dksX4_lays_8 7 rfl rfl)
theorem dX4_lays_197 : decode cX4_lays 197 = .ok (.iload_n 3, 1) := dk_29 (dk_at dksX4_lays_8 8 rfl rfl)
theorem dX4_lays_198 : decode cX4_lays 198 = .ok (.iadd, 1) := dk_96 (dk_at dksX4_lays_8 9 rfl rfl)
theorem dX4_lays_199 : decode cX4_lays 199 = .ok (.iaload, 1) := dk_46 (dk_at dksX4_lays_8 10 rfl rfl)
theorem dX4_lays_200 : decode cX4_lays 200 = .ok (.iastore, 1) := dk_79 (dk_at dksX4_lays_8 11 rfl rfl)
theorem dX4_lays_201 : decode cX4_lays 201 = .ok (.iinc 3 1, 3) := dk_132 3 1 (dk_at dksX4_lays_8 12 rfl rfl)
theorem dX4_lays_204 : decode cX4_lays 204 = .ok (.goto (-79), 3) := dk_167 255 177 (dk_at dksX4_lays_8 15 rfl rfl)
theorem dX4_lays_207 : decode cX4_lays 207 = .ok (.iinc 2 1, 3) := dk_132 2 1 (dk_at dksX4_lays_8 18 rfl rfl)
theorem dX4_lays_210 : decode cX4_lays 210 = .ok (.goto (-95), 3) := dk_167 255 161 (dk_at dksX4_lays_8 21 rfl rfl)
theorem dX4_lays_213 : decode cX4_lays 213 = .ok (.iinc 1 1, 3) := dk_132 1 1 (dk_at dksX4_lays_9 0 rfl rfl)
theorem dX4_lays_216 : decode cX4_lays 216 = .ok (.goto (-111), 3) := dk_167 255 145 (dk_at dksX4_lays_9 3 rfl rfl)
theorem dX4_lays_219 : decode cX4_lays 219 = .ok (.return_, 1) := dk_177 (dk_at dksX4_lays_9 6 rfl rfl)
abbrev cX4_edge : ByteArray := prog_19_method_33_code
def yX4_edge : MethodName := ⟨RX4, "edge", "(II)I"⟩
def dkwX4_edge_1 : List UInt8 := [167, 0, 4, 3, 182, 0, 61, 153, 0, 7, 3, 167, 0, 9, 42, 27, 28, 182, 0, 79, 172]
abbrev dktX4_edge_1 : List UInt8 := dkwX4_edge_1 ++ []
def dkwX4_edge_0 : List UInt8 := [42, 42, 27, 182, 0, 106, 154, 0, 7, 4, 167, 0, 17, 28, 3, 5, 184, 0, 69, 154, 0, 7, 5]
abbrev dktX4_edge_0 : List UInt8 := dkwX4_edge_0 ++ dktX4_edge_1
theorem dksX4_edge_0 : cX4_edge.data.toList.drop 0 = dktX4_edge_0 := by decide +kernel
theorem dksX4_edge_1 : cX4_edge.data.toList.drop 23 = dktX4_edge_1 := dk_seg dksX4_edge_0 23 rfl rfl
theorem dX4_edge_0 : decode cX4_edge 0 = .ok (.aload_n 0, 1) := dk_42 (dk_at dksX4_edge_0 0 rfl rfl)
theorem dX4_edge_1 : decode cX4_edge 1 = .ok (.aload_n 0, 1) := dk_42 (dk_at dksX4_edge_0 1 rfl rfl)
theorem dX4_edge_2 : decode cX4_edge 2 = .ok (.iload_n 1, 1) := dk_27 (dk_at dksX4_edge_0 2 rfl rfl)
theorem dX4_edge_3 : decode cX4_edge 3 = .ok (.invokevirtual 106, 3) := dk_182 0 106 (dk_at dksX4_edge_0 3 rfl rfl)
theorem dX4_edge_6 : decode cX4_edge 6 = .ok (.ifCond .ne 7, 3) := dk_154 0 7 (dk_at dksX4_edge_0 6 rfl rfl)
theorem dX4_edge_9 : decode cX4_edge 9 = .ok (.iconst 1, 1) := dk_4 (dk_at dksX4_edge_0 9 rfl rfl)
theorem dX4_edge_10 : decode cX4_edge 10 = .ok (.goto 17, 3) := dk_167 0 17 (dk_at dksX4_edge_0 10 rfl rfl)
theorem dX4_edge_13 : decode cX4_edge 13 = .ok (.iload_n 2, 1) := dk_28 (dk_at dksX4_edge_0 13 rfl rfl)
theorem dX4_edge_14 : decode cX4_edge 14 = .ok (.iconst 0, 1) := dk_3 (dk_at dksX4_edge_0 14 rfl rfl)
theorem dX4_edge_15 : decode cX4_edge 15 = .ok (.iconst 2, 1) := dk_5 (dk_at dksX4_edge_0 15 rfl rfl)
theorem dX4_edge_16 : decode cX4_edge 16 = .ok (.invokestatic 69, 3) := dk_184 0 69 (dk_at dksX4_edge_0 16 rfl rfl)
theorem dX4_edge_19 : decode cX4_edge 19 = .ok (.ifCond .ne 7, 3) := dk_154 0 7 (dk_at dksX4_edge_0 19 rfl rfl)
theorem dX4_edge_22 : decode cX4_edge 22 = .ok (.iconst 2, 1) := dk_5 (dk_at dksX4_edge_0 22 rfl rfl)
theorem dX4_edge_23 : decode cX4_edge 23 = .ok (.goto 4, 3) := dk_167 0 4 (dk_at dksX4_edge_1 0 rfl rfl)
theorem dX4_edge_26 : decode cX4_edge 26 = .ok (.iconst 0, 1) := dk_3 (dk_at dksX4_edge_1 3 rfl rfl)
theorem dX4_edge_27 : decode cX4_edge 27 = .ok (.invokevirtual 61, 3) := dk_182 0 61 (dk_at dksX4_edge_1 4 rfl rfl)
theorem dX4_edge_30 : decode cX4_edge 30 = .ok (.ifCond .eq 7, 3) := dk_153 0 7 (dk_at dksX4_edge_1 7 rfl rfl)
theorem dX4_edge_33 : decode cX4_edge 33 = .ok (.iconst 0, 1) := dk_3 (dk_at dksX4_edge_1 10 rfl rfl)
theorem dX4_edge_34 : decode cX4_edge 34 = .ok (.goto 9, 3) := dk_167 0 9 (dk_at dksX4_edge_1 11 rfl rfl)
theorem dX4_edge_37 : decode cX4_edge 37 = .ok (.aload_n 0, 1) := dk_42 (dk_at dksX4_edge_1 14 rfl rfl)
theorem dX4_edge_38 : decode cX4_edge 38 = .ok (.iload_n 1, 1) := dk_27 (dk_at dksX4_edge_1 15 rfl rfl)
theorem dX4_edge_39 : decode cX4_edge 39 = .ok (.iload_n 2, 1) := dk_28 (dk_at dksX4_edge_1 16 rfl rfl)
theorem dX4_edge_40 : decode cX4_edge 40 = .ok (.invokevirtual 79, 3) := dk_182 0 79 (dk_at dksX4_edge_1 17 rfl rfl)
theorem dX4_edge_43 : decode cX4_edge 43 = .ok (.ireturn, 1) := dk_172 (dk_at dksX4_edge_1 20 rfl rfl)
abbrev cX4_node : ByteArray := prog_19_method_35_code
def yX4_node : MethodName := ⟨RX4, "node", "(II)I"⟩
def dkwX4_node_1 : List UInt8 := [167, 0, 4, 3, 182, 0, 61, 153, 0, 7, 3, 167, 0, 9, 42, 27, 28, 182, 0, 129, 172]
abbrev dktX4_node_1 : List UInt8 := dkwX4_node_1 ++ []
def dkwX4_node_0 : List UInt8 := [42, 42, 27, 182, 0, 83, 154, 0, 7, 4, 167, 0, 17, 28, 3, 5, 184, 0, 69, 154, 0, 7, 5]
abbrev dktX4_node_0 : List UInt8 := dkwX4_node_0 ++ dktX4_node_1
theorem dksX4_node_0 : cX4_node.data.toList.drop 0 = dktX4_node_0 := by decide +kernel
theorem dksX4_node_1 : cX4_node.data.toList.drop 23 = dktX4_node_1 := dk_seg dksX4_node_0 23 rfl rfl
theorem dX4_node_0 : decode cX4_node 0 = .ok (.aload_n 0, 1) := dk_42 (dk_at dksX4_node_0 0 rfl rfl)
theorem dX4_node_1 : decode cX4_node 1 = .ok (.aload_n 0, 1) := dk_42 (dk_at dksX4_node_0 1 rfl rfl)
theorem dX4_node_2 : decode cX4_node 2 = .ok (.iload_n 1, 1) := dk_27 (dk_at dksX4_node_0 2 rfl rfl)
theorem dX4_node_3 : decode cX4_node 3 = .ok (.invokevirtual 83, 3) := dk_182 0 83 (dk_at dksX4_node_0 3 rfl rfl)
theorem dX4_node_6 : decode cX4_node 6 = .ok (.ifCond .ne 7, 3) := dk_154 0 7 (dk_at dksX4_node_0 6 rfl rfl)
theorem dX4_node_9 : decode cX4_node 9 = .ok (.iconst 1, 1) := dk_4 (dk_at dksX4_node_0 9 rfl rfl)
theorem dX4_node_10 : decode cX4_node 10 = .ok (.goto 17, 3) := dk_167 0 17 (dk_at dksX4_node_0 10 rfl rfl)
theorem dX4_node_13 : decode cX4_node 13 = .ok (.iload_n 2, 1) := dk_28 (dk_at dksX4_node_0 13 rfl rfl)
theorem dX4_node_14 : decode cX4_node 14 = .ok (.iconst 0, 1) := dk_3 (dk_at dksX4_node_0 14 rfl rfl)
theorem dX4_node_15 : decode cX4_node 15 = .ok (.iconst 2, 1) := dk_5 (dk_at dksX4_node_0 15 rfl rfl)
theorem dX4_node_16 : decode cX4_node 16 = .ok (.invokestatic 69, 3) := dk_184 0 69 (dk_at dksX4_node_0 16 rfl rfl)
theorem dX4_node_19 : decode cX4_node 19 = .ok (.ifCond .ne 7, 3) := dk_154 0 7 (dk_at dksX4_node_0 19 rfl rfl)
theorem dX4_node_22 : decode cX4_node 22 = .ok (.iconst 2, 1) := dk_5 (dk_at dksX4_node_0 22 rfl rfl)
theorem dX4_node_23 : decode cX4_node 23 = .ok (.goto 4, 3) := dk_167 0 4 (dk_at dksX4_node_1 0 rfl rfl)
theorem dX4_node_26 : decode cX4_node 26 = .ok (.iconst 0, 1) := dk_3 (dk_at dksX4_node_1 3 rfl rfl)
theorem dX4_node_27 : decode cX4_node 27 = .ok (.invokevirtual 61, 3) := dk_182 0 61 (dk_at dksX4_node_1 4 rfl rfl)
theorem dX4_node_30 : decode cX4_node 30 = .ok (.ifCond .eq 7, 3) := dk_153 0 7 (dk_at dksX4_node_1 7 rfl rfl)
theorem dX4_node_33 : decode cX4_node 33 = .ok (.iconst 0, 1) := dk_3 (dk_at dksX4_node_1 10 rfl rfl)
theorem dX4_node_34 : decode cX4_node 34 = .ok (.goto 9, 3) := dk_167 0 9 (dk_at dksX4_node_1 11 rfl rfl)
theorem dX4_node_37 : decode cX4_node 37 = .ok (.aload_n 0, 1) := dk_42 (dk_at dksX4_node_1 14 rfl rfl)
theorem dX4_node_38 : decode cX4_node 38 = .ok (.iload_n 1, 1) := dk_27 (dk_at dksX4_node_1 15 rfl rfl)
theorem dX4_node_39 : decode cX4_node 39 = .ok (.iload_n 2, 1) := dk_28 (dk_at dksX4_node_1 16 rfl rfl)
theorem dX4_node_40 : decode cX4_node 40 = .ok (.invokevirtual 129, 3) := dk_182 0 129 (dk_at dksX4_node_1 17 rfl rfl)
theorem dX4_node_43 : decode cX4_node 43 = .ok (.ireturn, 1) := dk_172 (dk_at dksX4_node_1 20 rfl rfl)
abbrev cX4_nodeTold : ByteArray := prog_19_method_34_code
def yX4_nodeTold : MethodName := ⟨RX4, "nodeTold", "(II)I"⟩
def dkwX4_nodeTold_3 : List UInt8 := [180, 0, 7, 16, 9, 27, 96, 46, 167, 0, 4, 29, 172]
abbrev dktX4_nodeTold_3 : List UInt8 := dkwX4_nodeTold_3 ++ []
def dkwX4_nodeTold_2 : List UInt8 := [167, 255, 214, 28, 154, 0, 14, 42, 180, 0, 7, 4, 27, 96, 46, 167, 0, 21, 28, 4, 160, 0, 15, 42]
abbrev dktX4_nodeTold_2 : List UInt8 := dkwX4_nodeTold_2 ++ dktX4_nodeTold_3
def dkwX4_nodeTold_1 : List UInt8 := [159, 0, 14, 42, 21, 4, 4, 182, 0, 79, 27, 160, 0, 7, 4, 167, 0, 4, 3, 96, 62, 132, 4, 1]
abbrev dktX4_nodeTold_1 : List UInt8 := dkwX4_nodeTold_1 ++ dktX4_nodeTold_2
def dkwX4_nodeTold_0 : List UInt8 := [3, 62, 3, 54, 4, 21, 4, 42, 182, 0, 73, 162, 0, 39, 29, 42, 21, 4, 3, 182, 0, 79, 27]
abbrev dktX4_nodeTold_0 : List UInt8 := dkwX4_nodeTold_0 ++ dktX4_nodeTold_1
theorem dksX4_nodeTold_0 : cX4_nodeTold.data.toList.drop 0 = dktX4_nodeTold_0 := by decide +kernel
theorem dksX4_nodeTold_1 : cX4_nodeTold.data.toList.drop 23 = dktX4_nodeTold_1 := dk_seg dksX4_nodeTold_0 23 rfl rfl
theorem dksX4_nodeTold_2 : cX4_nodeTold.data.toList.drop 47 = dktX4_nodeTold_2 := dk_seg dksX4_nodeTold_1 24 rfl rfl
theorem dksX4_nodeTold_3 : cX4_nodeTold.data.toList.drop 71 = dktX4_nodeTold_3 := dk_seg dksX4_nodeTold_2 24 rfl rfl
theorem dX4_nodeTold_0 : decode cX4_nodeTold 0 = .ok (.iconst 0, 1) := dk_3 (dk_at dksX4_nodeTold_0 0 rfl rfl)
theorem dX4_nodeTold_1 : decode cX4_nodeTold 1 = .ok (.istore_n 3, 1) := dk_62 (dk_at dksX4_nodeTold_0 1 rfl rfl)
theorem dX4_nodeTold_2 : decode cX4_nodeTold 2 = .ok (.iconst 0, 1) := dk_3 (dk_at dksX4_nodeTold_0 2 rfl rfl)
theorem dX4_nodeTold_3 : decode cX4_nodeTold 3 = .ok (.istore 4, 2) := dk_54 4 (dk_at dksX4_nodeTold_0 3 rfl rfl)
theorem dX4_nodeTold_5 : decode cX4_nodeTold 5 = .ok (.iload 4, 2) := dk_21 4 (dk_at dksX4_nodeTold_0 5 rfl rfl)
theorem dX4_nodeTold_7 : decode cX4_nodeTold 7 = .ok (.aload_n 0, 1) := dk_42 (dk_at dksX4_nodeTold_0 7 rfl rfl)
theorem dX4_nodeTold_8 : decode cX4_nodeTold 8 = .ok (.invokevirtual 73, 3) := dk_182 0 73 (dk_at dksX4_nodeTold_0 8 rfl rfl)
theorem dX4_nodeTold_11 : decode cX4_nodeTold 11 = .ok (.if_icmp .ge 39, 3) := dk_162 0 39 (dk_at dksX4_nodeTold_0 11 rfl rfl)
theorem dX4_nodeTold_14 : decode cX4_nodeTold 14 = .ok (.iload_n 3, 1) := dk_29 (dk_at dksX4_nodeTold_0 14 rfl rfl)
theorem dX4_nodeTold_15 : decode cX4_nodeTold 15 = .ok (.aload_n 0, 1) := dk_42 (dk_at dksX4_nodeTold_0 15 rfl rfl)
theorem dX4_nodeTold_16 : decode cX4_nodeTold 16 = .ok (.iload 4, 2) := dk_21 4 (dk_at dksX4_nodeTold_0 16 rfl rfl)
theorem dX4_nodeTold_18 : decode cX4_nodeTold 18 = .ok (.iconst 0, 1) := dk_3 (dk_at dksX4_nodeTold_0 18 rfl rfl)
theorem dX4_nodeTold_19 : decode cX4_nodeTold 19 = .ok (.invokevirtual 79, 3) := dk_182 0 79 (dk_at dksX4_nodeTold_0 19 rfl rfl)
theorem dX4_nodeTold_22 : decode cX4_nodeTold 22 = .ok (.iload_n 1, 1) := dk_27 (dk_at dksX4_nodeTold_0 22 rfl rfl)
theorem dX4_nodeTold_23 : decode cX4_nodeTold 23 = .ok (.if_icmp .eq 14, 3) := dk_159 0 14 (dk_at dksX4_nodeTold_1 0 rfl rfl)
theorem dX4_nodeTold_26 : decode cX4_nodeTold 26 = .ok (.aload_n 0, 1) := dk_42 (dk_at dksX4_nodeTold_1 3 rfl rfl)
theorem dX4_nodeTold_27 : decode cX4_nodeTold 27 = .ok (.iload 4, 2) := dk_21 4 (dk_at dksX4_nodeTold_1 4 rfl rfl)
theorem dX4_nodeTold_29 : decode cX4_nodeTold 29 = .ok (.iconst 1, 1) := dk_4 (dk_at dksX4_nodeTold_1 6 rfl rfl)
theorem dX4_nodeTold_30 : decode cX4_nodeTold 30 = .ok (.invokevirtual 79, 3) := dk_182 0 79 (dk_at dksX4_nodeTold_1 7 rfl rfl)
theorem dX4_nodeTold_33 : decode cX4_nodeTold 33 = .ok (.iload_n 1, 1) := dk_27 (dk_at dksX4_nodeTold_1 10 rfl rfl)
theorem dX4_nodeTold_34 : decode cX4_nodeTold 34 = .ok (.if_icmp .ne 7, 3) := dk_160 0 7 (dk_at dksX4_nodeTold_1 11 rfl rfl)
theorem dX4_nodeTold_37 : decode cX4_nodeTold 37 = .ok (.iconst 1, 1) := dk_4 (dk_at dksX4_nodeTold_1 14 rfl rfl)
theorem dX4_nodeTold_38 : decode cX4_nodeTold 38 = .ok (.goto 4, 3) := dk_167 0 4 (dk_at dksX4_nodeTold_1 15 rfl rfl)
theorem dX4_nodeTold_41 : decode cX4_nodeTold 41 = .ok (.iconst 0, 1) := dk_3 (dk_at dksX4_nodeTold_1 18 rfl rfl)
theorem dX4_nodeTold_42 : decode cX4_nodeTold 42 = .ok (.iadd, 1) := dk_96 (dk_at dksX4_nodeTold_1 19 rfl rfl)
theorem dX4_nodeTold_43 : decode cX4_nodeTold 43 = .ok (.istore_n 3, 1) := dk_62 (dk_at dksX4_nodeTold_1 20 rfl rfl)
theorem dX4_nodeTold_44 : decode cX4_nodeTold 44 = .ok (.iinc 4 1, 3) := dk_132 4 1 (dk_at dksX4_nodeTold_1 21 rfl rfl)
theorem dX4_nodeTold_47 : decode cX4_nodeTold 47 = .ok (.goto (-42), 3) := dk_167 255 214 (dk_at dksX4_nodeTold_2 0 rfl rfl)
theorem dX4_nodeTold_50 : decode cX4_nodeTold 50 = .ok (.iload_n 2, 1) := dk_28 (dk_at dksX4_nodeTold_2 3 rfl rfl)
theorem dX4_nodeTold_51 : decode cX4_nodeTold 51 = .ok (.ifCond .ne 14, 3) := dk_154 0 14 (dk_at dksX4_nodeTold_2 4 rfl rfl)
theorem dX4_nodeTold_54 : decode cX4_nodeTold 54 = .ok (.aload_n 0, 1) := dk_42 (dk_at dksX4_nodeTold_2 7 rfl rfl)
theorem dX4_nodeTold_55 : decode cX4_nodeTold 55 = .ok (.getfield 7, 3) := dk_180 0 7 (dk_at dksX4_nodeTold_2 8 rfl rfl)
theorem dX4_nodeTold_58 : decode cX4_nodeTold 58 = .ok (.iconst 1, 1) := dk_4 (dk_at dksX4_nodeTold_2 11 rfl rfl)
theorem dX4_nodeTold_59 : decode cX4_nodeTold 59 = .ok (.iload_n 1, 1) := dk_27 (dk_at dksX4_nodeTold_2 12 rfl rfl)
theorem dX4_nodeTold_60 : decode cX4_nodeTold 60 = .ok (.iadd, 1) := dk_96 (dk_at dksX4_nodeTold_2 13 rfl rfl)
theorem dX4_nodeTold_61 : decode cX4_nodeTold 61 = .ok (.iaload, 1) := dk_46 (dk_at dksX4_nodeTold_2 14 rfl rfl)
theorem dX4_nodeTold_62 : decode cX4_nodeTold 62 = .ok (.goto 21, 3) := dk_167 0 21 (dk_at dksX4_nodeTold_2 15 rfl rfl)
theorem dX4_nodeTold_65 : decode cX4_nodeTold 65 = .ok (.iload_n 2, 1) := dk_28 (dk_at dksX4_nodeTold_2 18 rfl rfl)
theorem dX4_nodeTold_66 : decode cX4_nodeTold 66 = .ok (.iconst 1, 1) := dk_4 (dk_at dksX4_nodeTold_2 19 rfl rfl)
theorem dX4_nodeTold_67 : decode cX4_nodeTold 67 = .ok (.if_icmp .ne 15, 3) := dk_160 0 15 (dk_at dksX4_nodeTold_2 20 rfl rfl)
theorem dX4_nodeTold_70 : decode cX4_nodeTold 70 = .ok (.aload_n 0, 1) := dk_42 (dk_at dksX4_nodeTold_2 23 rfl rfl)
theorem dX4_nodeTold_71 : decode cX4_nodeTold 71 = .ok (.getfield 7, 3) := dk_180 0 7 (dk_at dksX4_nodeTold_3 0 rfl rfl)
theorem dX4_nodeTold_74 : decode cX4_nodeTold 74 = .ok (.bipush 9, 2) := dk_16 9 (dk_at dksX4_nodeTold_3 3 rfl rfl)
theorem dX4_nodeTold_76 : decode cX4_nodeTold 76 = .ok (.iload_n 1, 1) := dk_27 (dk_at dksX4_nodeTold_3 5 rfl rfl)
theorem dX4_nodeTold_77 : decode cX4_nodeTold 77 = .ok (.iadd, 1) := dk_96 (dk_at dksX4_nodeTold_3 6 rfl rfl)
theorem dX4_nodeTold_78 : decode cX4_nodeTold 78 = .ok (.iaload, 1) := dk_46 (dk_at dksX4_nodeTold_3 7 rfl rfl)
theorem dX4_nodeTold_79 : decode cX4_nodeTold 79 = .ok (.goto 4, 3) := dk_167 0 4 (dk_at dksX4_nodeTold_3 8 rfl rfl)
theorem dX4_nodeTold_82 : decode cX4_nodeTold 82 = .ok (.iload_n 3, 1) := dk_29 (dk_at dksX4_nodeTold_3 11 rfl rfl)
theorem dX4_nodeTold_83 : decode cX4_nodeTold 83 = .ok (.ireturn, 1) := dk_172 (dk_at dksX4_nodeTold_3 12 rfl rfl)
abbrev cX4_stretch : ByteArray := prog_19_method_36_code
def yX4_stretch : MethodName := ⟨RX4, "stretch", "(II)I"⟩
def dkwX4_stretch_2 : List UInt8 := [182, 0, 100, 172]
abbrev dktX4_stretch_2 : List UInt8 := dkwX4_stretch_2 ++ []
def dkwX4_stretch_1 : List UInt8 := [184, 0, 69, 154, 0, 7, 5, 167, 0, 4, 3, 182, 0, 61, 153, 0, 7, 3, 167, 0, 9, 42, 27, 28]
abbrev dktX4_stretch_1 : List UInt8 := dkwX4_stretch_1 ++ dktX4_stretch_2
def dkwX4_stretch_0 : List UInt8 := [42, 27, 3, 42, 182, 0, 97, 4, 100, 184, 0, 69, 154, 0, 7, 4, 167, 0, 17, 28, 3, 5]
abbrev dktX4_stretch_0 : List UInt8 := dkwX4_stretch_0 ++ dktX4_stretch_1
theorem dksX4_stretch_0 : cX4_stretch.data.toList.drop 0 = dktX4_stretch_0 := by decide +kernel
theorem dksX4_stretch_1 : cX4_stretch.data.toList.drop 22 = dktX4_stretch_1 := dk_seg dksX4_stretch_0 22 rfl rfl
theorem dksX4_stretch_2 : cX4_stretch.data.toList.drop 46 = dktX4_stretch_2 := dk_seg dksX4_stretch_1 24 rfl rfl
theorem dX4_stretch_0 : decode cX4_stretch 0 = .ok (.aload_n 0, 1) := dk_42 (dk_at dksX4_stretch_0 0 rfl rfl)
theorem dX4_stretch_1 : decode cX4_stretch 1 = .ok (.iload_n 1, 1) := dk_27 (dk_at dksX4_stretch_0 1 rfl rfl)
theorem dX4_stretch_2 : decode cX4_stretch 2 = .ok (.iconst 0, 1) := dk_3 (dk_at dksX4_stretch_0 2 rfl rfl)
theorem dX4_stretch_3 : decode cX4_stretch 3 = .ok (.aload_n 0, 1) := dk_42 (dk_at dksX4_stretch_0 3 rfl rfl)
theorem dX4_stretch_4 : decode cX4_stretch 4 = .ok (.invokevirtual 97, 3) := dk_182 0 97 (dk_at dksX4_stretch_0 4 rfl rfl)
theorem dX4_stretch_7 : decode cX4_stretch 7 = .ok (.iconst 1, 1) := dk_4 (dk_at dksX4_stretch_0 7 rfl rfl)
theorem dX4_stretch_8 : decode cX4_stretch 8 = .ok (.isub, 1) := dk_100 (dk_at dksX4_stretch_0 8 rfl rfl)
theorem dX4_stretch_9 : decode cX4_stretch 9 = .ok (.invokestatic 69, 3) := dk_184 0 69 (dk_at dksX4_stretch_0 9 rfl rfl)
theorem dX4_stretch_12 : decode cX4_stretch 12 = .ok (.ifCond .ne 7, 3) := dk_154 0 7 (dk_at dksX4_stretch_0 12 rfl rfl)
theorem dX4_stretch_15 : decode cX4_stretch 15 = .ok (.iconst 1, 1) := dk_4 (dk_at dksX4_stretch_0 15 rfl rfl)
theorem dX4_stretch_16 : decode cX4_stretch 16 = .ok (.goto 17, 3) := dk_167 0 17 (dk_at dksX4_stretch_0 16 rfl rfl)
theorem dX4_stretch_19 : decode cX4_stretch 19 = .ok (.iload_n 2, 1) := dk_28 (dk_at dksX4_stretch_0 19 rfl rfl)
theorem dX4_stretch_20 : decode cX4_stretch 20 = .ok (.iconst 0, 1) := dk_3 (dk_at dksX4_stretch_0 20 rfl rfl)
theorem dX4_stretch_21 : decode cX4_stretch 21 = .ok (.iconst 2, 1) := dk_5 (dk_at dksX4_stretch_0 21 rfl rfl)
theorem dX4_stretch_22 : decode cX4_stretch 22 = .ok (.invokestatic 69, 3) := dk_184 0 69 (dk_at dksX4_stretch_1 0 rfl rfl)
theorem dX4_stretch_25 : decode cX4_stretch 25 = .ok (.ifCond .ne 7, 3) := dk_154 0 7 (dk_at dksX4_stretch_1 3 rfl rfl)
theorem dX4_stretch_28 : decode cX4_stretch 28 = .ok (.iconst 2, 1) := dk_5 (dk_at dksX4_stretch_1 6 rfl rfl)
theorem dX4_stretch_29 : decode cX4_stretch 29 = .ok (.goto 4, 3) := dk_167 0 4 (dk_at dksX4_stretch_1 7 rfl rfl)
theorem dX4_stretch_32 : decode cX4_stretch 32 = .ok (.iconst 0, 1) := dk_3 (dk_at dksX4_stretch_1 10 rfl rfl)
theorem dX4_stretch_33 : decode cX4_stretch 33 = .ok (.invokevirtual 61, 3) := dk_182 0 61 (dk_at dksX4_stretch_1 11 rfl rfl)
theorem dX4_stretch_36 : decode cX4_stretch 36 = .ok (.ifCond .eq 7, 3) := dk_153 0 7 (dk_at dksX4_stretch_1 14 rfl rfl)
theorem dX4_stretch_39 : decode cX4_stretch 39 = .ok (.iconst 0, 1) := dk_3 (dk_at dksX4_stretch_1 17 rfl rfl)
theorem dX4_stretch_40 : decode cX4_stretch 40 = .ok (.goto 9, 3) := dk_167 0 9 (dk_at dksX4_stretch_1 18 rfl rfl)
theorem dX4_stretch_43 : decode cX4_stretch 43 = .ok (.aload_n 0, 1) := dk_42 (dk_at dksX4_stretch_1 21 rfl rfl)
theorem dX4_stretch_44 : decode cX4_stretch 44 = .ok (.iload_n 1, 1) := dk_27 (dk_at dksX4_stretch_1 22 rfl rfl)
theorem dX4_stretch_45 : decode cX4_stretch 45 = .ok (.iload_n 2, 1) := dk_28 (dk_at dksX4_stretch_1 23 rfl rfl)
theorem dX4_stretch_46 : decode cX4_stretch 46 = .ok (.invokevirtual 100, 3) := dk_182 0 100 (dk_at dksX4_stretch_2 0 rfl rfl)
theorem dX4_stretch_49 : decode cX4_stretch 49 = .ok (.ireturn, 1) := dk_172 (dk_at dksX4_stretch_2 3 rfl rfl)
abbrev cX4_distance : ByteArray := prog_19_method_40_code
def yX4_distance : MethodName := ⟨RX4, "distance", "(II)I"⟩
def dkwX4_distance_2 : List UInt8 := [16, 8, 27, 104, 28, 96, 46, 167, 0, 4, 2, 172]
abbrev dktX4_distance_2 : List UInt8 := dkwX4_distance_2 ++ []
def dkwX4_distance_1 : List UInt8 := [182, 0, 133, 42, 180, 0, 22, 16, 8, 27, 104, 28, 96, 46, 18, 132, 162, 0, 17, 42, 180, 0, 22]
abbrev dktX4_distance_1 : List UInt8 := dkwX4_distance_1 ++ dktX4_distance_2
def dkwX4_distance_0 : List UInt8 := [42, 42, 27, 28, 182, 0, 136, 153, 0, 7, 3, 167, 0, 4, 4, 182, 0, 61, 153, 0, 5, 3, 172, 42]
abbrev dktX4_distance_0 : List UInt8 := dkwX4_distance_0 ++ dktX4_distance_1
theorem dksX4_distance_0 : cX4_distance.data.toList.drop 0 = dktX4_distance_0 := by decide +kernel
theorem dksX4_distance_1 : cX4_distance.data.toList.drop 24 = dktX4_distance_1 := dk_seg dksX4_distance_0 24 rfl rfl
theorem dksX4_distance_2 : cX4_distance.data.toList.drop 47 = dktX4_distance_2 := dk_seg dksX4_distance_1 23 rfl rfl
theorem dX4_distance_0 : decode cX4_distance 0 = .ok (.aload_n 0, 1) := dk_42 (dk_at dksX4_distance_0 0 rfl rfl)
theorem dX4_distance_1 : decode cX4_distance 1 = .ok (.aload_n 0, 1) := dk_42 (dk_at dksX4_distance_0 1 rfl rfl)
theorem dX4_distance_2 : decode cX4_distance 2 = .ok (.iload_n 1, 1) := dk_27 (dk_at dksX4_distance_0 2 rfl rfl)
theorem dX4_distance_3 : decode cX4_distance 3 = .ok (.iload_n 2, 1) := dk_28 (dk_at dksX4_distance_0 3 rfl rfl)
theorem dX4_distance_4 : decode cX4_distance 4 = .ok (.invokevirtual 136, 3) := dk_182 0 136 (dk_at dksX4_distance_0 4 rfl rfl)
theorem dX4_distance_7 : decode cX4_distance 7 = .ok (.ifCond .eq 7, 3) := dk_153 0 7 (dk_at dksX4_distance_0 7 rfl rfl)
theorem dX4_distance_10 : decode cX4_distance 10 = .ok (.iconst 0, 1) := dk_3 (dk_at dksX4_distance_0 10 rfl rfl)
theorem dX4_distance_11 : decode cX4_distance 11 = .ok (.goto 4, 3) := dk_167 0 4 (dk_at dksX4_distance_0 11 rfl rfl)
theorem dX4_distance_14 : decode cX4_distance 14 = .ok (.iconst 1, 1) := dk_4 (dk_at dksX4_distance_0 14 rfl rfl)
theorem dX4_distance_15 : decode cX4_distance 15 = .ok (.invokevirtual 61, 3) := dk_182 0 61 (dk_at dksX4_distance_0 15 rfl rfl)
theorem dX4_distance_18 : decode cX4_distance 18 = .ok (.ifCond .eq 5, 3) := dk_153 0 5 (dk_at dksX4_distance_0 18 rfl rfl)
theorem dX4_distance_21 : decode cX4_distance 21 = .ok (.iconst 0, 1) := dk_3 (dk_at dksX4_distance_0 21 rfl rfl)
theorem dX4_distance_22 : decode cX4_distance 22 = .ok (.ireturn, 1) := dk_172 (dk_at dksX4_distance_0 22 rfl rfl)
theorem dX4_distance_23 : decode cX4_distance 23 = .ok (.aload_n 0, 1) := dk_42 (dk_at dksX4_distance_0 23 rfl rfl)
theorem dX4_distance_24 : decode cX4_distance 24 = .ok (.invokevirtual 133, 3) := dk_182 0 133 (dk_at dksX4_distance_1 0 rfl rfl)
theorem dX4_distance_27 : decode cX4_distance 27 = .ok (.aload_n 0, 1) := dk_42 (dk_at dksX4_distance_1 3 rfl rfl)
theorem dX4_distance_28 : decode cX4_distance 28 = .ok (.getfield 22, 3) := dk_180 0 22 (dk_at dksX4_distance_1 4 rfl rfl)
theorem dX4_distance_31 : decode cX4_distance 31 = .ok (.bipush 8, 2) := dk_16 8 (dk_at dksX4_distance_1 7 rfl rfl)
theorem dX4_distance_33 : decode cX4_distance 33 = .ok (.iload_n 1, 1) := dk_27 (dk_at dksX4_distance_1 9 rfl rfl)
theorem dX4_distance_34 : decode cX4_distance 34 = .ok (.imul, 1) := dk_104 (dk_at dksX4_distance_1 10 rfl rfl)
theorem dX4_distance_35 : decode cX4_distance 35 = .ok (.iload_n 2, 1) := dk_28 (dk_at dksX4_distance_1 11 rfl rfl)
theorem dX4_distance_36 : decode cX4_distance 36 = .ok (.iadd, 1) := dk_96 (dk_at dksX4_distance_1 12 rfl rfl)
theorem dX4_distance_37 : decode cX4_distance 37 = .ok (.iaload, 1) := dk_46 (dk_at dksX4_distance_1 13 rfl rfl)
theorem dX4_distance_38 : decode cX4_distance 38 = .ok (.ldc 132, 2) := dk_18 132 (dk_at dksX4_distance_1 14 rfl rfl)
theorem dX4_distance_40 : decode cX4_distance 40 = .ok (.if_icmp .ge 17, 3) := dk_162 0 17 (dk_at dksX4_distance_1 16 rfl rfl)
theorem dX4_distance_43 : decode cX4_distance 43 = .ok (.aload_n 0, 1) := dk_42 (dk_at dksX4_distance_1 19 rfl rfl)
theorem dX4_distance_44 : decode cX4_distance 44 = .ok (.getfield 22, 3) := dk_180 0 22 (dk_at dksX4_distance_1 20 rfl rfl)
theorem dX4_distance_47 : decode cX4_distance 47 = .ok (.bipush 8, 2) := dk_16 8 (dk_at dksX4_distance_2 0 rfl rfl)
theorem dX4_distance_49 : decode cX4_distance 49 = .ok (.iload_n 1, 1) := dk_27 (dk_at dksX4_distance_2 2 rfl rfl)
theorem dX4_distance_50 : decode cX4_distance 50 = .ok (.imul, 1) := dk_104 (dk_at dksX4_distance_2 3 rfl rfl)
theorem dX4_distance_51 : decode cX4_distance 51 = .ok (.iload_n 2, 1) := dk_28 (dk_at dksX4_distance_2 4 rfl rfl)
theorem dX4_distance_52 : decode cX4_distance 52 = .ok (.iadd, 1) := dk_96 (dk_at dksX4_distance_2 5 rfl rfl)
theorem dX4_distance_53 : decode cX4_distance 53 = .ok (.iaload, 1) := dk_46 (dk_at dksX4_distance_2 6 rfl rfl)
theorem dX4_distance_54 : decode cX4_distance 54 = .ok (.goto 4, 3) := dk_167 0 4 (dk_at dksX4_distance_2 7 rfl rfl)
theorem dX4_distance_57 : decode cX4_distance 57 = .ok (.iconst (-1), 1) := dk_2 (dk_at dksX4_distance_2 10 rfl rfl)
theorem dX4_distance_58 : decode cX4_distance 58 = .ok (.ireturn, 1) := dk_172 (dk_at dksX4_distance_2 11 rfl rfl)
abbrev cX4_areNodes : ByteArray := prog_19_method_39_code
def yX4_areNodes : MethodName := ⟨RX4, "areNodes", "(II)Z"⟩
def dkwX4_areNodes_0 : List UInt8 := [42, 27, 182, 0, 83, 153, 0, 15, 42, 28, 182, 0, 83, 153, 0, 7, 4, 167, 0, 4, 3, 172]
abbrev dktX4_areNodes_0 : List UInt8 := dkwX4_areNodes_0 ++ []
theorem dksX4_areNodes_0 : cX4_areNodes.data.toList.drop 0 = dktX4_areNodes_0 := by decide +kernel
theorem dX4_areNodes_0 : decode cX4_areNodes 0 = .ok (.aload_n 0, 1) := dk_42 (dk_at dksX4_areNodes_0 0 rfl rfl)
theorem dX4_areNodes_1 : decode cX4_areNodes 1 = .ok (.iload_n 1, 1) := dk_27 (dk_at dksX4_areNodes_0 1 rfl rfl)
theorem dX4_areNodes_2 : decode cX4_areNodes 2 = .ok (.invokevirtual 83, 3) := dk_182 0 83 (dk_at dksX4_areNodes_0 2 rfl rfl)
theorem dX4_areNodes_5 : decode cX4_areNodes 5 = .ok (.ifCond .eq 15, 3) := dk_153 0 15 (dk_at dksX4_areNodes_0 5 rfl rfl)
theorem dX4_areNodes_8 : decode cX4_areNodes 8 = .ok (.aload_n 0, 1) := dk_42 (dk_at dksX4_areNodes_0 8 rfl rfl)
theorem dX4_areNodes_9 : decode cX4_areNodes 9 = .ok (.iload_n 2, 1) := dk_28 (dk_at dksX4_areNodes_0 9 rfl rfl)
theorem dX4_areNodes_10 : decode cX4_areNodes 10 = .ok (.invokevirtual 83, 3) := dk_182 0 83 (dk_at dksX4_areNodes_0 10 rfl rfl)
theorem dX4_areNodes_13 : decode cX4_areNodes 13 = .ok (.ifCond .eq 7, 3) := dk_153 0 7 (dk_at dksX4_areNodes_0 13 rfl rfl)
theorem dX4_areNodes_16 : decode cX4_areNodes 16 = .ok (.iconst 1, 1) := dk_4 (dk_at dksX4_areNodes_0 16 rfl rfl)
theorem dX4_areNodes_17 : decode cX4_areNodes 17 = .ok (.goto 4, 3) := dk_167 0 4 (dk_at dksX4_areNodes_0 17 rfl rfl)
theorem dX4_areNodes_20 : decode cX4_areNodes 20 = .ok (.iconst 0, 1) := dk_3 (dk_at dksX4_areNodes_0 20 rfl rfl)
theorem dX4_areNodes_21 : decode cX4_areNodes 21 = .ok (.ireturn, 1) := dk_172 (dk_at dksX4_areNodes_0 21 rfl rfl)
abbrev cX4_next : ByteArray := prog_19_method_41_code
def yX4_next : MethodName := ⟨RX4, "next", "(II)I"⟩
def dkwX4_next_7 : List UInt8 := [167, 255, 124, 29, 172]
abbrev dktX4_next_7 : List UInt8 := dkwX4_next_7 ++ []
def dkwX4_next_6 : List UInt8 := [28, 96, 46, 160, 0, 17, 29, 2, 159, 0, 9, 21, 5, 29, 162, 0, 6, 21, 5, 62, 132, 4, 1]
abbrev dktX4_next_6 : List UInt8 := dkwX4_next_6 ++ dktX4_next_7
def dkwX4_next_5 : List UInt8 := [182, 0, 79, 42, 180, 0, 22, 16, 8, 21, 5, 104, 28, 96, 46, 96, 42, 180, 0, 22, 16, 8, 27, 104]
abbrev dktX4_next_5 : List UInt8 := dkwX4_next_5 ++ dktX4_next_6
def dkwX4_next_4 : List UInt8 := [42, 21, 4, 3, 182, 0, 79, 167, 0, 4, 2, 54, 5, 21, 5, 2, 159, 0, 51, 42, 21, 4, 5]
abbrev dktX4_next_4 : List UInt8 := dkwX4_next_4 ++ dktX4_next_5
def dkwX4_next_3 : List UInt8 := [160, 0, 13, 42, 21, 4, 4, 182, 0, 79, 167, 0, 25, 42, 21, 4, 4, 182, 0, 79, 27, 160, 0, 13]
abbrev dktX4_next_3 : List UInt8 := dkwX4_next_3 ++ dktX4_next_4
def dkwX4_next_2 : List UInt8 := [180, 0, 22, 16, 8, 27, 104, 28, 96, 46, 18, 132, 162, 0, 108, 42, 21, 4, 3, 182, 0, 79, 27]
abbrev dktX4_next_2 : List UInt8 := dkwX4_next_2 ++ dktX4_next_3
def dkwX4_next_1 : List UInt8 := [182, 0, 133, 2, 62, 3, 54, 4, 21, 4, 42, 182, 0, 73, 162, 0, 129, 27, 28, 159, 0, 124, 42]
abbrev dktX4_next_1 : List UInt8 := dkwX4_next_1 ++ dktX4_next_2
def dkwX4_next_0 : List UInt8 := [42, 42, 27, 28, 182, 0, 136, 153, 0, 7, 3, 167, 0, 4, 4, 182, 0, 61, 153, 0, 5, 3, 172, 42]
abbrev dktX4_next_0 : List UInt8 := dkwX4_next_0 ++ dktX4_next_1
theorem dksX4_next_0 : cX4_next.data.toList.drop 0 = dktX4_next_0 := by decide +kernel
theorem dksX4_next_1 : cX4_next.data.toList.drop 24 = dktX4_next_1 := dk_seg dksX4_next_0 24 rfl rfl
theorem dksX4_next_2 : cX4_next.data.toList.drop 47 = dktX4_next_2 := dk_seg dksX4_next_1 23 rfl rfl
theorem dksX4_next_3 : cX4_next.data.toList.drop 70 = dktX4_next_3 := dk_seg dksX4_next_2 23 rfl rfl
theorem dksX4_next_4 : cX4_next.data.toList.drop 94 = dktX4_next_4 := dk_seg dksX4_next_3 24 rfl rfl
theorem dksX4_next_5 : cX4_next.data.toList.drop 117 = dktX4_next_5 := dk_seg dksX4_next_4 23 rfl rfl
theorem dksX4_next_6 : cX4_next.data.toList.drop 141 = dktX4_next_6 := dk_seg dksX4_next_5 24 rfl rfl
theorem dksX4_next_7 : cX4_next.data.toList.drop 164 = dktX4_next_7 := dk_seg dksX4_next_6 23 rfl rfl
theorem dX4_next_0 : decode cX4_next 0 = .ok (.aload_n 0, 1) := dk_42 (dk_at dksX4_next_0 0 rfl rfl)
theorem dX4_next_1 : decode cX4_next 1 = .ok (.aload_n 0, 1) := dk_42 (dk_at dksX4_next_0 1 rfl rfl)
theorem dX4_next_2 : decode cX4_next 2 = .ok (.iload_n 1, 1) := dk_27 (dk_at dksX4_next_0 2 rfl rfl)
theorem dX4_next_3 : decode cX4_next 3 = .ok (.iload_n 2, 1) := dk_28 (dk_at dksX4_next_0 3 rfl rfl)
theorem dX4_next_4 : decode cX4_next 4 = .ok (.invokevirtual 136, 3) := dk_182 0 136 (dk_at dksX4_next_0 4 rfl rfl)
theorem dX4_next_7 : decode cX4_next 7 = .ok (.ifCond .eq 7, 3) := dk_153 0 7 (dk_at dksX4_next_0 7 rfl rfl)
theorem dX4_next_10 : decode cX4_next 10 = .ok (.iconst 0, 1) := dk_3 (dk_at dksX4_next_0 10 rfl rfl)
theorem dX4_next_11 : decode cX4_next 11 = .ok (.goto 4, 3) := dk_167 0 4 (dk_at dksX4_next_0 11 rfl rfl)
theorem dX4_next_14 : decode cX4_next 14 = .ok (.iconst 1, 1) := dk_4 (dk_at dksX4_next_0 14 rfl rfl)
theorem dX4_next_15 : decode cX4_next 15 = .ok (.invokevirtual 61, 3) := dk_182 0 61 (dk_at dksX4_next_0 15 rfl rfl)
theorem dX4_next_18 : decode cX4_next 18 = .ok (.ifCond .eq 5, 3) := dk_153 0 5 (dk_at dksX4_next_0 18 rfl rfl)
theorem dX4_next_21 : decode cX4_next 21 = .ok (.iconst 0, 1) := dk_3 (dk_at dksX4_next_0 21 rfl rfl)
theorem dX4_next_22 : decode cX4_next 22 = .ok (.ireturn, 1) := dk_172 (dk_at dksX4_next_0 22 rfl rfl)
theorem dX4_next_23 : decode cX4_next 23 = .ok (.aload_n 0, 1) := dk_42 (dk_at dksX4_next_0 23 rfl rfl)
theorem dX4_next_24 : decode cX4_next 24 = .ok (.invokevirtual 133, 3) := dk_182 0 133 (dk_at dksX4_next_1 0 rfl rfl)
theorem dX4_next_27 : decode cX4_next 27 = .ok (.iconst (-1), 1) := dk_2 (dk_at dksX4_next_1 3 rfl rfl)
theorem dX4_next_28 : decode cX4_next 28 = .ok (.istore_n 3, 1) := dk_62 (dk_at dksX4_next_1 4 rfl rfl)
theorem dX4_next_29 : decode cX4_next 29 = .ok (.iconst 0, 1) := dk_3 (dk_at dksX4_next_1 5 rfl rfl)
theorem dX4_next_30 : decode cX4_next 30 = .ok (.istore 4, 2) := dk_54 4 (dk_at dksX4_next_1 6 rfl rfl)
theorem dX4_next_32 : decode cX4_next 32 = .ok (.iload 4, 2) := dk_21 4 (dk_at dksX4_next_1 8 rfl rfl)
theorem dX4_next_34 : decode cX4_next 34 = .ok (.aload_n 0, 1) := dk_42 (dk_at dksX4_next_1 10 rfl rfl)
theorem dX4_next_35 : decode cX4_next 35 = .ok (.invokevirtual 73, 3) := dk_182 0 73 (dk_at dksX4_next_1 11 rfl rfl)
theorem dX4_next_38 : decode cX4_next 38 = .ok (.if_icmp .ge 129, 3) := dk_162 0 129 (dk_at dksX4_next_1 14 rfl rfl)
theorem dX4_next_41 : decode cX4_next 41 = .ok (.iload_n 1, 1) := dk_27 (dk_at dksX4_next_1 17 rfl rfl)
theorem dX4_next_42 : decode cX4_next 42 = .ok (.iload_n 2, 1) := dk_28 (dk_at dksX4_next_1 18 rfl rfl)
theorem dX4_next_43 : decode cX4_next 43 = .ok (.if_icmp .eq 124, 3) := dk_159 0 124 (dk_at dksX4_next_1 19 rfl rfl)
theorem dX4_next_46 : decode cX4_next 46 = .ok (.aload_n 0, 1) := dk_42 (dk_at dksX4_next_1 22 rfl rfl)
theorem dX4_next_47 : decode cX4_next 47 = .ok (.getfield 22, 3) := dk_180 0 22 (dk_at dksX4_next_2 0 rfl rfl)
theorem dX4_next_50 : decode cX4_next 50 = .ok (.bipush 8, 2) := dk_16 8 (dk_at dksX4_next_2 3 rfl rfl)
theorem dX4_next_52 : decode cX4_next 52 = .ok (.iload_n 1, 1) := dk_27 (dk_at dksX4_next_2 5 rfl rfl)
theorem dX4_next_53 : decode cX4_next 53 = .ok (.imul, 1) := dk_104 (dk_at dksX4_next_2 6 rfl rfl)
theorem dX4_next_54 : decode cX4_next 54 = .ok (.iload_n 2, 1) := dk_28 (dk_at dksX4_next_2 7 rfl rfl)
theorem dX4_next_55 : decode cX4_next 55 = .ok (.iadd, 1) := dk_96 (dk_at dksX4_next_2 8 rfl rfl)
theorem dX4_next_56 : decode cX4_next 56 = .ok (.iaload, 1) := dk_46 (dk_at dksX4_next_2 9 rfl rfl)
theorem dX4_next_57 : decode cX4_next 57 = .ok (.ldc 132, 2) := dk_18 132 (dk_at dksX4_next_2 10 rfl rfl)
theorem dX4_next_59 : decode cX4_next 59 = .ok (.if_icmp .ge 108, 3) := dk_162 0 108 (dk_at dksX4_next_2 12 rfl rfl)
theorem dX4_next_62 : decode cX4_next 62 = .ok (.aload_n 0, 1) := dk_42 (dk_at dksX4_next_2 15 rfl rfl)
theorem dX4_next_63 : decode cX4_next 63 = .ok (.iload 4, 2) := dk_21 4 (dk_at dksX4_next_2 16 rfl rfl)
theorem dX4_next_65 : decode cX4_next 65 = .ok (.iconst 0, 1) := dk_3 (dk_at dksX4_next_2 18 rfl rfl)
theorem dX4_next_66 : decode cX4_next 66 = .ok (.invokevirtual 79, 3) := dk_182 0 79 (dk_at dksX4_next_2 19 rfl rfl)
theorem dX4_next_69 : decode cX4_next 69 = .ok (.iload_n 1, 1) := dk_27 (dk_at dksX4_next_2 22 rfl rfl)
theorem dX4_next_70 : decode cX4_next 70 = .ok (.if_icmp .ne 13, 3) := dk_160 0 13 (dk_at dksX4_next_3 0 rfl rfl)
theorem dX4_next_73 : decode cX4_next 73 = .ok (.aload_n 0, 1) := dk_42 (dk_at dksX4_next_3 3 rfl rfl)
theorem dX4_next_74 : decode cX4_next 74 = .ok (.iload 4, 2) := dk_21 4 (dk_at dksX4_next_3 4 rfl rfl)
theorem dX4_next_76 : decode cX4_next 76 = .ok (.iconst 1, 1) := dk_4 (dk_at dksX4_next_3 6 rfl rfl)
theorem dX4_next_77 : decode cX4_next 77 = .ok (.invokevirtual 79, 3) := dk_182 0 79 (dk_at dksX4_next_3 7 rfl rfl)
theorem dX4_next_80 : decode cX4_next 80 = .ok (.goto 25, 3) := dk_167 0 25 (dk_at dksX4_next_3 10 rfl rfl)
theorem dX4_next_83 : decode cX4_next 83 = .ok (.aload_n 0, 1) := dk_42 (dk_at dksX4_next_3 13 rfl rfl)
theorem dX4_next_84 : decode cX4_next 84 = .ok (.iload 4, 2) := dk_21 4 (dk_at dksX4_next_3 14 rfl rfl)
theorem dX4_next_86 : decode cX4_next 86 = .ok (.iconst 1, 1) := dk_4 (dk_at dksX4_next_3 16 rfl rfl)
theorem dX4_next_87 : decode cX4_next 87 = .ok (.invokevirtual 79, 3) := dk_182 0 79 (dk_at dksX4_next_3 17 rfl rfl)
theorem dX4_next_90 : decode cX4_next 90 = .ok (.iload_n 1, 1) := dk_27 (dk_at dksX4_next_3 20 rfl rfl)
theorem dX4_next_91 : decode cX4_next 91 = .ok (.if_icmp .ne 13, 3) := dk_160 0 13 (dk_at dksX4_next_3 21 rfl rfl)
theorem dX4_next_94 : decode cX4_next 94 = .ok (.aload_n 0, 1) := dk_42 (dk_at dksX4_next_4 0 rfl rfl)
theorem dX4_next_95 : decode cX4_next 95 = .ok (.iload 4, 2) := dk_21 4 (dk_at dksX4_next_4 1 rfl rfl)
theorem dX4_next_97 : decode cX4_next 97 = .ok (.iconst 0, 1) := dk_3 (dk_at dksX4_next_4 3 rfl rfl)
theorem dX4_next_98 : decode cX4_next 98 = .ok (.invokevirtual 79, 3) := dk_182 0 79 (dk_at dksX4_next_4 4 rfl rfl)
theorem dX4_next_101 : decode cX4_next 101 = .ok (.goto 4, 3) := dk_167 0 4 (dk_at dksX4_next_4 7 rfl rfl)
theorem dX4_next_104 : decode cX4_next 104 = .ok (.iconst (-1), 1) := dk_2 (dk_at dksX4_next_4 10 rfl rfl)
theorem dX4_next_105 : decode cX4_next 105 = .ok (.istore 5, 2) := dk_54 5 (dk_at dksX4_next_4 11 rfl rfl)
theorem dX4_next_107 : decode cX4_next 107 = .ok (.iload 5, 2) := dk_21 5 (dk_at dksX4_next_4 13 rfl rfl)
theorem dX4_next_109 : decode cX4_next 109 = .ok (.iconst (-1), 1) := dk_2 (dk_at dksX4_next_4 15 rfl rfl)
theorem dX4_next_110 : decode cX4_next 110 = .ok (.if_icmp .eq 51, 3) := dk_159 0 51 (dk_at dksX4_next_4 16 rfl rfl)
theorem dX4_next_113 : decode cX4_next 113 = .ok (.aload_n 0, 1) := dk_42 (dk_at dksX4_next_4 19 rfl rfl)
theorem dX4_next_114 : decode cX4_next 114 = .ok (.iload 4, 2) := dk_21 4 (dk_at dksX4_next_4 20 rfl rfl)
theorem dX4_next_116 : decode cX4_next 116 = .ok (.iconst 2, 1) := dk_5 (dk_at dksX4_next_4 22 rfl rfl)
theorem dX4_next_117 : decode cX4_next 117 = .ok (.invokevirtual 79, 3) := dk_182 0 79 (dk_at dksX4_next_5 0 rfl rfl)
theorem dX4_next_120 : decode cX4_next 120 = .ok (.aload_n 0, 1) := dk_42 (dk_at dksX4_next_5 3 rfl rfl)
theorem dX4_next_121 : decode cX4_next 121 = .ok (.getfield 22, 3) := dk_180 0 22 (dk_at dksX4_next_5 4 rfl rfl)
theorem dX4_next_124 : decode cX4_next 124 = .ok (.bipush 8, 2) := dk_16 8 (dk_at dksX4_next_5 7 rfl rfl)
theorem dX4_next_126 : decode cX4_next 126 = .ok (.iload 5, 2) := dk_21 5 (dk_at dksX4_next_5 9 rfl rfl)
theorem dX4_next_128 : decode cX4_next 128 = .ok (.imul, 1) := dk_104 (dk_at dksX4_next_5 11 rfl rfl)
theorem dX4_next_129 : decode cX4_next 129 = .ok (.iload_n 2, 1) := dk_28 (dk_at dksX4_next_5 12 rfl rfl)
theorem dX4_next_130 : decode cX4_next 130 = .ok (.iadd, 1) := dk_96 (dk_at dksX4_next_5 13 rfl rfl)
theorem dX4_next_131 : decode cX4_next 131 = .ok (.iaload, 1) := dk_46 (dk_at dksX4_next_5 14 rfl rfl)
theorem dX4_next_132 : decode cX4_next 132 = .ok (.iadd, 1) := dk_96 (dk_at dksX4_next_5 15 rfl rfl)
theorem dX4_next_133 : decode cX4_next 133 = .ok (.aload_n 0, 1) := dk_42 (dk_at dksX4_next_5 16 rfl rfl)
theorem dX4_next_134 : decode cX4_next 134 = .ok (.getfield 22, 3) := dk_180 0 22 (dk_at dksX4_next_5 17 rfl rfl)
theorem dX4_next_137 : decode cX4_next 137 = .ok (.bipush 8, 2) := dk_16 8 (dk_at dksX4_next_5 20 rfl rfl)
theorem dX4_next_139 : decode cX4_next 139 = .ok (.iload_n 1, 1) := dk_27 (dk_at dksX4_next_5 22 rfl rfl)
theorem dX4_next_140 : decode cX4_next 140 = .ok (.imul, 1) := dk_104 (dk_at dksX4_next_5 23 rfl rfl)
theorem dX4_next_141 : decode cX4_next 141 = .ok (.iload_n 2, 1) := dk_28 (dk_at dksX4_next_6 0 rfl rfl)
theorem dX4_next_142 : decode cX4_next 142 = .ok (.iadd, 1) := dk_96 (dk_at dksX4_next_6 1 rfl rfl)
theorem dX4_next_143 : decode cX4_next 143 = .ok (.iaload, 1) := dk_46 (dk_at dksX4_next_6 2 rfl rfl)
theorem dX4_next_144 : decode cX4_next 144 = .ok (.if_icmp .ne 17, 3) := dk_160 0 17 (dk_at dksX4_next_6 3 rfl rfl)
theorem dX4_next_147 : decode cX4_next 147 = .ok (.iload_n 3, 1) := dk_29 (dk_at dksX4_next_6 6 rfl rfl)
theorem dX4_next_148 : decode cX4_next 148 = .ok (.iconst (-1), 1) := dk_2 (dk_at dksX4_next_6 7 rfl rfl)
theorem dX4_next_149 : decode cX4_next 149 = .ok (.if_icmp .eq 9, 3) := dk_159 0 9 (dk_at dksX4_next_6 8 rfl rfl)
theorem dX4_next_152 : decode cX4_next 152 = .ok (.iload 5, 2) := dk_21 5 (dk_at dksX4_next_6 11 rfl rfl)
theorem dX4_next_154 : decode cX4_next 154 = .ok (.iload_n 3, 1) := dk_29 (dk_at dksX4_next_6 13 rfl rfl)
theorem dX4_next_155 : decode cX4_next 155 = .ok (.if_icmp .ge 6, 3) := dk_162 0 6 (dk_at dksX4_next_6 14 rfl rfl)
theorem dX4_next_158 : decode cX4_next 158 = .ok (.iload 5, 2) := dk_21 5 (dk_at dksX4_next_6 17 rfl rfl)
theorem dX4_next_160 : decode cX4_next 160 = .ok (.istore_n 3, 1) := dk_62 (dk_at dksX4_next_6 19 rfl rfl)
theorem dX4_next_161 : decode cX4_next 161 = .ok (.iinc 4 1, 3) := dk_132 4 1 (dk_at dksX4_next_6 20 rfl rfl)
theorem dX4_next_164 : decode cX4_next 164 = .ok (.goto (-132), 3) := dk_167 255 124 (dk_at dksX4_next_7 0 rfl rfl)
theorem dX4_next_167 : decode cX4_next 167 = .ok (.iload_n 3, 1) := dk_29 (dk_at dksX4_next_7 3 rfl rfl)
theorem dX4_next_168 : decode cX4_next 168 = .ok (.ireturn, 1) := dk_172 (dk_at dksX4_next_7 4 rfl rfl)
abbrev cX4_diameter : ByteArray := prog_19_method_42_code
def yX4_diameter : MethodName := ⟨RX4, "diameter", "()I"⟩
def dkwX4_diameter_3 : List UInt8 := [167, 255, 214, 132, 2, 1, 167, 255, 198, 27, 172]
abbrev dktX4_diameter_3 : List UInt8 := dkwX4_diameter_3 ++ []
def dkwX4_diameter_2 : List UInt8 := [27, 164, 0, 17, 42, 180, 0, 22, 16, 8, 28, 104, 29, 96, 46, 167, 0, 4, 27, 60, 132, 3, 1]
abbrev dktX4_diameter_2 : List UInt8 := dkwX4_diameter_2 ++ dktX4_diameter_3
def dkwX4_diameter_1 : List UInt8 := [162, 0, 56, 3, 62, 29, 42, 182, 0, 65, 162, 0, 40, 42, 180, 0, 22, 16, 8, 28, 104, 29, 96, 46]
abbrev dktX4_diameter_1 : List UInt8 := dkwX4_diameter_1 ++ dktX4_diameter_2
def dkwX4_diameter_0 : List UInt8 := [42, 3, 181, 0, 54, 42, 182, 0, 122, 154, 0, 5, 2, 172, 3, 60, 3, 61, 28, 42, 182, 0, 65]
abbrev dktX4_diameter_0 : List UInt8 := dkwX4_diameter_0 ++ dktX4_diameter_1
theorem dksX4_diameter_0 : cX4_diameter.data.toList.drop 0 = dktX4_diameter_0 := by decide +kernel
theorem dksX4_diameter_1 : cX4_diameter.data.toList.drop 23 = dktX4_diameter_1 := dk_seg dksX4_diameter_0 23 rfl rfl
theorem dksX4_diameter_2 : cX4_diameter.data.toList.drop 47 = dktX4_diameter_2 := dk_seg dksX4_diameter_1 24 rfl rfl
theorem dksX4_diameter_3 : cX4_diameter.data.toList.drop 70 = dktX4_diameter_3 := dk_seg dksX4_diameter_2 23 rfl rfl
theorem dX4_diameter_0 : decode cX4_diameter 0 = .ok (.aload_n 0, 1) := dk_42 (dk_at dksX4_diameter_0 0 rfl rfl)
theorem dX4_diameter_1 : decode cX4_diameter 1 = .ok (.iconst 0, 1) := dk_3 (dk_at dksX4_diameter_0 1 rfl rfl)
theorem dX4_diameter_2 : decode cX4_diameter 2 = .ok (.putfield 54, 3) := dk_181 0 54 (dk_at dksX4_diameter_0 2 rfl rfl)
theorem dX4_diameter_5 : decode cX4_diameter 5 = .ok (.aload_n 0, 1) := dk_42 (dk_at dksX4_diameter_0 5 rfl rfl)
theorem dX4_diameter_6 : decode cX4_diameter 6 = .ok (.invokevirtual 122, 3) := dk_182 0 122 (dk_at dksX4_diameter_0 6 rfl rfl)
theorem dX4_diameter_9 : decode cX4_diameter 9 = .ok (.ifCond .ne 5, 3) := dk_154 0 5 (dk_at dksX4_diameter_0 9 rfl rfl)
theorem dX4_diameter_12 : decode cX4_diameter 12 = .ok (.iconst (-1), 1) := dk_2 (dk_at dksX4_diameter_0 12 rfl rfl)
theorem dX4_diameter_13 : decode cX4_diameter 13 = .ok (.ireturn, 1) := dk_172 (dk_at dksX4_diameter_0 13 rfl rfl)
theorem dX4_diameter_14 : decode cX4_diameter 14 = .ok (.iconst 0, 1) := dk_3 (dk_at dksX4_diameter_0 14 rfl rfl)
theorem dX4_diameter_15 : decode cX4_diameter 15 = .ok (.istore_n 1, 1) := dk_60 (dk_at dksX4_diameter_0 15 rfl rfl)
theorem dX4_diameter_16 : decode cX4_diameter 16 = .ok (.iconst 0, 1) := dk_3 (dk_at dksX4_diameter_0 16 rfl rfl)
theorem dX4_diameter_17 : decode cX4_diameter 17 = .ok (.istore_n 2, 1) := dk_61 (dk_at dksX4_diameter_0 17 rfl rfl)
theorem dX4_diameter_18 : decode cX4_diameter 18 = .ok (.iload_n 2, 1) := dk_28 (dk_at dksX4_diameter_0 18 rfl rfl)
theorem dX4_diameter_19 : decode cX4_diameter 19 = .ok (.aload_n 0, 1) := dk_42 (dk_at dksX4_diameter_0 19 rfl rfl)
theorem dX4_diameter_20 : decode cX4_diameter 20 = .ok (.invokevirtual 65, 3) := dk_182 0 65 (dk_at dksX4_diameter_0 20 rfl rfl)
theorem dX4_diameter_23 : decode cX4_diameter 23 = .ok (.if_icmp .ge 56, 3) := dk_162 0 56 (dk_at dksX4_diameter_1 0 rfl rfl)
theorem dX4_diameter_26 : decode cX4_diameter 26 = .ok (.iconst 0, 1) := dk_3 (dk_at dksX4_diameter_1 3 rfl rfl)
theorem dX4_diameter_27 : decode cX4_diameter 27 = .ok (.istore_n 3, 1) := dk_62 (dk_at dksX4_diameter_1 4 rfl rfl)
theorem dX4_diameter_28 : decode cX4_diameter 28 = .ok (.iload_n 3, 1) := dk_29 (dk_at dksX4_diameter_1 5 rfl rfl)
theorem dX4_diameter_29 : decode cX4_diameter 29 = .ok (.aload_n 0, 1) := dk_42 (dk_at dksX4_diameter_1 6 rfl rfl)
theorem dX4_diameter_30 : decode cX4_diameter 30 = .ok (.invokevirtual 65, 3) := dk_182 0 65 (dk_at dksX4_diameter_1 7 rfl rfl)
theorem dX4_diameter_33 : decode cX4_diameter 33 = .ok (.if_icmp .ge 40, 3) := dk_162 0 40 (dk_at dksX4_diameter_1 10 rfl rfl)
theorem dX4_diameter_36 : decode cX4_diameter 36 = .ok (.aload_n 0, 1) := dk_42 (dk_at dksX4_diameter_1 13 rfl rfl)
theorem dX4_diameter_37 : decode cX4_diameter 37 = .ok (.getfield 22, 3) := dk_180 0 22 (dk_at dksX4_diameter_1 14 rfl rfl)
theorem dX4_diameter_40 : decode cX4_diameter 40 = .ok (.bipush 8, 2) := dk_16 8 (dk_at dksX4_diameter_1 17 rfl rfl)
theorem dX4_diameter_42 : decode cX4_diameter 42 = .ok (.iload_n 2, 1) := dk_28 (dk_at dksX4_diameter_1 19 rfl rfl)
theorem dX4_diameter_43 : decode cX4_diameter 43 = .ok (.imul, 1) := dk_104 (dk_at dksX4_diameter_1 20 rfl rfl)
theorem dX4_diameter_44 : decode cX4_diameter 44 = .ok (.iload_n 3, 1) := dk_29 (dk_at dksX4_diameter_1 21 rfl rfl)
theorem dX4_diameter_45 : decode cX4_diameter 45 = .ok (.iadd, 1) := dk_96 (dk_at dksX4_diameter_1 22 rfl rfl)
theorem dX4_diameter_46 : decode cX4_diameter 46 = .ok (.iaload, 1) := dk_46 (dk_at dksX4_diameter_1 23 rfl rfl)
theorem dX4_diameter_47 : decode cX4_diameter 47 = .ok (.iload_n 1, 1) := dk_27 (dk_at dksX4_diameter_2 0 rfl rfl)
theorem dX4_diameter_48 : decode cX4_diameter 48 = .ok (.if_icmp .le 17, 3) := dk_164 0 17 (dk_at dksX4_diameter_2 1 rfl rfl)
theorem dX4_diameter_51 : decode cX4_diameter 51 = .ok (.aload_n 0, 1) := dk_42 (dk_at dksX4_diameter_2 4 rfl rfl)
theorem dX4_diameter_52 : decode cX4_diameter 52 = .ok (.getfield 22, 3) := dk_180 0 22 (dk_at dksX4_diameter_2 5 rfl rfl)
theorem dX4_diameter_55 : decode cX4_diameter 55 = .ok (.bipush 8, 2) := dk_16 8 (dk_at dksX4_diameter_2 8 rfl rfl)
theorem dX4_diameter_57 : decode cX4_diameter 57 = .ok (.iload_n 2, 1) := dk_28 (dk_at dksX4_diameter_2 10 rfl rfl)
theorem dX4_diameter_58 : decode cX4_diameter 58 = .ok (.imul, 1) := dk_104 (dk_at dksX4_diameter_2 11 rfl rfl)
theorem dX4_diameter_59 : decode cX4_diameter 59 = .ok (.iload_n 3, 1) := dk_29 (dk_at dksX4_diameter_2 12 rfl rfl)
theorem dX4_diameter_60 : decode cX4_diameter 60 = .ok (.iadd, 1) := dk_96 (dk_at dksX4_diameter_2 13 rfl rfl)
theorem dX4_diameter_61 : decode cX4_diameter 61 = .ok (.iaload, 1) := dk_46 (dk_at dksX4_diameter_2 14 rfl rfl)
theorem dX4_diameter_62 : decode cX4_diameter 62 = .ok (.goto 4, 3) := dk_167 0 4 (dk_at dksX4_diameter_2 15 rfl rfl)
theorem dX4_diameter_65 : decode cX4_diameter 65 = .ok (.iload_n 1, 1) := dk_27 (dk_at dksX4_diameter_2 18 rfl rfl)
theorem dX4_diameter_66 : decode cX4_diameter 66 = .ok (.istore_n 1, 1) := dk_60 (dk_at dksX4_diameter_2 19 rfl rfl)
theorem dX4_diameter_67 : decode cX4_diameter 67 = .ok (.iinc 3 1, 3) := dk_132 3 1 (dk_at dksX4_diameter_2 20 rfl rfl)
theorem dX4_diameter_70 : decode cX4_diameter 70 = .ok (.goto (-42), 3) := dk_167 255 214 (dk_at dksX4_diameter_3 0 rfl rfl)
theorem dX4_diameter_73 : decode cX4_diameter 73 = .ok (.iinc 2 1, 3) := dk_132 2 1 (dk_at dksX4_diameter_3 3 rfl rfl)
theorem dX4_diameter_76 : decode cX4_diameter 76 = .ok (.goto (-58), 3) := dk_167 255 198 (dk_at dksX4_diameter_3 6 rfl rfl)
theorem dX4_diameter_79 : decode cX4_diameter 79 = .ok (.iload_n 1, 1) := dk_27 (dk_at dksX4_diameter_3 9 rfl rfl)
theorem dX4_diameter_80 : decode cX4_diameter 80 = .ok (.ireturn, 1) := dk_172 (dk_at dksX4_diameter_3 10 rfl rfl)
abbrev cX4_distanceTo : ByteArray := prog_19_method_49_code
def yX4_distanceTo : MethodName := ⟨RX4, "distanceTo", "(IIIII)I"⟩
def dkwX4_distanceTo_5 : List UInt8 := [21, 4, 133, 182, 0, 153, 21, 4, 133, 21, 5, 184, 0, 156, 172]
abbrev dktX4_distanceTo_5 : List UInt8 := dkwX4_distanceTo_5 ++ []
def dkwX4_distanceTo_4 : List UInt8 := [46, 18, 132, 161, 0, 7, 6, 167, 0, 4, 3, 182, 0, 61, 153, 0, 5, 3, 172, 42, 27, 28, 29, 133]
abbrev dktX4_distanceTo_4 : List UInt8 := dkwX4_distanceTo_4 ++ dktX4_distanceTo_5
def dkwX4_distanceTo_3 : List UInt8 := [21, 7, 154, 0, 7, 5, 167, 0, 29, 42, 180, 0, 22, 16, 8, 27, 104, 42, 28, 3, 182, 0, 79, 96]
abbrev dktX4_distanceTo_3 : List UInt8 := dkwX4_distanceTo_3 ++ dktX4_distanceTo_4
def dkwX4_distanceTo_2 : List UInt8 := [153, 0, 7, 4, 167, 0, 4, 3, 54, 7, 42, 182, 0, 133, 42, 21, 6, 154, 0, 7, 4, 167, 0, 38]
abbrev dktX4_distanceTo_2 : List UInt8 := dkwX4_distanceTo_2 ++ dktX4_distanceTo_3
def dkwX4_distanceTo_1 : List UInt8 := [21, 6, 153, 0, 28, 42, 28, 29, 21, 4, 182, 0, 150, 153, 0, 17, 21, 5, 3, 4, 184, 0, 69]
abbrev dktX4_distanceTo_1 : List UInt8 := dkwX4_distanceTo_1 ++ dktX4_distanceTo_2
def dkwX4_distanceTo_0 : List UInt8 := [42, 27, 182, 0, 83, 153, 0, 15, 42, 28, 182, 0, 106, 153, 0, 7, 4, 167, 0, 4, 3, 54, 6]
abbrev dktX4_distanceTo_0 : List UInt8 := dkwX4_distanceTo_0 ++ dktX4_distanceTo_1
theorem dksX4_distanceTo_0 : cX4_distanceTo.data.toList.drop 0 = dktX4_distanceTo_0 := by decide +kernel
theorem dksX4_distanceTo_1 : cX4_distanceTo.data.toList.drop 23 = dktX4_distanceTo_1 := dk_seg dksX4_distanceTo_0 23 rfl rfl
theorem dksX4_distanceTo_2 : cX4_distanceTo.data.toList.drop 46 = dktX4_distanceTo_2 := dk_seg dksX4_distanceTo_1 23 rfl rfl
theorem dksX4_distanceTo_3 : cX4_distanceTo.data.toList.drop 70 = dktX4_distanceTo_3 := dk_seg dksX4_distanceTo_2 24 rfl rfl
theorem dksX4_distanceTo_4 : cX4_distanceTo.data.toList.drop 94 = dktX4_distanceTo_4 := dk_seg dksX4_distanceTo_3 24 rfl rfl
theorem dksX4_distanceTo_5 : cX4_distanceTo.data.toList.drop 118 = dktX4_distanceTo_5 := dk_seg dksX4_distanceTo_4 24 rfl rfl
theorem dX4_distanceTo_0 : decode cX4_distanceTo 0 = .ok (.aload_n 0, 1) := dk_42 (dk_at dksX4_distanceTo_0 0 rfl rfl)
theorem dX4_distanceTo_1 : decode cX4_distanceTo 1 = .ok (.iload_n 1, 1) := dk_27 (dk_at dksX4_distanceTo_0 1 rfl rfl)
theorem dX4_distanceTo_2 : decode cX4_distanceTo 2 = .ok (.invokevirtual 83, 3) := dk_182 0 83 (dk_at dksX4_distanceTo_0 2 rfl rfl)
theorem dX4_distanceTo_5 : decode cX4_distanceTo 5 = .ok (.ifCond .eq 15, 3) := dk_153 0 15 (dk_at dksX4_distanceTo_0 5 rfl rfl)
theorem dX4_distanceTo_8 : decode cX4_distanceTo 8 = .ok (.aload_n 0, 1) := dk_42 (dk_at dksX4_distanceTo_0 8 rfl rfl)
theorem dX4_distanceTo_9 : decode cX4_distanceTo 9 = .ok (.iload_n 2, 1) := dk_28 (dk_at dksX4_distanceTo_0 9 rfl rfl)
theorem dX4_distanceTo_10 : decode cX4_distanceTo 10 = .ok (.invokevirtual 106, 3) := dk_182 0 106 (dk_at dksX4_distanceTo_0 10 rfl rfl)
theorem dX4_distanceTo_13 : decode cX4_distanceTo 13 = .ok (.ifCond .eq 7, 3) := dk_153 0 7 (dk_at dksX4_distanceTo_0 13 rfl rfl)
theorem dX4_distanceTo_16 : decode cX4_distanceTo 16 = .ok (.iconst 1, 1) := dk_4 (dk_at dksX4_distanceTo_0 16 rfl rfl)
theorem dX4_distanceTo_17 : decode cX4_distanceTo 17 = .ok (.goto 4, 3) := dk_167 0 4 (dk_at dksX4_distanceTo_0 17 rfl rfl)
theorem dX4_distanceTo_20 : decode cX4_distanceTo 20 = .ok (.iconst 0, 1) := dk_3 (dk_at dksX4_distanceTo_0 20 rfl rfl)
theorem dX4_distanceTo_21 : decode cX4_distanceTo 21 = .ok (.istore 6, 2) := dk_54 6 (dk_at dksX4_distanceTo_0 21 rfl rfl)
theorem dX4_distanceTo_23 : decode cX4_distanceTo 23 = .ok (.iload 6, 2) := dk_21 6 (dk_at dksX4_distanceTo_1 0 rfl rfl)
theorem dX4_distanceTo_25 : decode cX4_distanceTo 25 = .ok (.ifCond .eq 28, 3) := dk_153 0 28 (dk_at dksX4_distanceTo_1 2 rfl rfl)
theorem dX4_distanceTo_28 : decode cX4_distanceTo 28 = .ok (.aload_n 0, 1) := dk_42 (dk_at dksX4_distanceTo_1 5 rfl rfl)
theorem dX4_distanceTo_29 : decode cX4_distanceTo 29 = .ok (.iload_n 2, 1) := dk_28 (dk_at dksX4_distanceTo_1 6 rfl rfl)
theorem dX4_distanceTo_30 : decode cX4_distanceTo 30 = .ok (.iload_n 3, 1) := dk_29 (dk_at dksX4_distanceTo_1 7 rfl rfl)
theorem dX4_distanceTo_31 : decode cX4_distanceTo 31 = .ok (.iload 4, 2) := dk_21 4 (dk_at dksX4_distanceTo_1 8 rfl rfl)
theorem dX4_distanceTo_33 : decode cX4_distanceTo 33 = .ok (.invokevirtual 150, 3) := dk_182 0 150 (dk_at dksX4_distanceTo_1 10 rfl rfl)
theorem dX4_distanceTo_36 : decode cX4_distanceTo 36 = .ok (.ifCond .eq 17, 3) := dk_153 0 17 (dk_at dksX4_distanceTo_1 13 rfl rfl)
theorem dX4_distanceTo_39 : decode cX4_distanceTo 39 = .ok (.iload 5, 2) := dk_21 5 (dk_at dksX4_distanceTo_1 16 rfl rfl)
theorem dX4_distanceTo_41 : decode cX4_distanceTo 41 = .ok (.iconst 0, 1) := dk_3 (dk_at dksX4_distanceTo_1 18 rfl rfl)
theorem dX4_distanceTo_42 : decode cX4_distanceTo 42 = .ok (.iconst 1, 1) := dk_4 (dk_at dksX4_distanceTo_1 19 rfl rfl)
theorem dX4_distanceTo_43 : decode cX4_distanceTo 43 = .ok (.invokestatic 69, 3) := dk_184 0 69 (dk_at dksX4_distanceTo_1 20 rfl rfl)
theorem dX4_distanceTo_46 : decode cX4_distanceTo 46 = .ok (.ifCond .eq 7, 3) := dk_153 0 7 (dk_at dksX4_distanceTo_2 0 rfl rfl)
theorem dX4_distanceTo_49 : decode cX4_distanceTo 49 = .ok (.iconst 1, 1) := dk_4 (dk_at dksX4_distanceTo_2 3 rfl rfl)
theorem dX4_distanceTo_50 : decode cX4_distanceTo 50 = .ok (.goto 4, 3) := dk_167 0 4 (dk_at dksX4_distanceTo_2 4 rfl rfl)
theorem dX4_distanceTo_53 : decode cX4_distanceTo 53 = .ok (.iconst 0, 1) := dk_3 (dk_at dksX4_distanceTo_2 7 rfl rfl)
theorem dX4_distanceTo_54 : decode cX4_distanceTo 54 = .ok (.istore 7, 2) := dk_54 7 (dk_at dksX4_distanceTo_2 8 rfl rfl)
theorem dX4_distanceTo_56 : decode cX4_distanceTo 56 = .ok (.aload_n 0, 1) := dk_42 (dk_at dksX4_distanceTo_2 10 rfl rfl)
theorem dX4_distanceTo_57 : decode cX4_distanceTo 57 = .ok (.invokevirtual 133, 3) := dk_182 0 133 (dk_at dksX4_distanceTo_2 11 rfl rfl)
theorem dX4_distanceTo_60 : decode cX4_distanceTo 60 = .ok (.aload_n 0, 1) := dk_42 (dk_at dksX4_distanceTo_2 14 rfl rfl)
theorem dX4_distanceTo_61 : decode cX4_distanceTo 61 = .ok (.iload 6, 2) := dk_21 6 (dk_at dksX4_distanceTo_2 15 rfl rfl)
theorem dX4_distanceTo_63 : decode cX4_distanceTo 63 = .ok (.ifCond .ne 7, 3) := dk_154 0 7 (dk_at dksX4_distanceTo_2 17 rfl rfl)
theorem dX4_distanceTo_66 : decode cX4_distanceTo 66 = .ok (.iconst 1, 1) := dk_4 (dk_at dksX4_distanceTo_2 20 rfl rfl)
theorem dX4_distanceTo_67 : decode cX4_distanceTo 67 = .ok (.goto 38, 3) := dk_167 0 38 (dk_at dksX4_distanceTo_2 21 rfl rfl)
theorem dX4_distanceTo_70 : decode cX4_distanceTo 70 = .ok (.iload 7, 2) := dk_21 7 (dk_at dksX4_distanceTo_3 0 rfl rfl)
theorem dX4_distanceTo_72 : decode cX4_distanceTo 72 = .ok (.ifCond .ne 7, 3) := dk_154 0 7 (dk_at dksX4_distanceTo_3 2 rfl rfl)
theorem dX4_distanceTo_75 : decode cX4_distanceTo 75 = .ok (.iconst 2, 1) := dk_5 (dk_at dksX4_distanceTo_3 5 rfl rfl)
theorem dX4_distanceTo_76 : decode cX4_distanceTo 76 = .ok (.goto 29, 3) := dk_167 0 29 (dk_at dksX4_distanceTo_3 6 rfl rfl)
theorem dX4_distanceTo_79 : decode cX4_distanceTo 79 = .ok (.aload_n 0, 1) := dk_42 (dk_at dksX4_distanceTo_3 9 rfl rfl)
theorem dX4_distanceTo_80 : decode cX4_distanceTo 80 = .ok (.getfield 22, 3) := dk_180 0 22 (dk_at dksX4_distanceTo_3 10 rfl rfl)
theorem dX4_distanceTo_83 : decode cX4_distanceTo 83 = .ok (.bipush 8, 2) := dk_16 8 (dk_at dksX4_distanceTo_3 13 rfl rfl)
theorem dX4_distanceTo_85 : decode cX4_distanceTo 85 = .ok (.iload_n 1, 1) := dk_27 (dk_at dksX4_distanceTo_3 15 rfl rfl)
theorem dX4_distanceTo_86 : decode cX4_distanceTo 86 = .ok (.imul, 1) := dk_104 (dk_at dksX4_distanceTo_3 16 rfl rfl)
theorem dX4_distanceTo_87 : decode cX4_distanceTo 87 = .ok (.aload_n 0, 1) := dk_42 (dk_at dksX4_distanceTo_3 17 rfl rfl)
theorem dX4_distanceTo_88 : decode cX4_distanceTo 88 = .ok (.iload_n 2, 1) := dk_28 (dk_at dksX4_distanceTo_3 18 rfl rfl)
theorem dX4_distanceTo_89 : decode cX4_distanceTo 89 = .ok (.iconst 0, 1) := dk_3 (dk_at dksX4_distanceTo_3 19 rfl rfl)
theorem dX4_distanceTo_90 : decode cX4_distanceTo 90 = .ok (.invokevirtual 79, 3) := dk_182 0 79 (dk_at dksX4_distanceTo_3 20 rfl rfl)
theorem dX4_distanceTo_93 : decode cX4_distanceTo 93 = .ok (.iadd, 1) := dk_96 (dk_at dksX4_distanceTo_3 23 rfl rfl)
theorem dX4_distanceTo_94 : decode cX4_distanceTo 94 = .ok (.iaload, 1) := dk_46 (dk_at dksX4_distanceTo_4 0 rfl rfl)
theorem dX4_distanceTo_95 : decode cX4_distanceTo 95 = .ok (.ldc 132, 2) := dk_18 132 (dk_at dksX4_distanceTo_4 1 rfl rfl)
theorem dX4_distanceTo_97 : decode cX4_distanceTo 97 = .ok (.if_icmp .lt 7, 3) := dk_161 0 7 (dk_at dksX4_distanceTo_4 3 rfl rfl)
theorem dX4_distanceTo_100 : decode cX4_distanceTo 100 = .ok (.iconst 3, 1) := dk_6 (dk_at dksX4_distanceTo_4 6 rfl rfl)
theorem dX4_distanceTo_101 : decode cX4_distanceTo 101 = .ok (.goto 4, 3) := dk_167 0 4 (dk_at dksX4_distanceTo_4 7 rfl rfl)
theorem dX4_distanceTo_104 : decode cX4_distanceTo 104 = .ok (.iconst 0, 1) := dk_3 (dk_at dksX4_distanceTo_4 10 rfl rfl)
theorem dX4_distanceTo_105 : decode cX4_distanceTo 105 = .ok (.invokevirtual 61, 3) := dk_182 0 61 (dk_at dksX4_distanceTo_4 11 rfl rfl)
theorem dX4_distanceTo_108 : decode cX4_distanceTo 108 = .ok (.ifCond .eq 5, 3) := dk_153 0 5 (dk_at dksX4_distanceTo_4 14 rfl rfl)
theorem dX4_distanceTo_111 : decode cX4_distanceTo 111 = .ok (.iconst 0, 1) := dk_3 (dk_at dksX4_distanceTo_4 17 rfl rfl)
theorem dX4_distanceTo_112 : decode cX4_distanceTo 112 = .ok (.ireturn, 1) := dk_172 (dk_at dksX4_distanceTo_4 18 rfl rfl)
theorem dX4_distanceTo_113 : decode cX4_distanceTo 113 = .ok (.aload_n 0, 1) := dk_42 (dk_at dksX4_distanceTo_4 19 rfl rfl)
theorem dX4_distanceTo_114 : decode cX4_distanceTo 114 = .ok (.iload_n 1, 1) := dk_27 (dk_at dksX4_distanceTo_4 20 rfl rfl)
theorem dX4_distanceTo_115 : decode cX4_distanceTo 115 = .ok (.iload_n 2, 1) := dk_28 (dk_at dksX4_distanceTo_4 21 rfl rfl)
theorem dX4_distanceTo_116 : decode cX4_distanceTo 116 = .ok (.iload_n 3, 1) := dk_29 (dk_at dksX4_distanceTo_4 22 rfl rfl)
theorem dX4_distanceTo_117 : decode cX4_distanceTo 117 = .ok (.i2l, 1) := dk_133 (dk_at dksX4_distanceTo_4 23 rfl rfl)
theorem dX4_distanceTo_118 : decode cX4_distanceTo 118 = .ok (.iload 4, 2) := dk_21 4 (dk_at dksX4_distanceTo_5 0 rfl rfl)
theorem dX4_distanceTo_120 : decode cX4_distanceTo 120 = .ok (.i2l, 1) := dk_133 (dk_at dksX4_distanceTo_5 2 rfl rfl)
theorem dX4_distanceTo_121 : decode cX4_distanceTo 121 = .ok (.invokevirtual 153, 3) := dk_182 0 153 (dk_at dksX4_distanceTo_5 3 rfl rfl)
theorem dX4_distanceTo_124 : decode cX4_distanceTo 124 = .ok (.iload 4, 2) := dk_21 4 (dk_at dksX4_distanceTo_5 6 rfl rfl)
theorem dX4_distanceTo_126 : decode cX4_distanceTo 126 = .ok (.i2l, 1) := dk_133 (dk_at dksX4_distanceTo_5 8 rfl rfl)
theorem dX4_distanceTo_127 : decode cX4_distanceTo 127 = .ok (.iload 5, 2) := dk_21 5 (dk_at dksX4_distanceTo_5 9 rfl rfl)
theorem dX4_distanceTo_129 : decode cX4_distanceTo 129 = .ok (.invokestatic 156, 3) := dk_184 0 156 (dk_at dksX4_distanceTo_5 11 rfl rfl)
theorem dX4_distanceTo_132 : decode cX4_distanceTo 132 = .ok (.ireturn, 1) := dk_172 (dk_at dksX4_distanceTo_5 14 rfl rfl)
abbrev cX4_isPoint : ByteArray := prog_19_method_45_code
def yX4_isPoint : MethodName := ⟨RX4, "isPoint", "(III)Z"⟩
def dkwX4_isPoint_1 : List UInt8 := [182, 0, 79, 133, 105, 148, 157, 0, 7, 4, 167, 0, 4, 3, 172]
abbrev dktX4_isPoint_1 : List UInt8 := dkwX4_isPoint_1 ++ []
def dkwX4_isPoint_0 : List UInt8 := [29, 4, 17, 3, 232, 184, 0, 69, 153, 0, 27, 28, 155, 0, 23, 28, 133, 29, 133, 42, 27, 5]
abbrev dktX4_isPoint_0 : List UInt8 := dkwX4_isPoint_0 ++ dktX4_isPoint_1
theorem dksX4_isPoint_0 : cX4_isPoint.data.toList.drop 0 = dktX4_isPoint_0 := by decide +kernel
theorem dksX4_isPoint_1 : cX4_isPoint.data.toList.drop 22 = dktX4_isPoint_1 := dk_seg dksX4_isPoint_0 22 rfl rfl
theorem dX4_isPoint_0 : decode cX4_isPoint 0 = .ok (.iload_n 3, 1) := dk_29 (dk_at dksX4_isPoint_0 0 rfl rfl)
theorem dX4_isPoint_1 : decode cX4_isPoint 1 = .ok (.iconst 1, 1) := dk_4 (dk_at dksX4_isPoint_0 1 rfl rfl)
theorem dX4_isPoint_2 : decode cX4_isPoint 2 = .ok (.sipush 1000, 3) := dk_17 3 232 (dk_at dksX4_isPoint_0 2 rfl rfl)
theorem dX4_isPoint_5 : decode cX4_isPoint 5 = .ok (.invokestatic 69, 3) := dk_184 0 69 (dk_at dksX4_isPoint_0 5 rfl rfl)
theorem dX4_isPoint_8 : decode cX4_isPoint 8 = .ok (.ifCond .eq 27, 3) := dk_153 0 27 (dk_at dksX4_isPoint_0 8 rfl rfl)
theorem dX4_isPoint_11 : decode cX4_isPoint 11 = .ok (.iload_n 2, 1) := dk_28 (dk_at dksX4_isPoint_0 11 rfl rfl)
theorem dX4_isPoint_12 : decode cX4_isPoint 12 = .ok (.ifCond .lt 23, 3) := dk_155 0 23 (dk_at dksX4_isPoint_0 12 rfl rfl)
theorem dX4_isPoint_15 : decode cX4_isPoint 15 = .ok (.iload_n 2, 1) := dk_28 (dk_at dksX4_isPoint_0 15 rfl rfl)
theorem dX4_isPoint_16 : decode cX4_isPoint 16 = .ok (.i2l, 1) := dk_133 (dk_at dksX4_isPoint_0 16 rfl rfl)
theorem dX4_isPoint_17 : decode cX4_isPoint 17 = .ok (.iload_n 3, 1) := dk_29 (dk_at dksX4_isPoint_0 17 rfl rfl)
theorem dX4_isPoint_18 : decode cX4_isPoint 18 = .ok (.i2l, 1) := dk_133 (dk_at dksX4_isPoint_0 18 rfl rfl)
theorem dX4_isPoint_19 : decode cX4_isPoint 19 = .ok (.aload_n 0, 1) := dk_42 (dk_at dksX4_isPoint_0 19 rfl rfl)
theorem dX4_isPoint_20 : decode cX4_isPoint 20 = .ok (.iload_n 1, 1) := dk_27 (dk_at dksX4_isPoint_0 20 rfl rfl)
theorem dX4_isPoint_21 : decode cX4_isPoint 21 = .ok (.iconst 2, 1) := dk_5 (dk_at dksX4_isPoint_0 21 rfl rfl)
theorem dX4_isPoint_22 : decode cX4_isPoint 22 = .ok (.invokevirtual 79, 3) := dk_182 0 79 (dk_at dksX4_isPoint_1 0 rfl rfl)
theorem dX4_isPoint_25 : decode cX4_isPoint 25 = .ok (.i2l, 1) := dk_133 (dk_at dksX4_isPoint_1 3 rfl rfl)
theorem dX4_isPoint_26 : decode cX4_isPoint 26 = .ok (.lmul, 1) := dk_105 (dk_at dksX4_isPoint_1 4 rfl rfl)
theorem dX4_isPoint_27 : decode cX4_isPoint 27 = .ok (.lcmp, 1) := dk_148 (dk_at dksX4_isPoint_1 5 rfl rfl)
theorem dX4_isPoint_28 : decode cX4_isPoint 28 = .ok (.ifCond .gt 7, 3) := dk_157 0 7 (dk_at dksX4_isPoint_1 6 rfl rfl)
theorem dX4_isPoint_31 : decode cX4_isPoint 31 = .ok (.iconst 1, 1) := dk_4 (dk_at dksX4_isPoint_1 9 rfl rfl)
theorem dX4_isPoint_32 : decode cX4_isPoint 32 = .ok (.goto 4, 3) := dk_167 0 4 (dk_at dksX4_isPoint_1 10 rfl rfl)
theorem dX4_isPoint_35 : decode cX4_isPoint 35 = .ok (.iconst 0, 1) := dk_3 (dk_at dksX4_isPoint_1 13 rfl rfl)
theorem dX4_isPoint_36 : decode cX4_isPoint 36 = .ok (.ireturn, 1) := dk_172 (dk_at dksX4_isPoint_1 14 rfl rfl)
abbrev cX4_away : ByteArray := prog_19_method_48_code
def yX4_away : MethodName := ⟨RX4, "away", "(IIJJ)J"⟩
def dkwX4_away_1 : List UInt8 := [22, 9, 148, 156, 0, 8, 22, 7, 167, 0, 5, 22, 9, 173]
abbrev dktX4_away_1 : List UInt8 := dkwX4_away_1 ++ []
def dkwX4_away_0 : List UInt8 := [42, 27, 28, 33, 22, 5, 182, 0, 143, 55, 7, 42, 27, 28, 33, 22, 5, 182, 0, 147, 55, 9, 22, 7]
abbrev dktX4_away_0 : List UInt8 := dkwX4_away_0 ++ dktX4_away_1
theorem dksX4_away_0 : cX4_away.data.toList.drop 0 = dktX4_away_0 := by decide +kernel
theorem dksX4_away_1 : cX4_away.data.toList.drop 24 = dktX4_away_1 := dk_seg dksX4_away_0 24 rfl rfl
theorem dX4_away_0 : decode cX4_away 0 = .ok (.aload_n 0, 1) := dk_42 (dk_at dksX4_away_0 0 rfl rfl)
theorem dX4_away_1 : decode cX4_away 1 = .ok (.iload_n 1, 1) := dk_27 (dk_at dksX4_away_0 1 rfl rfl)
theorem dX4_away_2 : decode cX4_away 2 = .ok (.iload_n 2, 1) := dk_28 (dk_at dksX4_away_0 2 rfl rfl)
theorem dX4_away_3 : decode cX4_away 3 = .ok (.lload_n 3, 1) := dk_33 (dk_at dksX4_away_0 3 rfl rfl)
theorem dX4_away_4 : decode cX4_away 4 = .ok (.lload 5, 2) := dk_22 5 (dk_at dksX4_away_0 4 rfl rfl)
theorem dX4_away_6 : decode cX4_away 6 = .ok (.invokevirtual 143, 3) := dk_182 0 143 (dk_at dksX4_away_0 6 rfl rfl)
theorem dX4_away_9 : decode cX4_away 9 = .ok (.lstore 7, 2) := dk_55 7 (dk_at dksX4_away_0 9 rfl rfl)
theorem dX4_away_11 : decode cX4_away 11 = .ok (.aload_n 0, 1) := dk_42 (dk_at dksX4_away_0 11 rfl rfl)
theorem dX4_away_12 : decode cX4_away 12 = .ok (.iload_n 1, 1) := dk_27 (dk_at dksX4_away_0 12 rfl rfl)
theorem dX4_away_13 : decode cX4_away 13 = .ok (.iload_n 2, 1) := dk_28 (dk_at dksX4_away_0 13 rfl rfl)
theorem dX4_away_14 : decode cX4_away 14 = .ok (.lload_n 3, 1) := dk_33 (dk_at dksX4_away_0 14 rfl rfl)
theorem dX4_away_15 : decode cX4_away 15 = .ok (.lload 5, 2) := dk_22 5 (dk_at dksX4_away_0 15 rfl rfl)
theorem dX4_away_17 : decode cX4_away 17 = .ok (.invokevirtual 147, 3) := dk_182 0 147 (dk_at dksX4_away_0 17 rfl rfl)
theorem dX4_away_20 : decode cX4_away 20 = .ok (.lstore 9, 2) := dk_55 9 (dk_at dksX4_away_0 20 rfl rfl)
theorem dX4_away_22 : decode cX4_away 22 = .ok (.lload 7, 2) := dk_22 7 (dk_at dksX4_away_0 22 rfl rfl)
theorem dX4_away_24 : decode cX4_away 24 = .ok (.lload 9, 2) := dk_22 9 (dk_at dksX4_away_1 0 rfl rfl)
theorem dX4_away_26 : decode cX4_away 26 = .ok (.lcmp, 1) := dk_148 (dk_at dksX4_away_1 2 rfl rfl)
theorem dX4_away_27 : decode cX4_away 27 = .ok (.ifCond .ge 8, 3) := dk_156 0 8 (dk_at dksX4_away_1 3 rfl rfl)
theorem dX4_away_30 : decode cX4_away 30 = .ok (.lload 7, 2) := dk_22 7 (dk_at dksX4_away_1 6 rfl rfl)
theorem dX4_away_32 : decode cX4_away 32 = .ok (.goto 5, 3) := dk_167 0 5 (dk_at dksX4_away_1 8 rfl rfl)
theorem dX4_away_35 : decode cX4_away 35 = .ok (.lload 9, 2) := dk_22 9 (dk_at dksX4_away_1 11 rfl rfl)
theorem dX4_away_37 : decode cX4_away 37 = .ok (.lreturn, 1) := dk_173 (dk_at dksX4_away_1 13 rfl rfl)
abbrev cX4_rising : ByteArray := prog_19_method_46_code
def yX4_rising : MethodName := ⟨RX4, "rising", "(IIJJ)J"⟩
def dkwX4_rising_0 : List UInt8 := [22, 5, 42, 180, 0, 22, 16, 8, 27, 104, 42, 28, 3, 182, 0, 79, 96, 46, 133, 105, 33, 97, 173]
abbrev dktX4_rising_0 : List UInt8 := dkwX4_rising_0 ++ []
theorem dksX4_rising_0 : cX4_rising.data.toList.drop 0 = dktX4_rising_0 := by decide +kernel
theorem dX4_rising_0 : decode cX4_rising 0 = .ok (.lload 5, 2) := dk_22 5 (dk_at dksX4_rising_0 0 rfl rfl)
theorem dX4_rising_2 : decode cX4_rising 2 = .ok (.aload_n 0, 1) := dk_42 (dk_at dksX4_rising_0 2 rfl rfl)
theorem dX4_rising_3 : decode cX4_rising 3 = .ok (.getfield 22, 3) := dk_180 0 22 (dk_at dksX4_rising_0 3 rfl rfl)
theorem dX4_rising_6 : decode cX4_rising 6 = .ok (.bipush 8, 2) := dk_16 8 (dk_at dksX4_rising_0 6 rfl rfl)
theorem dX4_rising_8 : decode cX4_rising 8 = .ok (.iload_n 1, 1) := dk_27 (dk_at dksX4_rising_0 8 rfl rfl)
theorem dX4_rising_9 : decode cX4_rising 9 = .ok (.imul, 1) := dk_104 (dk_at dksX4_rising_0 9 rfl rfl)
theorem dX4_rising_10 : decode cX4_rising 10 = .ok (.aload_n 0, 1) := dk_42 (dk_at dksX4_rising_0 10 rfl rfl)
theorem dX4_rising_11 : decode cX4_rising 11 = .ok (.iload_n 2, 1) := dk_28 (dk_at dksX4_rising_0 11 rfl rfl)
theorem dX4_rising_12 : decode cX4_rising 12 = .ok (.iconst 0, 1) := dk_3 (dk_at dksX4_rising_0 12 rfl rfl)
theorem dX4_rising_13 : decode cX4_rising 13 = .ok (.invokevirtual 79, 3) := dk_182 0 79 (dk_at dksX4_rising_0 13 rfl rfl)
theorem dX4_rising_16 : decode cX4_rising 16 = .ok (.iadd, 1) := dk_96 (dk_at dksX4_rising_0 16 rfl rfl)
theorem dX4_rising_17 : decode cX4_rising 17 = .ok (.iaload, 1) := dk_46 (dk_at dksX4_rising_0 17 rfl rfl)
theorem dX4_rising_18 : decode cX4_rising 18 = .ok (.i2l, 1) := dk_133 (dk_at dksX4_rising_0 18 rfl rfl)
theorem dX4_rising_19 : decode cX4_rising 19 = .ok (.lmul, 1) := dk_105 (dk_at dksX4_rising_0 19 rfl rfl)
theorem dX4_rising_20 : decode cX4_rising 20 = .ok (.lload_n 3, 1) := dk_33 (dk_at dksX4_rising_0 20 rfl rfl)
theorem dX4_rising_21 : decode cX4_rising 21 = .ok (.ladd, 1) := dk_97 (dk_at dksX4_rising_0 21 rfl rfl)
theorem dX4_rising_22 : decode cX4_rising 22 = .ok (.lreturn, 1) := dk_173 (dk_at dksX4_rising_0 22 rfl rfl)
abbrev cX4_falling : ByteArray := prog_19_method_47_code
def yX4_falling : MethodName := ⟨RX4, "falling", "(IIJJ)J"⟩
def dkwX4_falling_1 : List UInt8 := [96, 133, 105, 33, 101, 173]
abbrev dktX4_falling_1 : List UInt8 := dkwX4_falling_1 ++ []
def dkwX4_falling_0 : List UInt8 := [22, 5, 42, 180, 0, 22, 16, 8, 27, 104, 42, 28, 4, 182, 0, 79, 96, 46, 42, 28, 5, 182, 0, 79]
abbrev dktX4_falling_0 : List UInt8 := dkwX4_falling_0 ++ dktX4_falling_1
theorem dksX4_falling_0 : cX4_falling.data.toList.drop 0 = dktX4_falling_0 := by decide +kernel
theorem dksX4_falling_1 : cX4_falling.data.toList.drop 24 = dktX4_falling_1 := dk_seg dksX4_falling_0 24 rfl rfl
theorem dX4_falling_0 : decode cX4_falling 0 = .ok (.lload 5, 2) := dk_22 5 (dk_at dksX4_falling_0 0 rfl rfl)
theorem dX4_falling_2 : decode cX4_falling 2 = .ok (.aload_n 0, 1) := dk_42 (dk_at dksX4_falling_0 2 rfl rfl)
theorem dX4_falling_3 : decode cX4_falling 3 = .ok (.getfield 22, 3) := dk_180 0 22 (dk_at dksX4_falling_0 3 rfl rfl)
theorem dX4_falling_6 : decode cX4_falling 6 = .ok (.bipush 8, 2) := dk_16 8 (dk_at dksX4_falling_0 6 rfl rfl)
theorem dX4_falling_8 : decode cX4_falling 8 = .ok (.iload_n 1, 1) := dk_27 (dk_at dksX4_falling_0 8 rfl rfl)
theorem dX4_falling_9 : decode cX4_falling 9 = .ok (.imul, 1) := dk_104 (dk_at dksX4_falling_0 9 rfl rfl)
theorem dX4_falling_10 : decode cX4_falling 10 = .ok (.aload_n 0, 1) := dk_42 (dk_at dksX4_falling_0 10 rfl rfl)
theorem dX4_falling_11 : decode cX4_falling 11 = .ok (.iload_n 2, 1) := dk_28 (dk_at dksX4_falling_0 11 rfl rfl)
theorem dX4_falling_12 : decode cX4_falling 12 = .ok (.iconst 1, 1) := dk_4 (dk_at dksX4_falling_0 12 rfl rfl)
theorem dX4_falling_13 : decode cX4_falling 13 = .ok (.invokevirtual 79, 3) := dk_182 0 79 (dk_at dksX4_falling_0 13 rfl rfl)
theorem dX4_falling_16 : decode cX4_falling 16 = .ok (.iadd, 1) := dk_96 (dk_at dksX4_falling_0 16 rfl rfl)
theorem dX4_falling_17 : decode cX4_falling 17 = .ok (.iaload, 1) := dk_46 (dk_at dksX4_falling_0 17 rfl rfl)
theorem dX4_falling_18 : decode cX4_falling 18 = .ok (.aload_n 0, 1) := dk_42 (dk_at dksX4_falling_0 18 rfl rfl)
theorem dX4_falling_19 : decode cX4_falling 19 = .ok (.iload_n 2, 1) := dk_28 (dk_at dksX4_falling_0 19 rfl rfl)
theorem dX4_falling_20 : decode cX4_falling 20 = .ok (.iconst 2, 1) := dk_5 (dk_at dksX4_falling_0 20 rfl rfl)
theorem dX4_falling_21 : decode cX4_falling 21 = .ok (.invokevirtual 79, 3) := dk_182 0 79 (dk_at dksX4_falling_0 21 rfl rfl)
theorem dX4_falling_24 : decode cX4_falling 24 = .ok (.iadd, 1) := dk_96 (dk_at dksX4_falling_1 0 rfl rfl)
theorem dX4_falling_25 : decode cX4_falling 25 = .ok (.i2l, 1) := dk_133 (dk_at dksX4_falling_1 1 rfl rfl)
theorem dX4_falling_26 : decode cX4_falling 26 = .ok (.lmul, 1) := dk_105 (dk_at dksX4_falling_1 2 rfl rfl)
theorem dX4_falling_27 : decode cX4_falling 27 = .ok (.lload_n 3, 1) := dk_33 (dk_at dksX4_falling_1 3 rfl rfl)
theorem dX4_falling_28 : decode cX4_falling 28 = .ok (.lsub, 1) := dk_101 (dk_at dksX4_falling_1 4 rfl rfl)
theorem dX4_falling_29 : decode cX4_falling 29 = .ok (.lreturn, 1) := dk_173 (dk_at dksX4_falling_1 5 rfl rfl)
abbrev cX4_reduced : ByteArray := prog_19_method_44_code
def yX4_reduced : MethodName := ⟨RX4, "reduced", "(JJI)I"⟩
def dkwX4_reduced_0 : List UInt8 := [30, 32, 184, 0, 139, 55, 5, 21, 4, 154, 0, 7, 30, 167, 0, 4, 32, 22, 5, 109, 136, 172]
abbrev dktX4_reduced_0 : List UInt8 := dkwX4_reduced_0 ++ []
theorem dksX4_reduced_0 : cX4_reduced.data.toList.drop 0 = dktX4_reduced_0 := by decide +kernel
theorem dX4_reduced_0 : decode cX4_reduced 0 = .ok (.lload_n 0, 1) := dk_30 (dk_at dksX4_reduced_0 0 rfl rfl)
theorem dX4_reduced_1 : decode cX4_reduced 1 = .ok (.lload_n 2, 1) := dk_32 (dk_at dksX4_reduced_0 1 rfl rfl)
theorem dX4_reduced_2 : decode cX4_reduced 2 = .ok (.invokestatic 139, 3) := dk_184 0 139 (dk_at dksX4_reduced_0 2 rfl rfl)
theorem dX4_reduced_5 : decode cX4_reduced 5 = .ok (.lstore 5, 2) := dk_55 5 (dk_at dksX4_reduced_0 5 rfl rfl)
theorem dX4_reduced_7 : decode cX4_reduced 7 = .ok (.iload 4, 2) := dk_21 4 (dk_at dksX4_reduced_0 7 rfl rfl)
theorem dX4_reduced_9 : decode cX4_reduced 9 = .ok (.ifCond .ne 7, 3) := dk_154 0 7 (dk_at dksX4_reduced_0 9 rfl rfl)
theorem dX4_reduced_12 : decode cX4_reduced 12 = .ok (.lload_n 0, 1) := dk_30 (dk_at dksX4_reduced_0 12 rfl rfl)
theorem dX4_reduced_13 : decode cX4_reduced 13 = .ok (.goto 4, 3) := dk_167 0 4 (dk_at dksX4_reduced_0 13 rfl rfl)
theorem dX4_reduced_16 : decode cX4_reduced 16 = .ok (.lload_n 2, 1) := dk_32 (dk_at dksX4_reduced_0 16 rfl rfl)
theorem dX4_reduced_17 : decode cX4_reduced 17 = .ok (.lload 5, 2) := dk_22 5 (dk_at dksX4_reduced_0 17 rfl rfl)
theorem dX4_reduced_19 : decode cX4_reduced 19 = .ok (.ldiv, 1) := dk_109 (dk_at dksX4_reduced_0 19 rfl rfl)
theorem dX4_reduced_20 : decode cX4_reduced 20 = .ok (.l2i, 1) := dk_136 (dk_at dksX4_reduced_0 20 rfl rfl)
theorem dX4_reduced_21 : decode cX4_reduced 21 = .ok (.ireturn, 1) := dk_172 (dk_at dksX4_reduced_0 21 rfl rfl)
abbrev cX4_divisor : ByteArray := prog_19_method_43_code
def yX4_divisor : MethodName := ⟨RX4, "divisor", "(JJ)J"⟩
def dkwX4_divisor_1 : List UInt8 := [22, 8, 55, 6, 167, 255, 234, 22, 4, 173]
abbrev dktX4_divisor_1 : List UInt8 := dkwX4_divisor_1 ++ []
def dkwX4_divisor_0 : List UInt8 := [30, 55, 4, 32, 55, 6, 22, 6, 9, 148, 153, 0, 21, 22, 4, 22, 6, 113, 55, 8, 22, 6, 55, 4]
abbrev dktX4_divisor_0 : List UInt8 := dkwX4_divisor_0 ++ dktX4_divisor_1
theorem dksX4_divisor_0 : cX4_divisor.data.toList.drop 0 = dktX4_divisor_0 := by decide +kernel
theorem dksX4_divisor_1 : cX4_divisor.data.toList.drop 24 = dktX4_divisor_1 := dk_seg dksX4_divisor_0 24 rfl rfl
theorem dX4_divisor_0 : decode cX4_divisor 0 = .ok (.lload_n 0, 1) := dk_30 (dk_at dksX4_divisor_0 0 rfl rfl)
theorem dX4_divisor_1 : decode cX4_divisor 1 = .ok (.lstore 4, 2) := dk_55 4 (dk_at dksX4_divisor_0 1 rfl rfl)
theorem dX4_divisor_3 : decode cX4_divisor 3 = .ok (.lload_n 2, 1) := dk_32 (dk_at dksX4_divisor_0 3 rfl rfl)
theorem dX4_divisor_4 : decode cX4_divisor 4 = .ok (.lstore 6, 2) := dk_55 6 (dk_at dksX4_divisor_0 4 rfl rfl)
theorem dX4_divisor_6 : decode cX4_divisor 6 = .ok (.lload 6, 2) := dk_22 6 (dk_at dksX4_divisor_0 6 rfl rfl)
theorem dX4_divisor_8 : decode cX4_divisor 8 = .ok (.lconst 0, 1) := dk_9 (dk_at dksX4_divisor_0 8 rfl rfl)
theorem dX4_divisor_9 : decode cX4_divisor 9 = .ok (.lcmp, 1) := dk_148 (dk_at dksX4_divisor_0 9 rfl rfl)
theorem dX4_divisor_10 : decode cX4_divisor 10 = .ok (.ifCond .eq 21, 3) := dk_153 0 21 (dk_at dksX4_divisor_0 10 rfl rfl)
theorem dX4_divisor_13 : decode cX4_divisor 13 = .ok (.lload 4, 2) := dk_22 4 (dk_at dksX4_divisor_0 13 rfl rfl)
theorem dX4_divisor_15 : decode cX4_divisor 15 = .ok (.lload 6, 2) := dk_22 6 (dk_at dksX4_divisor_0 15 rfl rfl)
theorem dX4_divisor_17 : decode cX4_divisor 17 = .ok (.lrem, 1) := dk_113 (dk_at dksX4_divisor_0 17 rfl rfl)
theorem dX4_divisor_18 : decode cX4_divisor 18 = .ok (.lstore 8, 2) := dk_55 8 (dk_at dksX4_divisor_0 18 rfl rfl)
theorem dX4_divisor_20 : decode cX4_divisor 20 = .ok (.lload 6, 2) := dk_22 6 (dk_at dksX4_divisor_0 20 rfl rfl)
theorem dX4_divisor_22 : decode cX4_divisor 22 = .ok (.lstore 4, 2) := dk_55 4 (dk_at dksX4_divisor_0 22 rfl rfl)
theorem dX4_divisor_24 : decode cX4_divisor 24 = .ok (.lload 8, 2) := dk_22 8 (dk_at dksX4_divisor_1 0 rfl rfl)
theorem dX4_divisor_26 : decode cX4_divisor 26 = .ok (.lstore 6, 2) := dk_55 6 (dk_at dksX4_divisor_1 2 rfl rfl)
theorem dX4_divisor_28 : decode cX4_divisor 28 = .ok (.goto (-22), 3) := dk_167 255 234 (dk_at dksX4_divisor_1 4 rfl rfl)
theorem dX4_divisor_31 : decode cX4_divisor 31 = .ok (.lload 4, 2) := dk_22 4 (dk_at dksX4_divisor_1 7 rfl rfl)
theorem dX4_divisor_33 : decode cX4_divisor 33 = .ok (.lreturn, 1) := dk_173 (dk_at dksX4_divisor_1 9 rfl rfl)
abbrev cX4_isAllowed : ByteArray := prog_19_method_51_code
def yX4_isAllowed : MethodName := ⟨RX4, "isAllowed", "(III)Z"⟩
def dkwX4_isAllowed_2 : List UInt8 := [167, 0, 4, 3, 172]
abbrev dktX4_isAllowed_2 : List UInt8 := dkwX4_isAllowed_2 ++ []
def dkwX4_isAllowed_1 : List UInt8 := [167, 0, 4, 3, 182, 0, 61, 154, 0, 19, 42, 27, 28, 133, 29, 133, 182, 0, 160, 153, 0, 7, 4]
abbrev dktX4_isAllowed_1 : List UInt8 := dkwX4_isAllowed_1 ++ dktX4_isAllowed_2
def dkwX4_isAllowed_0 : List UInt8 := [42, 42, 27, 182, 0, 106, 154, 0, 7, 4, 167, 0, 18, 42, 27, 28, 29, 182, 0, 150, 154, 0, 7, 5]
abbrev dktX4_isAllowed_0 : List UInt8 := dkwX4_isAllowed_0 ++ dktX4_isAllowed_1
theorem dksX4_isAllowed_0 : cX4_isAllowed.data.toList.drop 0 = dktX4_isAllowed_0 := by decide +kernel
theorem dksX4_isAllowed_1 : cX4_isAllowed.data.toList.drop 24 = dktX4_isAllowed_1 := dk_seg dksX4_isAllowed_0 24 rfl rfl
theorem dksX4_isAllowed_2 : cX4_isAllowed.data.toList.drop 47 = dktX4_isAllowed_2 := dk_seg dksX4_isAllowed_1 23 rfl rfl
theorem dX4_isAllowed_0 : decode cX4_isAllowed 0 = .ok (.aload_n 0, 1) := dk_42 (dk_at dksX4_isAllowed_0 0 rfl rfl)
theorem dX4_isAllowed_1 : decode cX4_isAllowed 1 = .ok (.aload_n 0, 1) := dk_42 (dk_at dksX4_isAllowed_0 1 rfl rfl)
theorem dX4_isAllowed_2 : decode cX4_isAllowed 2 = .ok (.iload_n 1, 1) := dk_27 (dk_at dksX4_isAllowed_0 2 rfl rfl)
theorem dX4_isAllowed_3 : decode cX4_isAllowed 3 = .ok (.invokevirtual 106, 3) := dk_182 0 106 (dk_at dksX4_isAllowed_0 3 rfl rfl)
theorem dX4_isAllowed_6 : decode cX4_isAllowed 6 = .ok (.ifCond .ne 7, 3) := dk_154 0 7 (dk_at dksX4_isAllowed_0 6 rfl rfl)
theorem dX4_isAllowed_9 : decode cX4_isAllowed 9 = .ok (.iconst 1, 1) := dk_4 (dk_at dksX4_isAllowed_0 9 rfl rfl)
theorem dX4_isAllowed_10 : decode cX4_isAllowed 10 = .ok (.goto 18, 3) := dk_167 0 18 (dk_at dksX4_isAllowed_0 10 rfl rfl)
theorem dX4_isAllowed_13 : decode cX4_isAllowed 13 = .ok (.aload_n 0, 1) := dk_42 (dk_at dksX4_isAllowed_0 13 rfl rfl)
theorem dX4_isAllowed_14 : decode cX4_isAllowed 14 = .ok (.iload_n 1, 1) := dk_27 (dk_at dksX4_isAllowed_0 14 rfl rfl)
theorem dX4_isAllowed_15 : decode cX4_isAllowed 15 = .ok (.iload_n 2, 1) := dk_28 (dk_at dksX4_isAllowed_0 15 rfl rfl)
theorem dX4_isAllowed_16 : decode cX4_isAllowed 16 = .ok (.iload_n 3, 1) := dk_29 (dk_at dksX4_isAllowed_0 16 rfl rfl)
theorem dX4_isAllowed_17 : decode cX4_isAllowed 17 = .ok (.invokevirtual 150, 3) := dk_182 0 150 (dk_at dksX4_isAllowed_0 17 rfl rfl)
theorem dX4_isAllowed_20 : decode cX4_isAllowed 20 = .ok (.ifCond .ne 7, 3) := dk_154 0 7 (dk_at dksX4_isAllowed_0 20 rfl rfl)
theorem dX4_isAllowed_23 : decode cX4_isAllowed 23 = .ok (.iconst 2, 1) := dk_5 (dk_at dksX4_isAllowed_0 23 rfl rfl)
theorem dX4_isAllowed_24 : decode cX4_isAllowed 24 = .ok (.goto 4, 3) := dk_167 0 4 (dk_at dksX4_isAllowed_1 0 rfl rfl)
theorem dX4_isAllowed_27 : decode cX4_isAllowed 27 = .ok (.iconst 0, 1) := dk_3 (dk_at dksX4_isAllowed_1 3 rfl rfl)
theorem dX4_isAllowed_28 : decode cX4_isAllowed 28 = .ok (.invokevirtual 61, 3) := dk_182 0 61 (dk_at dksX4_isAllowed_1 4 rfl rfl)
theorem dX4_isAllowed_31 : decode cX4_isAllowed 31 = .ok (.ifCond .ne 19, 3) := dk_154 0 19 (dk_at dksX4_isAllowed_1 7 rfl rfl)
theorem dX4_isAllowed_34 : decode cX4_isAllowed 34 = .ok (.aload_n 0, 1) := dk_42 (dk_at dksX4_isAllowed_1 10 rfl rfl)
theorem dX4_isAllowed_35 : decode cX4_isAllowed 35 = .ok (.iload_n 1, 1) := dk_27 (dk_at dksX4_isAllowed_1 11 rfl rfl)
theorem dX4_isAllowed_36 : decode cX4_isAllowed 36 = .ok (.iload_n 2, 1) := dk_28 (dk_at dksX4_isAllowed_1 12 rfl rfl)
theorem dX4_isAllowed_37 : decode cX4_isAllowed 37 = .ok (.i2l, 1) := dk_133 (dk_at dksX4_isAllowed_1 13 rfl rfl)
theorem dX4_isAllowed_38 : decode cX4_isAllowed 38 = .ok (.iload_n 3, 1) := dk_29 (dk_at dksX4_isAllowed_1 14 rfl rfl)
theorem dX4_isAllowed_39 : decode cX4_isAllowed 39 = .ok (.i2l, 1) := dk_133 (dk_at dksX4_isAllowed_1 15 rfl rfl)
theorem dX4_isAllowed_40 : decode cX4_isAllowed 40 = .ok (.invokevirtual 160, 3) := dk_182 0 160 (dk_at dksX4_isAllowed_1 16 rfl rfl)
theorem dX4_isAllowed_43 : decode cX4_isAllowed 43 = .ok (.ifCond .eq 7, 3) := dk_153 0 7 (dk_at dksX4_isAllowed_1 19 rfl rfl)
theorem dX4_isAllowed_46 : decode cX4_isAllowed 46 = .ok (.iconst 1, 1) := dk_4 (dk_at dksX4_isAllowed_1 22 rfl rfl)
theorem dX4_isAllowed_47 : decode cX4_isAllowed 47 = .ok (.goto 4, 3) := dk_167 0 4 (dk_at dksX4_isAllowed_2 0 rfl rfl)
theorem dX4_isAllowed_50 : decode cX4_isAllowed 50 = .ok (.iconst 0, 1) := dk_3 (dk_at dksX4_isAllowed_2 3 rfl rfl)
theorem dX4_isAllowed_51 : decode cX4_isAllowed 51 = .ok (.ireturn, 1) := dk_172 (dk_at dksX4_isAllowed_2 4 rfl rfl)
abbrev cX4_mayLie : ByteArray := prog_19_method_50_code
def yX4_mayLie : MethodName := ⟨RX4, "mayLie", "(IJJ)Z"⟩
def dkwX4_mayLie_3 : List UInt8 := [132, 7, 1, 167, 255, 189, 21, 6, 172]
abbrev dktX4_mayLie_3 : List UInt8 := dkwX4_mayLie_3 ++ []
def dkwX4_mayLie_2 : List UInt8 := [22, 4, 42, 21, 7, 5, 182, 0, 100, 133, 105, 148, 155, 0, 7, 4, 167, 0, 4, 3, 54, 6]
abbrev dktX4_mayLie_2 : List UInt8 := dkwX4_mayLie_2 ++ dktX4_mayLie_3
def dkwX4_mayLie_1 : List UInt8 := [182, 0, 100, 27, 160, 0, 35, 32, 22, 4, 42, 21, 7, 4, 182, 0, 100, 133, 105, 148, 158, 0, 19, 32]
abbrev dktX4_mayLie_1 : List UInt8 := dkwX4_mayLie_1 ++ dktX4_mayLie_2
def dkwX4_mayLie_0 : List UInt8 := [4, 54, 6, 3, 54, 7, 21, 7, 42, 182, 0, 97, 162, 0, 64, 21, 6, 153, 0, 50, 42, 21, 7, 3]
abbrev dktX4_mayLie_0 : List UInt8 := dkwX4_mayLie_0 ++ dktX4_mayLie_1
theorem dksX4_mayLie_0 : cX4_mayLie.data.toList.drop 0 = dktX4_mayLie_0 := by decide +kernel
theorem dksX4_mayLie_1 : cX4_mayLie.data.toList.drop 24 = dktX4_mayLie_1 := dk_seg dksX4_mayLie_0 24 rfl rfl
theorem dksX4_mayLie_2 : cX4_mayLie.data.toList.drop 48 = dktX4_mayLie_2 := dk_seg dksX4_mayLie_1 24 rfl rfl
theorem dksX4_mayLie_3 : cX4_mayLie.data.toList.drop 70 = dktX4_mayLie_3 := dk_seg dksX4_mayLie_2 22 rfl rfl
theorem dX4_mayLie_0 : decode cX4_mayLie 0 = .ok (.iconst 1, 1) := dk_4 (dk_at dksX4_mayLie_0 0 rfl rfl)
theorem dX4_mayLie_1 : decode cX4_mayLie 1 = .ok (.istore 6, 2) := dk_54 6 (dk_at dksX4_mayLie_0 1 rfl rfl)
theorem dX4_mayLie_3 : decode cX4_mayLie 3 = .ok (.iconst 0, 1) := dk_3 (dk_at dksX4_mayLie_0 3 rfl rfl)
theorem dX4_mayLie_4 : decode cX4_mayLie 4 = .ok (.istore 7, 2) := dk_54 7 (dk_at dksX4_mayLie_0 4 rfl rfl)
theorem dX4_mayLie_6 : decode cX4_mayLie 6 = .ok (.iload 7, 2) := dk_21 7 (dk_at dksX4_mayLie_0 6 rfl rfl)
theorem dX4_mayLie_8 : decode cX4_mayLie 8 = .ok (.aload_n 0, 1) := dk_42 (dk_at dksX4_mayLie_0 8 rfl rfl)
theorem dX4_mayLie_9 : decode cX4_mayLie 9 = .ok (.invokevirtual 97, 3) := dk_182 0 97 (dk_at dksX4_mayLie_0 9 rfl rfl)
theorem dX4_mayLie_12 : decode cX4_mayLie 12 = .ok (.if_icmp .ge 64, 3) := dk_162 0 64 (dk_at dksX4_mayLie_0 12 rfl rfl)
theorem dX4_mayLie_15 : decode cX4_mayLie 15 = .ok (.iload 6, 2) := dk_21 6 (dk_at dksX4_mayLie_0 15 rfl rfl)
theorem dX4_mayLie_17 : decode cX4_mayLie 17 = .ok (.ifCond .eq 50, 3) := dk_153 0 50 (dk_at dksX4_mayLie_0 17 rfl rfl)
theorem dX4_mayLie_20 : decode cX4_mayLie 20 = .ok (.aload_n 0, 1) := dk_42 (dk_at dksX4_mayLie_0 20 rfl rfl)
theorem dX4_mayLie_21 : decode cX4_mayLie 21 = .ok (.iload 7, 2) := dk_21 7 (dk_at dksX4_mayLie_0 21 rfl rfl)
theorem dX4_mayLie_23 : decode cX4_mayLie 23 = .ok (.iconst 0, 1) := dk_3 (dk_at dksX4_mayLie_0 23 rfl rfl)
theorem dX4_mayLie_24 : decode cX4_mayLie 24 = .ok (.invokevirtual 100, 3) := dk_182 0 100 (dk_at dksX4_mayLie_1 0 rfl rfl)
theorem dX4_mayLie_27 : decode cX4_mayLie 27 = .ok (.iload_n 1, 1) := dk_27 (dk_at dksX4_mayLie_1 3 rfl rfl)
theorem dX4_mayLie_28 : decode cX4_mayLie 28 = .ok (.if_icmp .ne 35, 3) := dk_160 0 35 (dk_at dksX4_mayLie_1 4 rfl rfl)
theorem dX4_mayLie_31 : decode cX4_mayLie 31 = .ok (.lload_n 2, 1) := dk_32 (dk_at dksX4_mayLie_1 7 rfl rfl)
theorem dX4_mayLie_32 : decode cX4_mayLie 32 = .ok (.lload 4, 2) := dk_22 4 (dk_at dksX4_mayLie_1 8 rfl rfl)
theorem dX4_mayLie_34 : decode cX4_mayLie 34 = .ok (.aload_n 0, 1) := dk_42 (dk_at dksX4_mayLie_1 10 rfl rfl)
theorem dX4_mayLie_35 : decode cX4_mayLie 35 = .ok (.iload 7, 2) := dk_21 7 (dk_at dksX4_mayLie_1 11 rfl rfl)
theorem dX4_mayLie_37 : decode cX4_mayLie 37 = .ok (.iconst 1, 1) := dk_4 (dk_at dksX4_mayLie_1 13 rfl rfl)
theorem dX4_mayLie_38 : decode cX4_mayLie 38 = .ok (.invokevirtual 100, 3) := dk_182 0 100 (dk_at dksX4_mayLie_1 14 rfl rfl)
theorem dX4_mayLie_41 : decode cX4_mayLie 41 = .ok (.i2l, 1) := dk_133 (dk_at dksX4_mayLie_1 17 rfl rfl)
theorem dX4_mayLie_42 : decode cX4_mayLie 42 = .ok (.lmul, 1) := dk_105 (dk_at dksX4_mayLie_1 18 rfl rfl)
theorem dX4_mayLie_43 : decode cX4_mayLie 43 = .ok (.lcmp, 1) := dk_148 (dk_at dksX4_mayLie_1 19 rfl rfl)
theorem dX4_mayLie_44 : decode cX4_mayLie 44 = .ok (.ifCond .le 19, 3) := dk_158 0 19 (dk_at dksX4_mayLie_1 20 rfl rfl)
theorem dX4_mayLie_47 : decode cX4_mayLie 47 = .ok (.lload_n 2, 1) := dk_32 (dk_at dksX4_mayLie_1 23 rfl rfl)
theorem dX4_mayLie_48 : decode cX4_mayLie 48 = .ok (.lload 4, 2) := dk_22 4 (dk_at dksX4_mayLie_2 0 rfl rfl)
theorem dX4_mayLie_50 : decode cX4_mayLie 50 = .ok (.aload_n 0, 1) := dk_42 (dk_at dksX4_mayLie_2 2 rfl rfl)
theorem dX4_mayLie_51 : decode cX4_mayLie 51 = .ok (.iload 7, 2) := dk_21 7 (dk_at dksX4_mayLie_2 3 rfl rfl)
theorem dX4_mayLie_53 : decode cX4_mayLie 53 = .ok (.iconst 2, 1) := dk_5 (dk_at dksX4_mayLie_2 5 rfl rfl)
theorem dX4_mayLie_54 : decode cX4_mayLie 54 = .ok (.invokevirtual 100, 3) := dk_182 0 100 (dk_at dksX4_mayLie_2 6 rfl rfl)
theorem dX4_mayLie_57 : decode cX4_mayLie 57 = .ok (.i2l, 1) := dk_133 (dk_at dksX4_mayLie_2 9 rfl rfl)
theorem dX4_mayLie_58 : decode cX4_mayLie 58 = .ok (.lmul, 1) := dk_105 (dk_at dksX4_mayLie_2 10 rfl rfl)
theorem dX4_mayLie_59 : decode cX4_mayLie 59 = .ok (.lcmp, 1) := dk_148 (dk_at dksX4_mayLie_2 11 rfl rfl)
theorem dX4_mayLie_60 : decode cX4_mayLie 60 = .ok (.ifCond .lt 7, 3) := dk_155 0 7 (dk_at dksX4_mayLie_2 12 rfl rfl)
theorem dX4_mayLie_63 : decode cX4_mayLie 63 = .ok (.iconst 1, 1) := dk_4 (dk_at dksX4_mayLie_2 15 rfl rfl)
theorem dX4_mayLie_64 : decode cX4_mayLie 64 = .ok (.goto 4, 3) := dk_167 0 4 (dk_at dksX4_mayLie_2 16 rfl rfl)
theorem dX4_mayLie_67 : decode cX4_mayLie 67 = .ok (.iconst 0, 1) := dk_3 (dk_at dksX4_mayLie_2 19 rfl rfl)
theorem dX4_mayLie_68 : decode cX4_mayLie 68 = .ok (.istore 6, 2) := dk_54 6 (dk_at dksX4_mayLie_2 20 rfl rfl)
theorem dX4_mayLie_70 : decode cX4_mayLie 70 = .ok (.iinc 7 1, 3) := dk_132 7 1 (dk_at dksX4_mayLie_3 0 rfl rfl)
theorem dX4_mayLie_73 : decode cX4_mayLie 73 = .ok (.goto (-67), 3) := dk_167 255 189 (dk_at dksX4_mayLie_3 3 rfl rfl)
theorem dX4_mayLie_76 : decode cX4_mayLie 76 = .ok (.iload 6, 2) := dk_21 6 (dk_at dksX4_mayLie_3 6 rfl rfl)
theorem dX4_mayLie_78 : decode cX4_mayLie 78 = .ok (.ireturn, 1) := dk_172 (dk_at dksX4_mayLie_3 8 rfl rfl)
abbrev cX4_height : ByteArray := prog_19_method_56_code
def yX4_height : MethodName := ⟨RX4, "height", "(IIIII)I"⟩
def dkwX4_height_4 : List UInt8 := [29, 133, 21, 4, 133, 182, 0, 173, 21, 4, 133, 21, 5, 184, 0, 156, 172]
abbrev dktX4_height_4 : List UInt8 := dkwX4_height_4 ++ []
def dkwX4_height_3 : List UInt8 := [154, 0, 7, 6, 167, 0, 4, 3, 182, 0, 61, 153, 0, 5, 3, 172, 42, 3, 182, 0, 170, 42, 27, 28]
abbrev dktX4_height_3 : List UInt8 := dkwX4_height_3 ++ dktX4_height_4
def dkwX4_height_2 : List UInt8 := [182, 0, 106, 154, 0, 7, 4, 167, 0, 24, 21, 6, 154, 0, 7, 5, 167, 0, 15, 42, 182, 0, 122]
abbrev dktX4_height_2 : List UInt8 := dkwX4_height_2 ++ dktX4_height_3
def dkwX4_height_1 : List UInt8 := [153, 0, 17, 21, 5, 3, 4, 184, 0, 69, 153, 0, 7, 4, 167, 0, 4, 3, 54, 6, 42, 42, 28]
abbrev dktX4_height_1 : List UInt8 := dkwX4_height_1 ++ dktX4_height_2
def dkwX4_height_0 : List UInt8 := [42, 28, 182, 0, 106, 153, 0, 36, 42, 27, 182, 0, 167, 153, 0, 28, 42, 28, 29, 21, 4, 182, 0, 150]
abbrev dktX4_height_0 : List UInt8 := dkwX4_height_0 ++ dktX4_height_1
theorem dksX4_height_0 : cX4_height.data.toList.drop 0 = dktX4_height_0 := by decide +kernel
theorem dksX4_height_1 : cX4_height.data.toList.drop 24 = dktX4_height_1 := dk_seg dksX4_height_0 24 rfl rfl
theorem dksX4_height_2 : cX4_height.data.toList.drop 47 = dktX4_height_2 := dk_seg dksX4_height_1 23 rfl rfl
theorem dksX4_height_3 : cX4_height.data.toList.drop 70 = dktX4_height_3 := dk_seg dksX4_height_2 23 rfl rfl
theorem dksX4_height_4 : cX4_height.data.toList.drop 94 = dktX4_height_4 := dk_seg dksX4_height_3 24 rfl rfl
theorem dX4_height_0 : decode cX4_height 0 = .ok (.aload_n 0, 1) := dk_42 (dk_at dksX4_height_0 0 rfl rfl)
theorem dX4_height_1 : decode cX4_height 1 = .ok (.iload_n 2, 1) := dk_28 (dk_at dksX4_height_0 1 rfl rfl)
theorem dX4_height_2 : decode cX4_height 2 = .ok (.invokevirtual 106, 3) := dk_182 0 106 (dk_at dksX4_height_0 2 rfl rfl)
theorem dX4_height_5 : decode cX4_height 5 = .ok (.ifCond .eq 36, 3) := dk_153 0 36 (dk_at dksX4_height_0 5 rfl rfl)
theorem dX4_height_8 : decode cX4_height 8 = .ok (.aload_n 0, 1) := dk_42 (dk_at dksX4_height_0 8 rfl rfl)
theorem dX4_height_9 : decode cX4_height 9 = .ok (.iload_n 1, 1) := dk_27 (dk_at dksX4_height_0 9 rfl rfl)
theorem dX4_height_10 : decode cX4_height 10 = .ok (.invokevirtual 167, 3) := dk_182 0 167 (dk_at dksX4_height_0 10 rfl rfl)
theorem dX4_height_13 : decode cX4_height 13 = .ok (.ifCond .eq 28, 3) := dk_153 0 28 (dk_at dksX4_height_0 13 rfl rfl)
theorem dX4_height_16 : decode cX4_height 16 = .ok (.aload_n 0, 1) := dk_42 (dk_at dksX4_height_0 16 rfl rfl)
theorem dX4_height_17 : decode cX4_height 17 = .ok (.iload_n 2, 1) := dk_28 (dk_at dksX4_height_0 17 rfl rfl)
theorem dX4_height_18 : decode cX4_height 18 = .ok (.iload_n 3, 1) := dk_29 (dk_at dksX4_height_0 18 rfl rfl)
theorem dX4_height_19 : decode cX4_height 19 = .ok (.iload 4, 2) := dk_21 4 (dk_at dksX4_height_0 19 rfl rfl)
theorem dX4_height_21 : decode cX4_height 21 = .ok (.invokevirtual 150, 3) := dk_182 0 150 (dk_at dksX4_height_0 21 rfl rfl)
theorem dX4_height_24 : decode cX4_height 24 = .ok (.ifCond .eq 17, 3) := dk_153 0 17 (dk_at dksX4_height_1 0 rfl rfl)
theorem dX4_height_27 : decode cX4_height 27 = .ok (.iload 5, 2) := dk_21 5 (dk_at dksX4_height_1 3 rfl rfl)
theorem dX4_height_29 : decode cX4_height 29 = .ok (.iconst 0, 1) := dk_3 (dk_at dksX4_height_1 5 rfl rfl)
theorem dX4_height_30 : decode cX4_height 30 = .ok (.iconst 1, 1) := dk_4 (dk_at dksX4_height_1 6 rfl rfl)
theorem dX4_height_31 : decode cX4_height 31 = .ok (.invokestatic 69, 3) := dk_184 0 69 (dk_at dksX4_height_1 7 rfl rfl)
theorem dX4_height_34 : decode cX4_height 34 = .ok (.ifCond .eq 7, 3) := dk_153 0 7 (dk_at dksX4_height_1 10 rfl rfl)
theorem dX4_height_37 : decode cX4_height 37 = .ok (.iconst 1, 1) := dk_4 (dk_at dksX4_height_1 13 rfl rfl)
theorem dX4_height_38 : decode cX4_height 38 = .ok (.goto 4, 3) := dk_167 0 4 (dk_at dksX4_height_1 14 rfl rfl)
theorem dX4_height_41 : decode cX4_height 41 = .ok (.iconst 0, 1) := dk_3 (dk_at dksX4_height_1 17 rfl rfl)
theorem dX4_height_42 : decode cX4_height 42 = .ok (.istore 6, 2) := dk_54 6 (dk_at dksX4_height_1 18 rfl rfl)
theorem dX4_height_44 : decode cX4_height 44 = .ok (.aload_n 0, 1) := dk_42 (dk_at dksX4_height_1 20 rfl rfl)
theorem dX4_height_45 : decode cX4_height 45 = .ok (.aload_n 0, 1) := dk_42 (dk_at dksX4_height_1 21 rfl rfl)
theorem dX4_height_46 : decode cX4_height 46 = .ok (.iload_n 2, 1) := dk_28 (dk_at dksX4_height_1 22 rfl rfl)
theorem dX4_height_47 : decode cX4_height 47 = .ok (.invokevirtual 106, 3) := dk_182 0 106 (dk_at dksX4_height_2 0 rfl rfl)
theorem dX4_height_50 : decode cX4_height 50 = .ok (.ifCond .ne 7, 3) := dk_154 0 7 (dk_at dksX4_height_2 3 rfl rfl)
theorem dX4_height_53 : decode cX4_height 53 = .ok (.iconst 1, 1) := dk_4 (dk_at dksX4_height_2 6 rfl rfl)
theorem dX4_height_54 : decode cX4_height 54 = .ok (.goto 24, 3) := dk_167 0 24 (dk_at dksX4_height_2 7 rfl rfl)
theorem dX4_height_57 : decode cX4_height 57 = .ok (.iload 6, 2) := dk_21 6 (dk_at dksX4_height_2 10 rfl rfl)
theorem dX4_height_59 : decode cX4_height 59 = .ok (.ifCond .ne 7, 3) := dk_154 0 7 (dk_at dksX4_height_2 12 rfl rfl)
theorem dX4_height_62 : decode cX4_height 62 = .ok (.iconst 2, 1) := dk_5 (dk_at dksX4_height_2 15 rfl rfl)
theorem dX4_height_63 : decode cX4_height 63 = .ok (.goto 15, 3) := dk_167 0 15 (dk_at dksX4_height_2 16 rfl rfl)
theorem dX4_height_66 : decode cX4_height 66 = .ok (.aload_n 0, 1) := dk_42 (dk_at dksX4_height_2 19 rfl rfl)
theorem dX4_height_67 : decode cX4_height 67 = .ok (.invokevirtual 122, 3) := dk_182 0 122 (dk_at dksX4_height_2 20 rfl rfl)
theorem dX4_height_70 : decode cX4_height 70 = .ok (.ifCond .ne 7, 3) := dk_154 0 7 (dk_at dksX4_height_3 0 rfl rfl)
theorem dX4_height_73 : decode cX4_height 73 = .ok (.iconst 3, 1) := dk_6 (dk_at dksX4_height_3 3 rfl rfl)
theorem dX4_height_74 : decode cX4_height 74 = .ok (.goto 4, 3) := dk_167 0 4 (dk_at dksX4_height_3 4 rfl rfl)
theorem dX4_height_77 : decode cX4_height 77 = .ok (.iconst 0, 1) := dk_3 (dk_at dksX4_height_3 7 rfl rfl)
theorem dX4_height_78 : decode cX4_height 78 = .ok (.invokevirtual 61, 3) := dk_182 0 61 (dk_at dksX4_height_3 8 rfl rfl)
theorem dX4_height_81 : decode cX4_height 81 = .ok (.ifCond .eq 5, 3) := dk_153 0 5 (dk_at dksX4_height_3 11 rfl rfl)
theorem dX4_height_84 : decode cX4_height 84 = .ok (.iconst 0, 1) := dk_3 (dk_at dksX4_height_3 14 rfl rfl)
theorem dX4_height_85 : decode cX4_height 85 = .ok (.ireturn, 1) := dk_172 (dk_at dksX4_height_3 15 rfl rfl)
theorem dX4_height_86 : decode cX4_height 86 = .ok (.aload_n 0, 1) := dk_42 (dk_at dksX4_height_3 16 rfl rfl)
theorem dX4_height_87 : decode cX4_height 87 = .ok (.iconst 0, 1) := dk_3 (dk_at dksX4_height_3 17 rfl rfl)
theorem dX4_height_88 : decode cX4_height 88 = .ok (.invokevirtual 170, 3) := dk_182 0 170 (dk_at dksX4_height_3 18 rfl rfl)
theorem dX4_height_91 : decode cX4_height 91 = .ok (.aload_n 0, 1) := dk_42 (dk_at dksX4_height_3 21 rfl rfl)
theorem dX4_height_92 : decode cX4_height 92 = .ok (.iload_n 1, 1) := dk_27 (dk_at dksX4_height_3 22 rfl rfl)
theorem dX4_height_93 : decode cX4_height 93 = .ok (.iload_n 2, 1) := dk_28 (dk_at dksX4_height_3 23 rfl rfl)
theorem dX4_height_94 : decode cX4_height 94 = .ok (.iload_n 3, 1) := dk_29 (dk_at dksX4_height_4 0 rfl rfl)
theorem dX4_height_95 : decode cX4_height 95 = .ok (.i2l, 1) := dk_133 (dk_at dksX4_height_4 1 rfl rfl)
theorem dX4_height_96 : decode cX4_height 96 = .ok (.iload 4, 2) := dk_21 4 (dk_at dksX4_height_4 2 rfl rfl)
theorem dX4_height_98 : decode cX4_height 98 = .ok (.i2l, 1) := dk_133 (dk_at dksX4_height_4 4 rfl rfl)
theorem dX4_height_99 : decode cX4_height 99 = .ok (.invokevirtual 173, 3) := dk_182 0 173 (dk_at dksX4_height_4 5 rfl rfl)
theorem dX4_height_102 : decode cX4_height 102 = .ok (.iload 4, 2) := dk_21 4 (dk_at dksX4_height_4 8 rfl rfl)
theorem dX4_height_104 : decode cX4_height 104 = .ok (.i2l, 1) := dk_133 (dk_at dksX4_height_4 10 rfl rfl)
theorem dX4_height_105 : decode cX4_height 105 = .ok (.iload 5, 2) := dk_21 5 (dk_at dksX4_height_4 11 rfl rfl)
theorem dX4_height_107 : decode cX4_height 107 = .ok (.invokestatic 156, 3) := dk_184 0 156 (dk_at dksX4_height_4 13 rfl rfl)
theorem dX4_height_110 : decode cX4_height 110 = .ok (.ireturn, 1) := dk_172 (dk_at dksX4_height_4 16 rfl rfl)
abbrev cX4_isSet : ByteArray := prog_19_method_55_code
def yX4_isSet : MethodName := ⟨RX4, "isSet", "(I)Z"⟩
def dkwX4_isSet_0 : List UInt8 := [27, 155, 0, 16, 27, 42, 182, 0, 65, 122, 154, 0, 7, 4, 167, 0, 4, 3, 172]
abbrev dktX4_isSet_0 : List UInt8 := dkwX4_isSet_0 ++ []
theorem dksX4_isSet_0 : cX4_isSet.data.toList.drop 0 = dktX4_isSet_0 := by decide +kernel
theorem dX4_isSet_0 : decode cX4_isSet 0 = .ok (.iload_n 1, 1) := dk_27 (dk_at dksX4_isSet_0 0 rfl rfl)
theorem dX4_isSet_1 : decode cX4_isSet 1 = .ok (.ifCond .lt 16, 3) := dk_155 0 16 (dk_at dksX4_isSet_0 1 rfl rfl)
theorem dX4_isSet_4 : decode cX4_isSet 4 = .ok (.iload_n 1, 1) := dk_27 (dk_at dksX4_isSet_0 4 rfl rfl)
theorem dX4_isSet_5 : decode cX4_isSet 5 = .ok (.aload_n 0, 1) := dk_42 (dk_at dksX4_isSet_0 5 rfl rfl)
theorem dX4_isSet_6 : decode cX4_isSet 6 = .ok (.invokevirtual 65, 3) := dk_182 0 65 (dk_at dksX4_isSet_0 6 rfl rfl)
theorem dX4_isSet_9 : decode cX4_isSet 9 = .ok (.ishr, 1) := dk_122 (dk_at dksX4_isSet_0 9 rfl rfl)
theorem dX4_isSet_10 : decode cX4_isSet 10 = .ok (.ifCond .ne 7, 3) := dk_154 0 7 (dk_at dksX4_isSet_0 10 rfl rfl)
theorem dX4_isSet_13 : decode cX4_isSet 13 = .ok (.iconst 1, 1) := dk_4 (dk_at dksX4_isSet_0 13 rfl rfl)
theorem dX4_isSet_14 : decode cX4_isSet 14 = .ok (.goto 4, 3) := dk_167 0 4 (dk_at dksX4_isSet_0 14 rfl rfl)
theorem dX4_isSet_17 : decode cX4_isSet 17 = .ok (.iconst 0, 1) := dk_3 (dk_at dksX4_isSet_0 17 rfl rfl)
theorem dX4_isSet_18 : decode cX4_isSet 18 = .ok (.ireturn, 1) := dk_172 (dk_at dksX4_isSet_0 18 rfl rfl)
abbrev cX4_weighs : ByteArray := prog_19_method_52_code
def yX4_weighs : MethodName := ⟨RX4, "weighs", "(I)V"⟩
def dkwX4_weighs_1 : List UInt8 := [180, 0, 7, 16, 9, 28, 96, 46, 104, 96, 79, 132, 2, 1, 167, 255, 221, 177]
abbrev dktX4_weighs_1 : List UInt8 := dkwX4_weighs_1 ++ []
def dkwX4_weighs_0 : List UInt8 := [3, 61, 28, 16, 8, 162, 0, 35, 42, 180, 0, 25, 28, 42, 180, 0, 7, 4, 28, 96, 46, 27, 42]
abbrev dktX4_weighs_0 : List UInt8 := dkwX4_weighs_0 ++ dktX4_weighs_1
theorem dksX4_weighs_0 : cX4_weighs.data.toList.drop 0 = dktX4_weighs_0 := by decide +kernel
theorem dksX4_weighs_1 : cX4_weighs.data.toList.drop 23 = dktX4_weighs_1 := dk_seg dksX4_weighs_0 23 rfl rfl
theorem dX4_weighs_0 : decode cX4_weighs 0 = .ok (.iconst 0, 1) := dk_3 (dk_at dksX4_weighs_0 0 rfl rfl)
theorem dX4_weighs_1 : decode cX4_weighs 1 = .ok (.istore_n 2, 1) := dk_61 (dk_at dksX4_weighs_0 1 rfl rfl)
theorem dX4_weighs_2 : decode cX4_weighs 2 = .ok (.iload_n 2, 1) := dk_28 (dk_at dksX4_weighs_0 2 rfl rfl)
theorem dX4_weighs_3 : decode cX4_weighs 3 = .ok (.bipush 8, 2) := dk_16 8 (dk_at dksX4_weighs_0 3 rfl rfl)
theorem dX4_weighs_5 : decode cX4_weighs 5 = .ok (.if_icmp .ge 35, 3) := dk_162 0 35 (dk_at dksX4_weighs_0 5 rfl rfl)
theorem dX4_weighs_8 : decode cX4_weighs 8 = .ok (.aload_n 0, 1) := dk_42 (dk_at dksX4_weighs_0 8 rfl rfl)
theorem dX4_weighs_9 : decode cX4_weighs 9 = .ok (.getfield 25, 3) := dk_180 0 25 (dk_at dksX4_weighs_0 9 rfl rfl)
theorem dX4_weighs_12 : decode cX4_weighs 12 = .ok (.iload_n 2, 1) := dk_28 (dk_at dksX4_weighs_0 12 rfl rfl)
theorem dX4_weighs_13 : decode cX4_weighs 13 = .ok (.aload_n 0, 1) := dk_42 (dk_at dksX4_weighs_0 13 rfl rfl)
theorem dX4_weighs_14 : decode cX4_weighs 14 = .ok (.getfield 7, 3) := dk_180 0 7 (dk_at dksX4_weighs_0 14 rfl rfl)
theorem dX4_weighs_17 : decode cX4_weighs 17 = .ok (.iconst 1, 1) := dk_4 (dk_at dksX4_weighs_0 17 rfl rfl)
theorem dX4_weighs_18 : decode cX4_weighs 18 = .ok (.iload_n 2, 1) := dk_28 (dk_at dksX4_weighs_0 18 rfl rfl)
theorem dX4_weighs_19 : decode cX4_weighs 19 = .ok (.iadd, 1) := dk_96 (dk_at dksX4_weighs_0 19 rfl rfl)
theorem dX4_weighs_20 : decode cX4_weighs 20 = .ok (.iaload, 1) := dk_46 (dk_at dksX4_weighs_0 20 rfl rfl)
theorem dX4_weighs_21 : decode cX4_weighs 21 = .ok (.iload_n 1, 1) := dk_27 (dk_at dksX4_weighs_0 21 rfl rfl)
theorem dX4_weighs_22 : decode cX4_weighs 22 = .ok (.aload_n 0, 1) := dk_42 (dk_at dksX4_weighs_0 22 rfl rfl)
theorem dX4_weighs_23 : decode cX4_weighs 23 = .ok (.getfield 7, 3) := dk_180 0 7 (dk_at dksX4_weighs_1 0 rfl rfl)
theorem dX4_weighs_26 : decode cX4_weighs 26 = .ok (.bipush 9, 2) := dk_16 9 (dk_at dksX4_weighs_1 3 rfl rfl)
theorem dX4_weighs_28 : decode cX4_weighs 28 = .ok (.iload_n 2, 1) := dk_28 (dk_at dksX4_weighs_1 5 rfl rfl)
theorem dX4_weighs_29 : decode cX4_weighs 29 = .ok (.iadd, 1) := dk_96 (dk_at dksX4_weighs_1 6 rfl rfl)
theorem dX4_weighs_30 : decode cX4_weighs 30 = .ok (.iaload, 1) := dk_46 (dk_at dksX4_weighs_1 7 rfl rfl)
theorem dX4_weighs_31 : decode cX4_weighs 31 = .ok (.imul, 1) := dk_104 (dk_at dksX4_weighs_1 8 rfl rfl)
theorem dX4_weighs_32 : decode cX4_weighs 32 = .ok (.iadd, 1) := dk_96 (dk_at dksX4_weighs_1 9 rfl rfl)
theorem dX4_weighs_33 : decode cX4_weighs 33 = .ok (.iastore, 1) := dk_79 (dk_at dksX4_weighs_1 10 rfl rfl)
theorem dX4_weighs_34 : decode cX4_weighs 34 = .ok (.iinc 2 1, 3) := dk_132 2 1 (dk_at dksX4_weighs_1 11 rfl rfl)
theorem dX4_weighs_37 : decode cX4_weighs 37 = .ok (.goto (-35), 3) := dk_167 255 221 (dk_at dksX4_weighs_1 14 rfl rfl)
theorem dX4_weighs_40 : decode cX4_weighs 40 = .ok (.return_, 1) := dk_177 (dk_at dksX4_weighs_1 17 rfl rfl)
abbrev cX4_heightAt : ByteArray := prog_19_method_53_code
def yX4_heightAt : MethodName := ⟨RX4, "heightAt", "(IIJJ)J"⟩
def dkwX4_heightAt_3 : List UInt8 := [167, 255, 193, 22, 7, 173]
abbrev dktX4_heightAt_3 : List UInt8 := dkwX4_heightAt_3 ++ []
def dkwX4_heightAt_2 : List UInt8 := [55, 10, 22, 10, 22, 7, 148, 158, 0, 8, 22, 10, 167, 0, 5, 22, 7, 55, 7, 132, 9, 1]
abbrev dktX4_heightAt_2 : List UInt8 := dkwX4_heightAt_2 ++ dktX4_heightAt_3
def dkwX4_heightAt_1 : List UInt8 := [42, 180, 0, 25, 21, 9, 46, 133, 42, 21, 9, 28, 33, 22, 5, 182, 0, 153, 105, 167, 0, 4, 9]
abbrev dktX4_heightAt_1 : List UInt8 := dkwX4_heightAt_1 ++ dktX4_heightAt_2
def dkwX4_heightAt_0 : List UInt8 := [9, 55, 7, 3, 54, 9, 21, 9, 42, 182, 0, 65, 162, 0, 60, 27, 21, 9, 184, 0, 164, 153, 0, 25]
abbrev dktX4_heightAt_0 : List UInt8 := dkwX4_heightAt_0 ++ dktX4_heightAt_1
theorem dksX4_heightAt_0 : cX4_heightAt.data.toList.drop 0 = dktX4_heightAt_0 := by decide +kernel
theorem dksX4_heightAt_1 : cX4_heightAt.data.toList.drop 24 = dktX4_heightAt_1 := dk_seg dksX4_heightAt_0 24 rfl rfl
theorem dksX4_heightAt_2 : cX4_heightAt.data.toList.drop 47 = dktX4_heightAt_2 := dk_seg dksX4_heightAt_1 23 rfl rfl
theorem dksX4_heightAt_3 : cX4_heightAt.data.toList.drop 69 = dktX4_heightAt_3 := dk_seg dksX4_heightAt_2 22 rfl rfl
theorem dX4_heightAt_0 : decode cX4_heightAt 0 = .ok (.lconst 0, 1) := dk_9 (dk_at dksX4_heightAt_0 0 rfl rfl)
theorem dX4_heightAt_1 : decode cX4_heightAt 1 = .ok (.lstore 7, 2) := dk_55 7 (dk_at dksX4_heightAt_0 1 rfl rfl)
theorem dX4_heightAt_3 : decode cX4_heightAt 3 = .ok (.iconst 0, 1) := dk_3 (dk_at dksX4_heightAt_0 3 rfl rfl)
theorem dX4_heightAt_4 : decode cX4_heightAt 4 = .ok (.istore 9, 2) := dk_54 9 (dk_at dksX4_heightAt_0 4 rfl rfl)
theorem dX4_heightAt_6 : decode cX4_heightAt 6 = .ok (.iload 9, 2) := dk_21 9 (dk_at dksX4_heightAt_0 6 rfl rfl)
theorem dX4_heightAt_8 : decode cX4_heightAt 8 = .ok (.aload_n 0, 1) := dk_42 (dk_at dksX4_heightAt_0 8 rfl rfl)
theorem dX4_heightAt_9 : decode cX4_heightAt 9 = .ok (.invokevirtual 65, 3) := dk_182 0 65 (dk_at dksX4_heightAt_0 9 rfl rfl)
theorem dX4_heightAt_12 : decode cX4_heightAt 12 = .ok (.if_icmp .ge 60, 3) := dk_162 0 60 (dk_at dksX4_heightAt_0 12 rfl rfl)
theorem dX4_heightAt_15 : decode cX4_heightAt 15 = .ok (.iload_n 1, 1) := dk_27 (dk_at dksX4_heightAt_0 15 rfl rfl)
theorem dX4_heightAt_16 : decode cX4_heightAt 16 = .ok (.iload 9, 2) := dk_21 9 (dk_at dksX4_heightAt_0 16 rfl rfl)
theorem dX4_heightAt_18 : decode cX4_heightAt 18 = .ok (.invokestatic 164, 3) := dk_184 0 164 (dk_at dksX4_heightAt_0 18 rfl rfl)
theorem dX4_heightAt_21 : decode cX4_heightAt 21 = .ok (.ifCond .eq 25, 3) := dk_153 0 25 (dk_at dksX4_heightAt_0 21 rfl rfl)
theorem dX4_heightAt_24 : decode cX4_heightAt 24 = .ok (.aload_n 0, 1) := dk_42 (dk_at dksX4_heightAt_1 0 rfl rfl)
theorem dX4_heightAt_25 : decode cX4_heightAt 25 = .ok (.getfield 25, 3) := dk_180 0 25 (dk_at dksX4_heightAt_1 1 rfl rfl)
theorem dX4_heightAt_28 : decode cX4_heightAt 28 = .ok (.iload 9, 2) := dk_21 9 (dk_at dksX4_heightAt_1 4 rfl rfl)
theorem dX4_heightAt_30 : decode cX4_heightAt 30 = .ok (.iaload, 1) := dk_46 (dk_at dksX4_heightAt_1 6 rfl rfl)
theorem dX4_heightAt_31 : decode cX4_heightAt 31 = .ok (.i2l, 1) := dk_133 (dk_at dksX4_heightAt_1 7 rfl rfl)
theorem dX4_heightAt_32 : decode cX4_heightAt 32 = .ok (.aload_n 0, 1) := dk_42 (dk_at dksX4_heightAt_1 8 rfl rfl)
theorem dX4_heightAt_33 : decode cX4_heightAt 33 = .ok (.iload 9, 2) := dk_21 9 (dk_at dksX4_heightAt_1 9 rfl rfl)
theorem dX4_heightAt_35 : decode cX4_heightAt 35 = .ok (.iload_n 2, 1) := dk_28 (dk_at dksX4_heightAt_1 11 rfl rfl)
theorem dX4_heightAt_36 : decode cX4_heightAt 36 = .ok (.lload_n 3, 1) := dk_33 (dk_at dksX4_heightAt_1 12 rfl rfl)
theorem dX4_heightAt_37 : decode cX4_heightAt 37 = .ok (.lload 5, 2) := dk_22 5 (dk_at dksX4_heightAt_1 13 rfl rfl)
theorem dX4_heightAt_39 : decode cX4_heightAt 39 = .ok (.invokevirtual 153, 3) := dk_182 0 153 (dk_at dksX4_heightAt_1 15 rfl rfl)
theorem dX4_heightAt_42 : decode cX4_heightAt 42 = .ok (.lmul, 1) := dk_105 (dk_at dksX4_heightAt_1 18 rfl rfl)
theorem dX4_heightAt_43 : decode cX4_heightAt 43 = .ok (.goto 4, 3) := dk_167 0 4 (dk_at dksX4_heightAt_1 19 rfl rfl)
theorem dX4_heightAt_46 : decode cX4_heightAt 46 = .ok (.lconst 0, 1) := dk_9 (dk_at dksX4_heightAt_1 22 rfl rfl)
theorem dX4_heightAt_47 : decode cX4_heightAt 47 = .ok (.lstore 10, 2) := dk_55 10 (dk_at dksX4_heightAt_2 0 rfl rfl)
theorem dX4_heightAt_49 : decode cX4_heightAt 49 = .ok (.lload 10, 2) := dk_22 10 (dk_at dksX4_heightAt_2 2 rfl rfl)
theorem dX4_heightAt_51 : decode cX4_heightAt 51 = .ok (.lload 7, 2) := dk_22 7 (dk_at dksX4_heightAt_2 4 rfl rfl)
theorem dX4_heightAt_53 : decode cX4_heightAt 53 = .ok (.lcmp, 1) := dk_148 (dk_at dksX4_heightAt_2 6 rfl rfl)
theorem dX4_heightAt_54 : decode cX4_heightAt 54 = .ok (.ifCond .le 8, 3) := dk_158 0 8 (dk_at dksX4_heightAt_2 7 rfl rfl)
theorem dX4_heightAt_57 : decode cX4_heightAt 57 = .ok (.lload 10, 2) := dk_22 10 (dk_at dksX4_heightAt_2 10 rfl rfl)
theorem dX4_heightAt_59 : decode cX4_heightAt 59 = .ok (.goto 5, 3) := dk_167 0 5 (dk_at dksX4_heightAt_2 12 rfl rfl)
theorem dX4_heightAt_62 : decode cX4_heightAt 62 = .ok (.lload 7, 2) := dk_22 7 (dk_at dksX4_heightAt_2 15 rfl rfl)
theorem dX4_heightAt_64 : decode cX4_heightAt 64 = .ok (.lstore 7, 2) := dk_55 7 (dk_at dksX4_heightAt_2 17 rfl rfl)
theorem dX4_heightAt_66 : decode cX4_heightAt 66 = .ok (.iinc 9 1, 3) := dk_132 9 1 (dk_at dksX4_heightAt_2 19 rfl rfl)
theorem dX4_heightAt_69 : decode cX4_heightAt 69 = .ok (.goto (-63), 3) := dk_167 255 193 (dk_at dksX4_heightAt_3 0 rfl rfl)
theorem dX4_heightAt_72 : decode cX4_heightAt 72 = .ok (.lload 7, 2) := dk_22 7 (dk_at dksX4_heightAt_3 3 rfl rfl)
theorem dX4_heightAt_74 : decode cX4_heightAt 74 = .ok (.lreturn, 1) := dk_173 (dk_at dksX4_heightAt_3 5 rfl rfl)
abbrev cX4_has : ByteArray := prog_19_method_6_code
def yX4_has : MethodName := ⟨RX4, "has", "(II)Z"⟩
def dkwX4_has_0 : List UInt8 := [26, 27, 122, 4, 126, 4, 160, 0, 7, 4, 167, 0, 4, 3, 172]
abbrev dktX4_has_0 : List UInt8 := dkwX4_has_0 ++ []
theorem dksX4_has_0 : cX4_has.data.toList.drop 0 = dktX4_has_0 := by decide +kernel
theorem dX4_has_0 : decode cX4_has 0 = .ok (.iload_n 0, 1) := dk_26 (dk_at dksX4_has_0 0 rfl rfl)
theorem dX4_has_1 : decode cX4_has 1 = .ok (.iload_n 1, 1) := dk_27 (dk_at dksX4_has_0 1 rfl rfl)
theorem dX4_has_2 : decode cX4_has 2 = .ok (.ishr, 1) := dk_122 (dk_at dksX4_has_0 2 rfl rfl)
theorem dX4_has_3 : decode cX4_has 3 = .ok (.iconst 1, 1) := dk_4 (dk_at dksX4_has_0 3 rfl rfl)
theorem dX4_has_4 : decode cX4_has 4 = .ok (.iand, 1) := dk_126 (dk_at dksX4_has_0 4 rfl rfl)
theorem dX4_has_5 : decode cX4_has 5 = .ok (.iconst 1, 1) := dk_4 (dk_at dksX4_has_0 5 rfl rfl)
theorem dX4_has_6 : decode cX4_has 6 = .ok (.if_icmp .ne 7, 3) := dk_160 0 7 (dk_at dksX4_has_0 6 rfl rfl)
theorem dX4_has_9 : decode cX4_has 9 = .ok (.iconst 1, 1) := dk_4 (dk_at dksX4_has_0 9 rfl rfl)
theorem dX4_has_10 : decode cX4_has 10 = .ok (.goto 4, 3) := dk_167 0 4 (dk_at dksX4_has_0 10 rfl rfl)
theorem dX4_has_13 : decode cX4_has 13 = .ok (.iconst 0, 1) := dk_3 (dk_at dksX4_has_0 13 rfl rfl)
theorem dX4_has_14 : decode cX4_has 14 = .ok (.ireturn, 1) := dk_172 (dk_at dksX4_has_0 14 rfl rfl)
abbrev cX4_cost : ByteArray := prog_19_method_57_code
def yX4_cost : MethodName := ⟨RX4, "cost", "(IIII)I"⟩
def dkwX4_cost_4 : List UInt8 := [21, 4, 184, 0, 156, 172]
abbrev dktX4_cost_4 : List UInt8 := dkwX4_cost_4 ++ []
def dkwX4_cost_3 : List UInt8 := [182, 0, 61, 153, 0, 5, 3, 172, 42, 3, 182, 0, 170, 42, 27, 28, 133, 29, 133, 182, 0, 176, 29, 133]
abbrev dktX4_cost_3 : List UInt8 := dkwX4_cost_3 ++ dktX4_cost_4
def dkwX4_cost_2 : List UInt8 := [167, 0, 24, 21, 5, 154, 0, 7, 5, 167, 0, 15, 42, 182, 0, 122, 154, 0, 7, 6, 167, 0, 4, 3]
abbrev dktX4_cost_2 : List UInt8 := dkwX4_cost_2 ++ dktX4_cost_3
def dkwX4_cost_1 : List UInt8 := [184, 0, 69, 153, 0, 7, 4, 167, 0, 4, 3, 54, 5, 42, 42, 27, 182, 0, 106, 154, 0, 7, 4]
abbrev dktX4_cost_1 : List UInt8 := dkwX4_cost_1 ++ dktX4_cost_2
def dkwX4_cost_0 : List UInt8 := [42, 27, 182, 0, 106, 153, 0, 27, 42, 27, 28, 29, 182, 0, 150, 153, 0, 17, 21, 4, 3, 4]
abbrev dktX4_cost_0 : List UInt8 := dkwX4_cost_0 ++ dktX4_cost_1
theorem dksX4_cost_0 : cX4_cost.data.toList.drop 0 = dktX4_cost_0 := by decide +kernel
theorem dksX4_cost_1 : cX4_cost.data.toList.drop 22 = dktX4_cost_1 := dk_seg dksX4_cost_0 22 rfl rfl
theorem dksX4_cost_2 : cX4_cost.data.toList.drop 45 = dktX4_cost_2 := dk_seg dksX4_cost_1 23 rfl rfl
theorem dksX4_cost_3 : cX4_cost.data.toList.drop 69 = dktX4_cost_3 := dk_seg dksX4_cost_2 24 rfl rfl
theorem dksX4_cost_4 : cX4_cost.data.toList.drop 93 = dktX4_cost_4 := dk_seg dksX4_cost_3 24 rfl rfl
theorem dX4_cost_0 : decode cX4_cost 0 = .ok (.aload_n 0, 1) := dk_42 (dk_at dksX4_cost_0 0 rfl rfl)
theorem dX4_cost_1 : decode cX4_cost 1 = .ok (.iload_n 1, 1) := dk_27 (dk_at dksX4_cost_0 1 rfl rfl)
theorem dX4_cost_2 : decode cX4_cost 2 = .ok (.invokevirtual 106, 3) := dk_182 0 106 (dk_at dksX4_cost_0 2 rfl rfl)
theorem dX4_cost_5 : decode cX4_cost 5 = .ok (.ifCond .eq 27, 3) := dk_153 0 27 (dk_at dksX4_cost_0 5 rfl rfl)
theorem dX4_cost_8 : decode cX4_cost 8 = .ok (.aload_n 0, 1) := dk_42 (dk_at dksX4_cost_0 8 rfl rfl)
theorem dX4_cost_9 : decode cX4_cost 9 = .ok (.iload_n 1, 1) := dk_27 (dk_at dksX4_cost_0 9 rfl rfl)
theorem dX4_cost_10 : decode cX4_cost 10 = .ok (.iload_n 2, 1) := dk_28 (dk_at dksX4_cost_0 10 rfl rfl)
theorem dX4_cost_11 : decode cX4_cost 11 = .ok (.iload_n 3, 1) := dk_29 (dk_at dksX4_cost_0 11 rfl rfl)
theorem dX4_cost_12 : decode cX4_cost 12 = .ok (.invokevirtual 150, 3) := dk_182 0 150 (dk_at dksX4_cost_0 12 rfl rfl)
theorem dX4_cost_15 : decode cX4_cost 15 = .ok (.ifCond .eq 17, 3) := dk_153 0 17 (dk_at dksX4_cost_0 15 rfl rfl)
theorem dX4_cost_18 : decode cX4_cost 18 = .ok (.iload 4, 2) := dk_21 4 (dk_at dksX4_cost_0 18 rfl rfl)
theorem dX4_cost_20 : decode cX4_cost 20 = .ok (.iconst 0, 1) := dk_3 (dk_at dksX4_cost_0 20 rfl rfl)
theorem dX4_cost_21 : decode cX4_cost 21 = .ok (.iconst 1, 1) := dk_4 (dk_at dksX4_cost_0 21 rfl rfl)
theorem dX4_cost_22 : decode cX4_cost 22 = .ok (.invokestatic 69, 3) := dk_184 0 69 (dk_at dksX4_cost_1 0 rfl rfl)
theorem dX4_cost_25 : decode cX4_cost 25 = .ok (.ifCond .eq 7, 3) := dk_153 0 7 (dk_at dksX4_cost_1 3 rfl rfl)
theorem dX4_cost_28 : decode cX4_cost 28 = .ok (.iconst 1, 1) := dk_4 (dk_at dksX4_cost_1 6 rfl rfl)
theorem dX4_cost_29 : decode cX4_cost 29 = .ok (.goto 4, 3) := dk_167 0 4 (dk_at dksX4_cost_1 7 rfl rfl)
theorem dX4_cost_32 : decode cX4_cost 32 = .ok (.iconst 0, 1) := dk_3 (dk_at dksX4_cost_1 10 rfl rfl)
theorem dX4_cost_33 : decode cX4_cost 33 = .ok (.istore 5, 2) := dk_54 5 (dk_at dksX4_cost_1 11 rfl rfl)
theorem dX4_cost_35 : decode cX4_cost 35 = .ok (.aload_n 0, 1) := dk_42 (dk_at dksX4_cost_1 13 rfl rfl)
theorem dX4_cost_36 : decode cX4_cost 36 = .ok (.aload_n 0, 1) := dk_42 (dk_at dksX4_cost_1 14 rfl rfl)
theorem dX4_cost_37 : decode cX4_cost 37 = .ok (.iload_n 1, 1) := dk_27 (dk_at dksX4_cost_1 15 rfl rfl)
theorem dX4_cost_38 : decode cX4_cost 38 = .ok (.invokevirtual 106, 3) := dk_182 0 106 (dk_at dksX4_cost_1 16 rfl rfl)
theorem dX4_cost_41 : decode cX4_cost 41 = .ok (.ifCond .ne 7, 3) := dk_154 0 7 (dk_at dksX4_cost_1 19 rfl rfl)
theorem dX4_cost_44 : decode cX4_cost 44 = .ok (.iconst 1, 1) := dk_4 (dk_at dksX4_cost_1 22 rfl rfl)
theorem dX4_cost_45 : decode cX4_cost 45 = .ok (.goto 24, 3) := dk_167 0 24 (dk_at dksX4_cost_2 0 rfl rfl)
theorem dX4_cost_48 : decode cX4_cost 48 = .ok (.iload 5, 2) := dk_21 5 (dk_at dksX4_cost_2 3 rfl rfl)
theorem dX4_cost_50 : decode cX4_cost 50 = .ok (.ifCond .ne 7, 3) := dk_154 0 7 (dk_at dksX4_cost_2 5 rfl rfl)
theorem dX4_cost_53 : decode cX4_cost 53 = .ok (.iconst 2, 1) := dk_5 (dk_at dksX4_cost_2 8 rfl rfl)
theorem dX4_cost_54 : decode cX4_cost 54 = .ok (.goto 15, 3) := dk_167 0 15 (dk_at dksX4_cost_2 9 rfl rfl)
theorem dX4_cost_57 : decode cX4_cost 57 = .ok (.aload_n 0, 1) := dk_42 (dk_at dksX4_cost_2 12 rfl rfl)
theorem dX4_cost_58 : decode cX4_cost 58 = .ok (.invokevirtual 122, 3) := dk_182 0 122 (dk_at dksX4_cost_2 13 rfl rfl)
theorem dX4_cost_61 : decode cX4_cost 61 = .ok (.ifCond .ne 7, 3) := dk_154 0 7 (dk_at dksX4_cost_2 16 rfl rfl)
theorem dX4_cost_64 : decode cX4_cost 64 = .ok (.iconst 3, 1) := dk_6 (dk_at dksX4_cost_2 19 rfl rfl)
theorem dX4_cost_65 : decode cX4_cost 65 = .ok (.goto 4, 3) := dk_167 0 4 (dk_at dksX4_cost_2 20 rfl rfl)
theorem dX4_cost_68 : decode cX4_cost 68 = .ok (.iconst 0, 1) := dk_3 (dk_at dksX4_cost_2 23 rfl rfl)
theorem dX4_cost_69 : decode cX4_cost 69 = .ok (.invokevirtual 61, 3) := dk_182 0 61 (dk_at dksX4_cost_3 0 rfl rfl)
theorem dX4_cost_72 : decode cX4_cost 72 = .ok (.ifCond .eq 5, 3) := dk_153 0 5 (dk_at dksX4_cost_3 3 rfl rfl)
theorem dX4_cost_75 : decode cX4_cost 75 = .ok (.iconst 0, 1) := dk_3 (dk_at dksX4_cost_3 6 rfl rfl)
theorem dX4_cost_76 : decode cX4_cost 76 = .ok (.ireturn, 1) := dk_172 (dk_at dksX4_cost_3 7 rfl rfl)
theorem dX4_cost_77 : decode cX4_cost 77 = .ok (.aload_n 0, 1) := dk_42 (dk_at dksX4_cost_3 8 rfl rfl)
theorem dX4_cost_78 : decode cX4_cost 78 = .ok (.iconst 0, 1) := dk_3 (dk_at dksX4_cost_3 9 rfl rfl)
theorem dX4_cost_79 : decode cX4_cost 79 = .ok (.invokevirtual 170, 3) := dk_182 0 170 (dk_at dksX4_cost_3 10 rfl rfl)
theorem dX4_cost_82 : decode cX4_cost 82 = .ok (.aload_n 0, 1) := dk_42 (dk_at dksX4_cost_3 13 rfl rfl)
theorem dX4_cost_83 : decode cX4_cost 83 = .ok (.iload_n 1, 1) := dk_27 (dk_at dksX4_cost_3 14 rfl rfl)
theorem dX4_cost_84 : decode cX4_cost 84 = .ok (.iload_n 2, 1) := dk_28 (dk_at dksX4_cost_3 15 rfl rfl)
theorem dX4_cost_85 : decode cX4_cost 85 = .ok (.i2l, 1) := dk_133 (dk_at dksX4_cost_3 16 rfl rfl)
theorem dX4_cost_86 : decode cX4_cost 86 = .ok (.iload_n 3, 1) := dk_29 (dk_at dksX4_cost_3 17 rfl rfl)
theorem dX4_cost_87 : decode cX4_cost 87 = .ok (.i2l, 1) := dk_133 (dk_at dksX4_cost_3 18 rfl rfl)
theorem dX4_cost_88 : decode cX4_cost 88 = .ok (.invokevirtual 176, 3) := dk_182 0 176 (dk_at dksX4_cost_3 19 rfl rfl)
theorem dX4_cost_91 : decode cX4_cost 91 = .ok (.iload_n 3, 1) := dk_29 (dk_at dksX4_cost_3 22 rfl rfl)
theorem dX4_cost_92 : decode cX4_cost 92 = .ok (.i2l, 1) := dk_133 (dk_at dksX4_cost_3 23 rfl rfl)
theorem dX4_cost_93 : decode cX4_cost 93 = .ok (.iload 4, 2) := dk_21 4 (dk_at dksX4_cost_4 0 rfl rfl)
theorem dX4_cost_95 : decode cX4_cost 95 = .ok (.invokestatic 156, 3) := dk_184 0 156 (dk_at dksX4_cost_4 2 rfl rfl)
theorem dX4_cost_98 : decode cX4_cost 98 = .ok (.ireturn, 1) := dk_172 (dk_at dksX4_cost_4 5 rfl rfl)
abbrev cX4_costAt : ByteArray := prog_19_method_54_code
def yX4_costAt : MethodName := ⟨RX4, "costAt", "(IJJ)J"⟩
def dkwX4_costAt_1 : List UInt8 := [133, 42, 21, 8, 27, 32, 22, 4, 182, 0, 153, 105, 97, 55, 6, 132, 8, 1, 167, 255, 220, 22, 6, 173]
abbrev dktX4_costAt_1 : List UInt8 := dkwX4_costAt_1 ++ []
def dkwX4_costAt_0 : List UInt8 := [9, 55, 6, 3, 54, 8, 21, 8, 42, 182, 0, 65, 162, 0, 33, 22, 6, 42, 180, 0, 25, 21, 8, 46]
abbrev dktX4_costAt_0 : List UInt8 := dkwX4_costAt_0 ++ dktX4_costAt_1
theorem dksX4_costAt_0 : cX4_costAt.data.toList.drop 0 = dktX4_costAt_0 := by decide +kernel
theorem dksX4_costAt_1 : cX4_costAt.data.toList.drop 24 = dktX4_costAt_1 := dk_seg dksX4_costAt_0 24 rfl rfl
theorem dX4_costAt_0 : decode cX4_costAt 0 = .ok (.lconst 0, 1) := dk_9 (dk_at dksX4_costAt_0 0 rfl rfl)
theorem dX4_costAt_1 : decode cX4_costAt 1 = .ok (.lstore 6, 2) := dk_55 6 (dk_at dksX4_costAt_0 1 rfl rfl)
theorem dX4_costAt_3 : decode cX4_costAt 3 = .ok (.iconst 0, 1) := dk_3 (dk_at dksX4_costAt_0 3 rfl rfl)
theorem dX4_costAt_4 : decode cX4_costAt 4 = .ok (.istore 8, 2) := dk_54 8 (dk_at dksX4_costAt_0 4 rfl rfl)
theorem dX4_costAt_6 : decode cX4_costAt 6 = .ok (.iload 8, 2) := dk_21 8 (dk_at dksX4_costAt_0 6 rfl rfl)
theorem dX4_costAt_8 : decode cX4_costAt 8 = .ok (.aload_n 0, 1) := dk_42 (dk_at dksX4_costAt_0 8 rfl rfl)
theorem dX4_costAt_9 : decode cX4_costAt 9 = .ok (.invokevirtual 65, 3) := dk_182 0 65 (dk_at dksX4_costAt_0 9 rfl rfl)
theorem dX4_costAt_12 : decode cX4_costAt 12 = .ok (.if_icmp .ge 33, 3) := dk_162 0 33 (dk_at dksX4_costAt_0 12 rfl rfl)
theorem dX4_costAt_15 : decode cX4_costAt 15 = .ok (.lload 6, 2) := dk_22 6 (dk_at dksX4_costAt_0 15 rfl rfl)
theorem dX4_costAt_17 : decode cX4_costAt 17 = .ok (.aload_n 0, 1) := dk_42 (dk_at dksX4_costAt_0 17 rfl rfl)
theorem dX4_costAt_18 : decode cX4_costAt 18 = .ok (.getfield 25, 3) := dk_180 0 25 (dk_at dksX4_costAt_0 18 rfl rfl)
theorem dX4_costAt_21 : decode cX4_costAt 21 = .ok (.iload 8, 2) := dk_21 8 (dk_at dksX4_costAt_0 21 rfl rfl)
theorem dX4_costAt_23 : decode cX4_costAt 23 = .ok (.iaload, 1) := dk_46 (dk_at dksX4_costAt_0 23 rfl rfl)
theorem dX4_costAt_24 : decode cX4_costAt 24 = .ok (.i2l, 1) := dk_133 (dk_at dksX4_costAt_1 0 rfl rfl)
theorem dX4_costAt_25 : decode cX4_costAt 25 = .ok (.aload_n 0, 1) := dk_42 (dk_at dksX4_costAt_1 1 rfl rfl)
theorem dX4_costAt_26 : decode cX4_costAt 26 = .ok (.iload 8, 2) := dk_21 8 (dk_at dksX4_costAt_1 2 rfl rfl)
theorem dX4_costAt_28 : decode cX4_costAt 28 = .ok (.iload_n 1, 1) := dk_27 (dk_at dksX4_costAt_1 4 rfl rfl)
theorem dX4_costAt_29 : decode cX4_costAt 29 = .ok (.lload_n 2, 1) := dk_32 (dk_at dksX4_costAt_1 5 rfl rfl)
theorem dX4_costAt_30 : decode cX4_costAt 30 = .ok (.lload 4, 2) := dk_22 4 (dk_at dksX4_costAt_1 6 rfl rfl)
theorem dX4_costAt_32 : decode cX4_costAt 32 = .ok (.invokevirtual 153, 3) := dk_182 0 153 (dk_at dksX4_costAt_1 8 rfl rfl)
theorem dX4_costAt_35 : decode cX4_costAt 35 = .ok (.lmul, 1) := dk_105 (dk_at dksX4_costAt_1 11 rfl rfl)
theorem dX4_costAt_36 : decode cX4_costAt 36 = .ok (.ladd, 1) := dk_97 (dk_at dksX4_costAt_1 12 rfl rfl)
theorem dX4_costAt_37 : decode cX4_costAt 37 = .ok (.lstore 6, 2) := dk_55 6 (dk_at dksX4_costAt_1 13 rfl rfl)
theorem dX4_costAt_39 : decode cX4_costAt 39 = .ok (.iinc 8 1, 3) := dk_132 8 1 (dk_at dksX4_costAt_1 15 rfl rfl)
theorem dX4_costAt_42 : decode cX4_costAt 42 = .ok (.goto (-36), 3) := dk_167 255 220 (dk_at dksX4_costAt_1 18 rfl rfl)
theorem dX4_costAt_45 : decode cX4_costAt 45 = .ok (.lload 6, 2) := dk_22 6 (dk_at dksX4_costAt_1 21 rfl rfl)
theorem dX4_costAt_47 : decode cX4_costAt 47 = .ok (.lreturn, 1) := dk_173 (dk_at dksX4_costAt_1 23 rfl rfl)
abbrev cX4_corner : ByteArray := prog_19_method_68_code
def yX4_corner : MethodName := ⟨RX4, "corner", "(III)I"⟩
def dkwX4_corner_2 : List UInt8 := [3, 182, 0, 170, 42, 27, 28, 29, 182, 0, 230, 172]
abbrev dktX4_corner_2 : List UInt8 := dkwX4_corner_2 ++ []
def dkwX4_corner_1 : List UInt8 := [167, 0, 15, 42, 182, 0, 122, 154, 0, 7, 6, 167, 0, 4, 3, 182, 0, 61, 153, 0, 5, 3, 172, 42]
abbrev dktX4_corner_1 : List UInt8 := dkwX4_corner_1 ++ dktX4_corner_2
def dkwX4_corner_0 : List UInt8 := [42, 42, 27, 182, 0, 106, 154, 0, 7, 4, 167, 0, 28, 29, 3, 6, 184, 0, 69, 154, 0, 7, 5]
abbrev dktX4_corner_0 : List UInt8 := dkwX4_corner_0 ++ dktX4_corner_1
theorem dksX4_corner_0 : cX4_corner.data.toList.drop 0 = dktX4_corner_0 := by decide +kernel
theorem dksX4_corner_1 : cX4_corner.data.toList.drop 23 = dktX4_corner_1 := dk_seg dksX4_corner_0 23 rfl rfl
theorem dksX4_corner_2 : cX4_corner.data.toList.drop 47 = dktX4_corner_2 := dk_seg dksX4_corner_1 24 rfl rfl
theorem dX4_corner_0 : decode cX4_corner 0 = .ok (.aload_n 0, 1) := dk_42 (dk_at dksX4_corner_0 0 rfl rfl)
theorem dX4_corner_1 : decode cX4_corner 1 = .ok (.aload_n 0, 1) := dk_42 (dk_at dksX4_corner_0 1 rfl rfl)
theorem dX4_corner_2 : decode cX4_corner 2 = .ok (.iload_n 1, 1) := dk_27 (dk_at dksX4_corner_0 2 rfl rfl)
theorem dX4_corner_3 : decode cX4_corner 3 = .ok (.invokevirtual 106, 3) := dk_182 0 106 (dk_at dksX4_corner_0 3 rfl rfl)
theorem dX4_corner_6 : decode cX4_corner 6 = .ok (.ifCond .ne 7, 3) := dk_154 0 7 (dk_at dksX4_corner_0 6 rfl rfl)
theorem dX4_corner_9 : decode cX4_corner 9 = .ok (.iconst 1, 1) := dk_4 (dk_at dksX4_corner_0 9 rfl rfl)
theorem dX4_corner_10 : decode cX4_corner 10 = .ok (.goto 28, 3) := dk_167 0 28 (dk_at dksX4_corner_0 10 rfl rfl)
theorem dX4_corner_13 : decode cX4_corner 13 = .ok (.iload_n 3, 1) := dk_29 (dk_at dksX4_corner_0 13 rfl rfl)
theorem dX4_corner_14 : decode cX4_corner 14 = .ok (.iconst 0, 1) := dk_3 (dk_at dksX4_corner_0 14 rfl rfl)
theorem dX4_corner_15 : decode cX4_corner 15 = .ok (.iconst 3, 1) := dk_6 (dk_at dksX4_corner_0 15 rfl rfl)
theorem dX4_corner_16 : decode cX4_corner 16 = .ok (.invokestatic 69, 3) := dk_184 0 69 (dk_at dksX4_corner_0 16 rfl rfl)
theorem dX4_corner_19 : decode cX4_corner 19 = .ok (.ifCond .ne 7, 3) := dk_154 0 7 (dk_at dksX4_corner_0 19 rfl rfl)
theorem dX4_corner_22 : decode cX4_corner 22 = .ok (.iconst 2, 1) := dk_5 (dk_at dksX4_corner_0 22 rfl rfl)
theorem dX4_corner_23 : decode cX4_corner 23 = .ok (.goto 15, 3) := dk_167 0 15 (dk_at dksX4_corner_1 0 rfl rfl)
theorem dX4_corner_26 : decode cX4_corner 26 = .ok (.aload_n 0, 1) := dk_42 (dk_at dksX4_corner_1 3 rfl rfl)
theorem dX4_corner_27 : decode cX4_corner 27 = .ok (.invokevirtual 122, 3) := dk_182 0 122 (dk_at dksX4_corner_1 4 rfl rfl)
theorem dX4_corner_30 : decode cX4_corner 30 = .ok (.ifCond .ne 7, 3) := dk_154 0 7 (dk_at dksX4_corner_1 7 rfl rfl)
theorem dX4_corner_33 : decode cX4_corner 33 = .ok (.iconst 3, 1) := dk_6 (dk_at dksX4_corner_1 10 rfl rfl)
theorem dX4_corner_34 : decode cX4_corner 34 = .ok (.goto 4, 3) := dk_167 0 4 (dk_at dksX4_corner_1 11 rfl rfl)
theorem dX4_corner_37 : decode cX4_corner 37 = .ok (.iconst 0, 1) := dk_3 (dk_at dksX4_corner_1 14 rfl rfl)
theorem dX4_corner_38 : decode cX4_corner 38 = .ok (.invokevirtual 61, 3) := dk_182 0 61 (dk_at dksX4_corner_1 15 rfl rfl)
theorem dX4_corner_41 : decode cX4_corner 41 = .ok (.ifCond .eq 5, 3) := dk_153 0 5 (dk_at dksX4_corner_1 18 rfl rfl)
theorem dX4_corner_44 : decode cX4_corner 44 = .ok (.iconst 0, 1) := dk_3 (dk_at dksX4_corner_1 21 rfl rfl)
theorem dX4_corner_45 : decode cX4_corner 45 = .ok (.ireturn, 1) := dk_172 (dk_at dksX4_corner_1 22 rfl rfl)
theorem dX4_corner_46 : decode cX4_corner 46 = .ok (.aload_n 0, 1) := dk_42 (dk_at dksX4_corner_1 23 rfl rfl)
theorem dX4_corner_47 : decode cX4_corner 47 = .ok (.iconst 0, 1) := dk_3 (dk_at dksX4_corner_2 0 rfl rfl)
theorem dX4_corner_48 : decode cX4_corner 48 = .ok (.invokevirtual 170, 3) := dk_182 0 170 (dk_at dksX4_corner_2 1 rfl rfl)
theorem dX4_corner_51 : decode cX4_corner 51 = .ok (.aload_n 0, 1) := dk_42 (dk_at dksX4_corner_2 4 rfl rfl)
theorem dX4_corner_52 : decode cX4_corner 52 = .ok (.iload_n 1, 1) := dk_27 (dk_at dksX4_corner_2 5 rfl rfl)
theorem dX4_corner_53 : decode cX4_corner 53 = .ok (.iload_n 2, 1) := dk_28 (dk_at dksX4_corner_2 6 rfl rfl)
theorem dX4_corner_54 : decode cX4_corner 54 = .ok (.iload_n 3, 1) := dk_29 (dk_at dksX4_corner_2 7 rfl rfl)
theorem dX4_corner_55 : decode cX4_corner 55 = .ok (.invokevirtual 230, 3) := dk_182 0 230 (dk_at dksX4_corner_2 8 rfl rfl)
theorem dX4_corner_58 : decode cX4_corner 58 = .ok (.ireturn, 1) := dk_172 (dk_at dksX4_corner_2 11 rfl rfl)
abbrev cX4_cornerTold : ByteArray := prog_19_method_67_code
def yX4_cornerTold : MethodName := ⟨RX4, "cornerTold", "(III)I"⟩
def dkwX4_cornerTold_5 : List UInt8 := [21, 4, 47, 29, 5, 100, 184, 0, 156, 172]
abbrev dktX4_cornerTold_5 : List UInt8 := dkwX4_cornerTold_5 ++ []
def dkwX4_cornerTold_4 : List UInt8 := [4, 100, 27, 42, 180, 0, 28, 21, 4, 47, 42, 180, 0, 32, 21, 4, 47, 182, 0, 173, 42, 180, 0, 32]
abbrev dktX4_cornerTold_4 : List UInt8 := dkwX4_cornerTold_4 ++ dktX4_cornerTold_5
def dkwX4_cornerTold_3 : List UInt8 := [21, 4, 47, 42, 180, 0, 32, 21, 4, 47, 29, 184, 0, 156, 167, 0, 43, 42, 4, 42, 182, 0, 65, 120]
abbrev dktX4_cornerTold_3 : List UInt8 := dkwX4_cornerTold_3 ++ dktX4_cornerTold_4
def dkwX4_cornerTold_2 : List UInt8 := [167, 255, 232, 21, 4, 2, 159, 0, 7, 28, 156, 0, 5, 2, 172, 29, 5, 162, 0, 24, 42, 180, 0, 28]
abbrev dktX4_cornerTold_2 : List UInt8 := dkwX4_cornerTold_2 ++ dktX4_cornerTold_3
def dkwX4_cornerTold_1 : List UInt8 := [21, 5, 28, 162, 0, 24, 21, 4, 2, 159, 0, 18, 42, 27, 21, 4, 182, 0, 227, 54, 4, 132, 5, 1]
abbrev dktX4_cornerTold_1 : List UInt8 := dkwX4_cornerTold_1 ++ dktX4_cornerTold_2
def dkwX4_cornerTold_0 : List UInt8 := [42, 4, 42, 182, 0, 65, 120, 4, 100, 27, 182, 0, 208, 42, 27, 2, 182, 0, 227, 54, 4, 3, 54, 5]
abbrev dktX4_cornerTold_0 : List UInt8 := dkwX4_cornerTold_0 ++ dktX4_cornerTold_1
theorem dksX4_cornerTold_0 : cX4_cornerTold.data.toList.drop 0 = dktX4_cornerTold_0 := by decide +kernel
theorem dksX4_cornerTold_1 : cX4_cornerTold.data.toList.drop 24 = dktX4_cornerTold_1 := dk_seg dksX4_cornerTold_0 24 rfl rfl
theorem dksX4_cornerTold_2 : cX4_cornerTold.data.toList.drop 48 = dktX4_cornerTold_2 := dk_seg dksX4_cornerTold_1 24 rfl rfl
theorem dksX4_cornerTold_3 : cX4_cornerTold.data.toList.drop 72 = dktX4_cornerTold_3 := dk_seg dksX4_cornerTold_2 24 rfl rfl
theorem dksX4_cornerTold_4 : cX4_cornerTold.data.toList.drop 96 = dktX4_cornerTold_4 := dk_seg dksX4_cornerTold_3 24 rfl rfl
theorem dksX4_cornerTold_5 : cX4_cornerTold.data.toList.drop 120 = dktX4_cornerTold_5 := dk_seg dksX4_cornerTold_4 24 rfl rfl
theorem dX4_cornerTold_0 : decode cX4_cornerTold 0 = .ok (.aload_n 0, 1) := dk_42 (dk_at dksX4_cornerTold_0 0 rfl rfl)
theorem dX4_cornerTold_1 : decode cX4_cornerTold 1 = .ok (.iconst 1, 1) := dk_4 (dk_at dksX4_cornerTold_0 1 rfl rfl)
theorem dX4_cornerTold_2 : decode cX4_cornerTold 2 = .ok (.aload_n 0, 1) := dk_42 (dk_at dksX4_cornerTold_0 2 rfl rfl)
theorem dX4_cornerTold_3 : decode cX4_cornerTold 3 = .ok (.invokevirtual 65, 3) := dk_182 0 65 (dk_at dksX4_cornerTold_0 3 rfl rfl)
theorem dX4_cornerTold_6 : decode cX4_cornerTold 6 = .ok (.ishl, 1) := dk_120 (dk_at dksX4_cornerTold_0 6 rfl rfl)
theorem dX4_cornerTold_7 : decode cX4_cornerTold 7 = .ok (.iconst 1, 1) := dk_4 (dk_at dksX4_cornerTold_0 7 rfl rfl)
theorem dX4_cornerTold_8 : decode cX4_cornerTold 8 = .ok (.isub, 1) := dk_100 (dk_at dksX4_cornerTold_0 8 rfl rfl)
theorem dX4_cornerTold_9 : decode cX4_cornerTold 9 = .ok (.iload_n 1, 1) := dk_27 (dk_at dksX4_cornerTold_0 9 rfl rfl)
theorem dX4_cornerTold_10 : decode cX4_cornerTold 10 = .ok (.invokevirtual 208, 3) := dk_182 0 208 (dk_at dksX4_cornerTold_0 10 rfl rfl)
theorem dX4_cornerTold_13 : decode cX4_cornerTold 13 = .ok (.aload_n 0, 1) := dk_42 (dk_at dksX4_cornerTold_0 13 rfl rfl)
theorem dX4_cornerTold_14 : decode cX4_cornerTold 14 = .ok (.iload_n 1, 1) := dk_27 (dk_at dksX4_cornerTold_0 14 rfl rfl)
theorem dX4_cornerTold_15 : decode cX4_cornerTold 15 = .ok (.iconst (-1), 1) := dk_2 (dk_at dksX4_cornerTold_0 15 rfl rfl)
theorem dX4_cornerTold_16 : decode cX4_cornerTold 16 = .ok (.invokevirtual 227, 3) := dk_182 0 227 (dk_at dksX4_cornerTold_0 16 rfl rfl)
theorem dX4_cornerTold_19 : decode cX4_cornerTold 19 = .ok (.istore 4, 2) := dk_54 4 (dk_at dksX4_cornerTold_0 19 rfl rfl)
theorem dX4_cornerTold_21 : decode cX4_cornerTold 21 = .ok (.iconst 0, 1) := dk_3 (dk_at dksX4_cornerTold_0 21 rfl rfl)
theorem dX4_cornerTold_22 : decode cX4_cornerTold 22 = .ok (.istore 5, 2) := dk_54 5 (dk_at dksX4_cornerTold_0 22 rfl rfl)
theorem dX4_cornerTold_24 : decode cX4_cornerTold 24 = .ok (.iload 5, 2) := dk_21 5 (dk_at dksX4_cornerTold_1 0 rfl rfl)
theorem dX4_cornerTold_26 : decode cX4_cornerTold 26 = .ok (.iload_n 2, 1) := dk_28 (dk_at dksX4_cornerTold_1 2 rfl rfl)
theorem dX4_cornerTold_27 : decode cX4_cornerTold 27 = .ok (.if_icmp .ge 24, 3) := dk_162 0 24 (dk_at dksX4_cornerTold_1 3 rfl rfl)
theorem dX4_cornerTold_30 : decode cX4_cornerTold 30 = .ok (.iload 4, 2) := dk_21 4 (dk_at dksX4_cornerTold_1 6 rfl rfl)
theorem dX4_cornerTold_32 : decode cX4_cornerTold 32 = .ok (.iconst (-1), 1) := dk_2 (dk_at dksX4_cornerTold_1 8 rfl rfl)
theorem dX4_cornerTold_33 : decode cX4_cornerTold 33 = .ok (.if_icmp .eq 18, 3) := dk_159 0 18 (dk_at dksX4_cornerTold_1 9 rfl rfl)
theorem dX4_cornerTold_36 : decode cX4_cornerTold 36 = .ok (.aload_n 0, 1) := dk_42 (dk_at dksX4_cornerTold_1 12 rfl rfl)
theorem dX4_cornerTold_37 : decode cX4_cornerTold 37 = .ok (.iload_n 1, 1) := dk_27 (dk_at dksX4_cornerTold_1 13 rfl rfl)
theorem dX4_cornerTold_38 : decode cX4_cornerTold 38 = .ok (.iload 4, 2) := dk_21 4 (dk_at dksX4_cornerTold_1 14 rfl rfl)
theorem dX4_cornerTold_40 : decode cX4_cornerTold 40 = .ok (.invokevirtual 227, 3) := dk_182 0 227 (dk_at dksX4_cornerTold_1 16 rfl rfl)
theorem dX4_cornerTold_43 : decode cX4_cornerTold 43 = .ok (.istore 4, 2) := dk_54 4 (dk_at dksX4_cornerTold_1 19 rfl rfl)
theorem dX4_cornerTold_45 : decode cX4_cornerTold 45 = .ok (.iinc 5 1, 3) := dk_132 5 1 (dk_at dksX4_cornerTold_1 21 rfl rfl)
theorem dX4_cornerTold_48 : decode cX4_cornerTold 48 = .ok (.goto (-24), 3) := dk_167 255 232 (dk_at dksX4_cornerTold_2 0 rfl rfl)
theorem dX4_cornerTold_51 : decode cX4_cornerTold 51 = .ok (.iload 4, 2) := dk_21 4 (dk_at dksX4_cornerTold_2 3 rfl rfl)
theorem dX4_cornerTold_53 : decode cX4_cornerTold 53 = .ok (.iconst (-1), 1) := dk_2 (dk_at dksX4_cornerTold_2 5 rfl rfl)
theorem dX4_cornerTold_54 : decode cX4_cornerTold 54 = .ok (.if_icmp .eq 7, 3) := dk_159 0 7 (dk_at dksX4_cornerTold_2 6 rfl rfl)
theorem dX4_cornerTold_57 : decode cX4_cornerTold 57 = .ok (.iload_n 2, 1) := dk_28 (dk_at dksX4_cornerTold_2 9 rfl rfl)
theorem dX4_cornerTold_58 : decode cX4_cornerTold 58 = .ok (.ifCond .ge 5, 3) := dk_156 0 5 (dk_at dksX4_cornerTold_2 10 rfl rfl)
theorem dX4_cornerTold_61 : decode cX4_cornerTold 61 = .ok (.iconst (-1), 1) := dk_2 (dk_at dksX4_cornerTold_2 13 rfl rfl)
theorem dX4_cornerTold_62 : decode cX4_cornerTold 62 = .ok (.ireturn, 1) := dk_172 (dk_at dksX4_cornerTold_2 14 rfl rfl)
theorem dX4_cornerTold_63 : decode cX4_cornerTold 63 = .ok (.iload_n 3, 1) := dk_29 (dk_at dksX4_cornerTold_2 15 rfl rfl)
theorem dX4_cornerTold_64 : decode cX4_cornerTold 64 = .ok (.iconst 2, 1) := dk_5 (dk_at dksX4_cornerTold_2 16 rfl rfl)
theorem dX4_cornerTold_65 : decode cX4_cornerTold 65 = .ok (.if_icmp .ge 24, 3) := dk_162 0 24 (dk_at dksX4_cornerTold_2 17 rfl rfl)
theorem dX4_cornerTold_68 : decode cX4_cornerTold 68 = .ok (.aload_n 0, 1) := dk_42 (dk_at dksX4_cornerTold_2 20 rfl rfl)
theorem dX4_cornerTold_69 : decode cX4_cornerTold 69 = .ok (.getfield 28, 3) := dk_180 0 28 (dk_at dksX4_cornerTold_2 21 rfl rfl)
theorem dX4_cornerTold_72 : decode cX4_cornerTold 72 = .ok (.iload 4, 2) := dk_21 4 (dk_at dksX4_cornerTold_3 0 rfl rfl)
theorem dX4_cornerTold_74 : decode cX4_cornerTold 74 = .ok (.laload, 1) := dk_47 (dk_at dksX4_cornerTold_3 2 rfl rfl)
theorem dX4_cornerTold_75 : decode cX4_cornerTold 75 = .ok (.aload_n 0, 1) := dk_42 (dk_at dksX4_cornerTold_3 3 rfl rfl)
theorem dX4_cornerTold_76 : decode cX4_cornerTold 76 = .ok (.getfield 32, 3) := dk_180 0 32 (dk_at dksX4_cornerTold_3 4 rfl rfl)
theorem dX4_cornerTold_79 : decode cX4_cornerTold 79 = .ok (.iload 4, 2) := dk_21 4 (dk_at dksX4_cornerTold_3 7 rfl rfl)
theorem dX4_cornerTold_81 : decode cX4_cornerTold 81 = .ok (.laload, 1) := dk_47 (dk_at dksX4_cornerTold_3 9 rfl rfl)
theorem dX4_cornerTold_82 : decode cX4_cornerTold 82 = .ok (.iload_n 3, 1) := dk_29 (dk_at dksX4_cornerTold_3 10 rfl rfl)
theorem dX4_cornerTold_83 : decode cX4_cornerTold 83 = .ok (.invokestatic 156, 3) := dk_184 0 156 (dk_at dksX4_cornerTold_3 11 rfl rfl)
theorem dX4_cornerTold_86 : decode cX4_cornerTold 86 = .ok (.goto 43, 3) := dk_167 0 43 (dk_at dksX4_cornerTold_3 14 rfl rfl)
theorem dX4_cornerTold_89 : decode cX4_cornerTold 89 = .ok (.aload_n 0, 1) := dk_42 (dk_at dksX4_cornerTold_3 17 rfl rfl)
theorem dX4_cornerTold_90 : decode cX4_cornerTold 90 = .ok (.iconst 1, 1) := dk_4 (dk_at dksX4_cornerTold_3 18 rfl rfl)
theorem dX4_cornerTold_91 : decode cX4_cornerTold 91 = .ok (.aload_n 0, 1) := dk_42 (dk_at dksX4_cornerTold_3 19 rfl rfl)
theorem dX4_cornerTold_92 : decode cX4_cornerTold 92 = .ok (.invokevirtual 65, 3) := dk_182 0 65 (dk_at dksX4_cornerTold_3 20 rfl rfl)
theorem dX4_cornerTold_95 : decode cX4_cornerTold 95 = .ok (.ishl, 1) := dk_120 (dk_at dksX4_cornerTold_3 23 rfl rfl)
theorem dX4_cornerTold_96 : decode cX4_cornerTold 96 = .ok (.iconst 1, 1) := dk_4 (dk_at dksX4_cornerTold_4 0 rfl rfl)
theorem dX4_cornerTold_97 : decode cX4_cornerTold 97 = .ok (.isub, 1) := dk_100 (dk_at dksX4_cornerTold_4 1 rfl rfl)
theorem dX4_cornerTold_98 : decode cX4_cornerTold 98 = .ok (.iload_n 1, 1) := dk_27 (dk_at dksX4_cornerTold_4 2 rfl rfl)
theorem dX4_cornerTold_99 : decode cX4_cornerTold 99 = .ok (.aload_n 0, 1) := dk_42 (dk_at dksX4_cornerTold_4 3 rfl rfl)
theorem dX4_cornerTold_100 : decode cX4_cornerTold 100 = .ok (.getfield 28, 3) := dk_180 0 28 (dk_at dksX4_cornerTold_4 4 rfl rfl)
theorem dX4_cornerTold_103 : decode cX4_cornerTold 103 = .ok (.iload 4, 2) := dk_21 4 (dk_at dksX4_cornerTold_4 7 rfl rfl)
theorem dX4_cornerTold_105 : decode cX4_cornerTold 105 = .ok (.laload, 1) := dk_47 (dk_at dksX4_cornerTold_4 9 rfl rfl)
theorem dX4_cornerTold_106 : decode cX4_cornerTold 106 = .ok (.aload_n 0, 1) := dk_42 (dk_at dksX4_cornerTold_4 10 rfl rfl)
theorem dX4_cornerTold_107 : decode cX4_cornerTold 107 = .ok (.getfield 32, 3) := dk_180 0 32 (dk_at dksX4_cornerTold_4 11 rfl rfl)
theorem dX4_cornerTold_110 : decode cX4_cornerTold 110 = .ok (.iload 4, 2) := dk_21 4 (dk_at dksX4_cornerTold_4 14 rfl rfl)
theorem dX4_cornerTold_112 : decode cX4_cornerTold 112 = .ok (.laload, 1) := dk_47 (dk_at dksX4_cornerTold_4 16 rfl rfl)
theorem dX4_cornerTold_113 : decode cX4_cornerTold 113 = .ok (.invokevirtual 173, 3) := dk_182 0 173 (dk_at dksX4_cornerTold_4 17 rfl rfl)
theorem dX4_cornerTold_116 : decode cX4_cornerTold 116 = .ok (.aload_n 0, 1) := dk_42 (dk_at dksX4_cornerTold_4 20 rfl rfl)
theorem dX4_cornerTold_117 : decode cX4_cornerTold 117 = .ok (.getfield 32, 3) := dk_180 0 32 (dk_at dksX4_cornerTold_4 21 rfl rfl)
theorem dX4_cornerTold_120 : decode cX4_cornerTold 120 = .ok (.iload 4, 2) := dk_21 4 (dk_at dksX4_cornerTold_5 0 rfl rfl)
theorem dX4_cornerTold_122 : decode cX4_cornerTold 122 = .ok (.laload, 1) := dk_47 (dk_at dksX4_cornerTold_5 2 rfl rfl)
theorem dX4_cornerTold_123 : decode cX4_cornerTold 123 = .ok (.iload_n 3, 1) := dk_29 (dk_at dksX4_cornerTold_5 3 rfl rfl)
theorem dX4_cornerTold_124 : decode cX4_cornerTold 124 = .ok (.iconst 2, 1) := dk_5 (dk_at dksX4_cornerTold_5 4 rfl rfl)
theorem dX4_cornerTold_125 : decode cX4_cornerTold 125 = .ok (.isub, 1) := dk_100 (dk_at dksX4_cornerTold_5 5 rfl rfl)
theorem dX4_cornerTold_126 : decode cX4_cornerTold 126 = .ok (.invokestatic 156, 3) := dk_184 0 156 (dk_at dksX4_cornerTold_5 6 rfl rfl)
theorem dX4_cornerTold_129 : decode cX4_cornerTold 129 = .ok (.ireturn, 1) := dk_172 (dk_at dksX4_cornerTold_5 9 rfl rfl)
abbrev cX4_laysCrossings : ByteArray := prog_19_method_60_code
def yX4_laysCrossings : MethodName := ⟨RX4, "laysCrossings", "(II)V"⟩
def dkwX4_laysCrossings_10 : List UInt8 := [182, 0, 185, 42, 28, 42, 29, 5, 182, 0, 100, 133, 10, 182, 0, 185, 132, 3, 1, 167, 255, 209, 177]
abbrev dktX4_laysCrossings_10 : List UInt8 := dkwX4_laysCrossings_10 ++ []
def dkwX4_laysCrossings_9 : List UInt8 := [162, 0, 45, 42, 29, 3, 182, 0, 100, 28, 160, 0, 29, 42, 28, 42, 29, 4, 182, 0, 100, 133, 10]
abbrev dktX4_laysCrossings_9 : List UInt8 := dkwX4_laysCrossings_9 ++ dktX4_laysCrossings_10
def dkwX4_laysCrossings_8 : List UInt8 := [167, 255, 177, 132, 4, 1, 167, 255, 162, 132, 3, 1, 167, 255, 88, 3, 62, 29, 42, 182, 0, 97]
abbrev dktX4_laysCrossings_8 : List UInt8 := dkwX4_laysCrossings_8 ++ dktX4_laysCrossings_9
def dkwX4_laysCrossings_7 : List UInt8 := [182, 0, 191, 42, 21, 4, 28, 21, 5, 5, 108, 4, 182, 0, 191, 101, 182, 0, 185, 132, 5, 1]
abbrev dktX4_laysCrossings_7 : List UInt8 := dkwX4_laysCrossings_7 ++ dktX4_laysCrossings_8
def dkwX4_laysCrossings_6 : List UInt8 := [182, 0, 191, 42, 29, 28, 21, 5, 5, 112, 3, 182, 0, 191, 101, 42, 29, 28, 21, 5, 5, 112, 4]
abbrev dktX4_laysCrossings_6 : List UInt8 := dkwX4_laysCrossings_6 ++ dktX4_laysCrossings_7
def dkwX4_laysCrossings_5 : List UInt8 := [153, 0, 71, 27, 21, 4, 184, 0, 164, 153, 0, 62, 42, 28, 42, 21, 4, 28, 21, 5, 5, 108, 3]
abbrev dktX4_laysCrossings_5 : List UInt8 := dkwX4_laysCrossings_5 ++ dktX4_laysCrossings_6
def dkwX4_laysCrossings_4 : List UInt8 := [54, 4, 21, 4, 29, 162, 0, 94, 3, 54, 5, 21, 5, 7, 162, 0, 79, 27, 29, 184, 0, 164]
abbrev dktX4_laysCrossings_4 : List UInt8 := dkwX4_laysCrossings_4 ++ dktX4_laysCrossings_5
def dkwX4_laysCrossings_3 : List UInt8 := [180, 0, 22, 16, 8, 29, 104, 42, 28, 3, 182, 0, 79, 96, 46, 100, 133, 20, 0, 189, 182, 0, 185, 3]
abbrev dktX4_laysCrossings_3 : List UInt8 := dkwX4_laysCrossings_3 ++ dktX4_laysCrossings_4
def dkwX4_laysCrossings_2 : List UInt8 := [180, 0, 22, 16, 8, 29, 104, 42, 28, 4, 182, 0, 79, 96, 46, 42, 28, 5, 182, 0, 79, 96, 42]
abbrev dktX4_laysCrossings_2 : List UInt8 := dkwX4_laysCrossings_2 ++ dktX4_laysCrossings_3
def dkwX4_laysCrossings_1 : List UInt8 := [182, 0, 185, 3, 62, 29, 42, 182, 0, 65, 162, 0, 166, 27, 29, 184, 0, 164, 153, 0, 52, 42, 28, 42]
abbrev dktX4_laysCrossings_1 : List UInt8 := dkwX4_laysCrossings_1 ++ dktX4_laysCrossings_2
def dkwX4_laysCrossings_0 : List UInt8 := [42, 3, 181, 0, 182, 42, 28, 9, 10, 182, 0, 185, 42, 28, 42, 28, 5, 182, 0, 79, 133, 10]
abbrev dktX4_laysCrossings_0 : List UInt8 := dkwX4_laysCrossings_0 ++ dktX4_laysCrossings_1
theorem dksX4_laysCrossings_0 : cX4_laysCrossings.data.toList.drop 0 = dktX4_laysCrossings_0 := by decide +kernel
theorem dksX4_laysCrossings_1 : cX4_laysCrossings.data.toList.drop 22 = dktX4_laysCrossings_1 := dk_seg dksX4_laysCrossings_0 22 rfl rfl
theorem dksX4_laysCrossings_2 : cX4_laysCrossings.data.toList.drop 46 = dktX4_laysCrossings_2 := dk_seg dksX4_laysCrossings_1 24 rfl rfl
theorem dksX4_laysCrossings_3 : cX4_laysCrossings.data.toList.drop 69 = dktX4_laysCrossings_3 := dk_seg dksX4_laysCrossings_2 23 rfl rfl
theorem dksX4_laysCrossings_4 : cX4_laysCrossings.data.toList.drop 93 = dktX4_laysCrossings_4 := dk_seg dksX4_laysCrossings_3 24 rfl rfl
theorem dksX4_laysCrossings_5 : cX4_laysCrossings.data.toList.drop 115 = dktX4_laysCrossings_5 := dk_seg dksX4_laysCrossings_4 22 rfl rfl
theorem dksX4_laysCrossings_6 : cX4_laysCrossings.data.toList.drop 138 = dktX4_laysCrossings_6 := dk_seg dksX4_laysCrossings_5 23 rfl rfl
theorem dksX4_laysCrossings_7 : cX4_laysCrossings.data.toList.drop 161 = dktX4_laysCrossings_7 := dk_seg dksX4_laysCrossings_6 23 rfl rfl
theorem dksX4_laysCrossings_8 : cX4_laysCrossings.data.toList.drop 183 = dktX4_laysCrossings_8 := dk_seg dksX4_laysCrossings_7 22 rfl rfl
theorem dksX4_laysCrossings_9 : cX4_laysCrossings.data.toList.drop 205 = dktX4_laysCrossings_9 := dk_seg dksX4_laysCrossings_8 22 rfl rfl
theorem dksX4_laysCrossings_10 : cX4_laysCrossings.data.toList.drop 228 = dktX4_laysCrossings_10 := dk_seg dksX4_laysCrossings_9 23 rfl rfl
theorem dX4_laysCrossings_0 : decode cX4_laysCrossings 0 = .ok (.aload_n 0, 1) := dk_42 (dk_at dksX4_laysCrossings_0 0 rfl rfl)
theorem dX4_laysCrossings_1 : decode cX4_laysCrossings 1 = .ok (.iconst 0, 1) := dk_3 (dk_at dksX4_laysCrossings_0 1 rfl rfl)
theorem dX4_laysCrossings_2 : decode cX4_laysCrossings 2 = .ok (.putfield 182, 3) := dk_181 0 182 (dk_at dksX4_laysCrossings_0 2 rfl rfl)
theorem dX4_laysCrossings_5 : decode cX4_laysCrossings 5 = .ok (.aload_n 0, 1) := dk_42 (dk_at dksX4_laysCrossings_0 5 rfl rfl)
theorem dX4_laysCrossings_6 : decode cX4_laysCrossings 6 = .ok (.iload_n 2, 1) := dk_28 (dk_at dksX4_laysCrossings_0 6 rfl rfl)
theorem dX4_laysCrossings_7 : decode cX4_laysCrossings 7 = .ok (.lconst 0, 1) := dk_9 (dk_at dksX4_laysCrossings_0 7 rfl rfl)
theorem dX4_laysCrossings_8 : decode cX4_laysCrossings 8 = .ok (.lconst 1, 1) := dk_10 (dk_at dksX4_laysCrossings_0 8 rfl rfl)
theorem dX4_laysCrossings_9 : decode cX4_laysCrossings 9 = .ok (.invokevirtual 185, 3) := dk_182 0 185 (dk_at dksX4_laysCrossings_0 9 rfl rfl)
theorem dX4_laysCrossings_12 : decode cX4_laysCrossings 12 = .ok (.aload_n 0, 1) := dk_42 (dk_at dksX4_laysCrossings_0 12 rfl rfl)
theorem dX4_laysCrossings_13 : decode cX4_laysCrossings 13 = .ok (.iload_n 2, 1) := dk_28 (dk_at dksX4_laysCrossings_0 13 rfl rfl)
theorem dX4_laysCrossings_14 : decode cX4_laysCrossings 14 = .ok (.aload_n 0, 1) := dk_42 (dk_at dksX4_laysCrossings_0 14 rfl rfl)
theorem dX4_laysCrossings_15 : decode cX4_laysCrossings 15 = .ok (.iload_n 2, 1) := dk_28 (dk_at dksX4_laysCrossings_0 15 rfl rfl)
theorem dX4_laysCrossings_16 : decode cX4_laysCrossings 16 = .ok (.iconst 2, 1) := dk_5 (dk_at dksX4_laysCrossings_0 16 rfl rfl)
theorem dX4_laysCrossings_17 : decode cX4_laysCrossings 17 = .ok (.invokevirtual 79, 3) := dk_182 0 79 (dk_at dksX4_laysCrossings_0 17 rfl rfl)
theorem dX4_laysCrossings_20 : decode cX4_laysCrossings 20 = .ok (.i2l, 1) := dk_133 (dk_at dksX4_laysCrossings_0 20 rfl rfl)
theorem dX4_laysCrossings_21 : decode cX4_laysCrossings 21 = .ok (.lconst 1, 1) := dk_10 (dk_at dksX4_laysCrossings_0 21 rfl rfl)
theorem dX4_laysCrossings_22 : decode cX4_laysCrossings 22 = .ok (.invokevirtual 185, 3) := dk_182 0 185 (dk_at dksX4_laysCrossings_1 0 rfl rfl)
theorem dX4_laysCrossings_25 : decode cX4_laysCrossings 25 = .ok (.iconst 0, 1) := dk_3 (dk_at dksX4_laysCrossings_1 3 rfl rfl)
theorem dX4_laysCrossings_26 : decode cX4_laysCrossings 26 = .ok (.istore_n 3, 1) := dk_62 (dk_at dksX4_laysCrossings_1 4 rfl rfl)
theorem dX4_laysCrossings_27 : decode cX4_laysCrossings 27 = .ok (.iload_n 3, 1) := dk_29 (dk_at dksX4_laysCrossings_1 5 rfl rfl)
theorem dX4_laysCrossings_28 : decode cX4_laysCrossings 28 = .ok (.aload_n 0, 1) := dk_42 (dk_at dksX4_laysCrossings_1 6 rfl rfl)
theorem dX4_laysCrossings_29 : decode cX4_laysCrossings 29 = .ok (.invokevirtual 65, 3) := dk_182 0 65 (dk_at dksX4_laysCrossings_1 7 rfl rfl)
theorem dX4_laysCrossings_32 : decode cX4_laysCrossings 32 = .ok (.if_icmp .ge 166, 3) := dk_162 0 166 (dk_at dksX4_laysCrossings_1 10 rfl rfl)
theorem dX4_laysCrossings_35 : decode cX4_laysCrossings 35 = .ok (.iload_n 1, 1) := dk_27 (dk_at dksX4_laysCrossings_1 13 rfl rfl)
theorem dX4_laysCrossings_36 : decode cX4_laysCrossings 36 = .ok (.iload_n 3, 1) := dk_29 (dk_at dksX4_laysCrossings_1 14 rfl rfl)
theorem dX4_laysCrossings_37 : decode cX4_laysCrossings 37 = .ok (.invokestatic 164, 3) := dk_184 0 164 (dk_at dksX4_laysCrossings_1 15 rfl rfl)
theorem dX4_laysCrossings_40 : decode cX4_laysCrossings 40 = .ok (.ifCond .eq 52, 3) := dk_153 0 52 (dk_at dksX4_laysCrossings_1 18 rfl rfl)
theorem dX4_laysCrossings_43 : decode cX4_laysCrossings 43 = .ok (.aload_n 0, 1) := dk_42 (dk_at dksX4_laysCrossings_1 21 rfl rfl)
theorem dX4_laysCrossings_44 : decode cX4_laysCrossings 44 = .ok (.iload_n 2, 1) := dk_28 (dk_at dksX4_laysCrossings_1 22 rfl rfl)
theorem dX4_laysCrossings_45 : decode cX4_laysCrossings 45 = .ok (.aload_n 0, 1) := dk_42 (dk_at dksX4_laysCrossings_1 23 rfl rfl)
theorem dX4_laysCrossings_46 : decode cX4_laysCrossings 46 = .ok (.getfield 22, 3) := dk_180 0 22 (dk_at dksX4_laysCrossings_2 0 rfl rfl)
theorem dX4_laysCrossings_49 : decode cX4_laysCrossings 49 = .ok (.bipush 8, 2) := dk_16 8 (dk_at dksX4_laysCrossings_2 3 rfl rfl)
theorem dX4_laysCrossings_51 : decode cX4_laysCrossings 51 = .ok (.iload_n 3, 1) := dk_29 (dk_at dksX4_laysCrossings_2 5 rfl rfl)
theorem dX4_laysCrossings_52 : decode cX4_laysCrossings 52 = .ok (.imul, 1) := dk_104 (dk_at dksX4_laysCrossings_2 6 rfl rfl)
theorem dX4_laysCrossings_53 : decode cX4_laysCrossings 53 = .ok (.aload_n 0, 1) := dk_42 (dk_at dksX4_laysCrossings_2 7 rfl rfl)
theorem dX4_laysCrossings_54 : decode cX4_laysCrossings 54 = .ok (.iload_n 2, 1) := dk_28 (dk_at dksX4_laysCrossings_2 8 rfl rfl)
theorem dX4_laysCrossings_55 : decode cX4_laysCrossings 55 = .ok (.iconst 1, 1) := dk_4 (dk_at dksX4_laysCrossings_2 9 rfl rfl)
theorem dX4_laysCrossings_56 : decode cX4_laysCrossings 56 = .ok (.invokevirtual 79, 3) := dk_182 0 79 (dk_at dksX4_laysCrossings_2 10 rfl rfl)
theorem dX4_laysCrossings_59 : decode cX4_laysCrossings 59 = .ok (.iadd, 1) := dk_96 (dk_at dksX4_laysCrossings_2 13 rfl rfl)
theorem dX4_laysCrossings_60 : decode cX4_laysCrossings 60 = .ok (.iaload, 1) := dk_46 (dk_at dksX4_laysCrossings_2 14 rfl rfl)
theorem dX4_laysCrossings_61 : decode cX4_laysCrossings 61 = .ok (.aload_n 0, 1) := dk_42 (dk_at dksX4_laysCrossings_2 15 rfl rfl)
theorem dX4_laysCrossings_62 : decode cX4_laysCrossings 62 = .ok (.iload_n 2, 1) := dk_28 (dk_at dksX4_laysCrossings_2 16 rfl rfl)
theorem dX4_laysCrossings_63 : decode cX4_laysCrossings 63 = .ok (.iconst 2, 1) := dk_5 (dk_at dksX4_laysCrossings_2 17 rfl rfl)
theorem dX4_laysCrossings_64 : decode cX4_laysCrossings 64 = .ok (.invokevirtual 79, 3) := dk_182 0 79 (dk_at dksX4_laysCrossings_2 18 rfl rfl)
theorem dX4_laysCrossings_67 : decode cX4_laysCrossings 67 = .ok (.iadd, 1) := dk_96 (dk_at dksX4_laysCrossings_2 21 rfl rfl)
theorem dX4_laysCrossings_68 : decode cX4_laysCrossings 68 = .ok (.aload_n 0, 1) := dk_42 (dk_at dksX4_laysCrossings_2 22 rfl rfl)
theorem dX4_laysCrossings_69 : decode cX4_laysCrossings 69 = .ok (.getfield 22, 3) := dk_180 0 22 (dk_at dksX4_laysCrossings_3 0 rfl rfl)
theorem dX4_laysCrossings_72 : decode cX4_laysCrossings 72 = .ok (.bipush 8, 2) := dk_16 8 (dk_at dksX4_laysCrossings_3 3 rfl rfl)
theorem dX4_laysCrossings_74 : decode cX4_laysCrossings 74 = .ok (.iload_n 3, 1) := dk_29 (dk_at dksX4_laysCrossings_3 5 rfl rfl)
theorem dX4_laysCrossings_75 : decode cX4_laysCrossings 75 = .ok (.imul, 1) := dk_104 (dk_at dksX4_laysCrossings_3 6 rfl rfl)
theorem dX4_laysCrossings_76 : decode cX4_laysCrossings 76 = .ok (.aload_n 0, 1) := dk_42 (dk_at dksX4_laysCrossings_3 7 rfl rfl)
theorem dX4_laysCrossings_77 : decode cX4_laysCrossings 77 = .ok (.iload_n 2, 1) := dk_28 (dk_at dksX4_laysCrossings_3 8 rfl rfl)
theorem dX4_laysCrossings_78 : decode cX4_laysCrossings 78 = .ok (.iconst 0, 1) := dk_3 (dk_at dksX4_laysCrossings_3 9 rfl rfl)
theorem dX4_laysCrossings_79 : decode cX4_laysCrossings 79 = .ok (.invokevirtual 79, 3) := dk_182 0 79 (dk_at dksX4_laysCrossings_3 10 rfl rfl)
theorem dX4_laysCrossings_82 : decode cX4_laysCrossings 82 = .ok (.iadd, 1) := dk_96 (dk_at dksX4_laysCrossings_3 13 rfl rfl)
theorem dX4_laysCrossings_83 : decode cX4_laysCrossings 83 = .ok (.iaload, 1) := dk_46 (dk_at dksX4_laysCrossings_3 14 rfl rfl)
theorem dX4_laysCrossings_84 : decode cX4_laysCrossings 84 = .ok (.isub, 1) := dk_100 (dk_at dksX4_laysCrossings_3 15 rfl rfl)
theorem dX4_laysCrossings_85 : decode cX4_laysCrossings 85 = .ok (.i2l, 1) := dk_133 (dk_at dksX4_laysCrossings_3 16 rfl rfl)
theorem dX4_laysCrossings_86 : decode cX4_laysCrossings 86 = .ok (.ldc2_w 189, 3) := dk_20 0 189 (dk_at dksX4_laysCrossings_3 17 rfl rfl)
theorem dX4_laysCrossings_89 : decode cX4_laysCrossings 89 = .ok (.invokevirtual 185, 3) := dk_182 0 185 (dk_at dksX4_laysCrossings_3 20 rfl rfl)
theorem dX4_laysCrossings_92 : decode cX4_laysCrossings 92 = .ok (.iconst 0, 1) := dk_3 (dk_at dksX4_laysCrossings_3 23 rfl rfl)
theorem dX4_laysCrossings_93 : decode cX4_laysCrossings 93 = .ok (.istore 4, 2) := dk_54 4 (dk_at dksX4_laysCrossings_4 0 rfl rfl)
theorem dX4_laysCrossings_95 : decode cX4_laysCrossings 95 = .ok (.iload 4, 2) := dk_21 4 (dk_at dksX4_laysCrossings_4 2 rfl rfl)
theorem dX4_laysCrossings_97 : decode cX4_laysCrossings 97 = .ok (.iload_n 3, 1) := dk_29 (dk_at dksX4_laysCrossings_4 4 rfl rfl)
theorem dX4_laysCrossings_98 : decode cX4_laysCrossings 98 = .ok (.if_icmp .ge 94, 3) := dk_162 0 94 (dk_at dksX4_laysCrossings_4 5 rfl rfl)
theorem dX4_laysCrossings_101 : decode cX4_laysCrossings 101 = .ok (.iconst 0, 1) := dk_3 (dk_at dksX4_laysCrossings_4 8 rfl rfl)
theorem dX4_laysCrossings_102 : decode cX4_laysCrossings 102 = .ok (.istore 5, 2) := dk_54 5 (dk_at dksX4_laysCrossings_4 9 rfl rfl)
theorem dX4_laysCrossings_104 : decode cX4_laysCrossings 104 = .ok (.iload 5, 2) := dk_21 5 (dk_at dksX4_laysCrossings_4 11 rfl rfl)
theorem dX4_laysCrossings_106 : decode cX4_laysCrossings 106 = .ok (.iconst 4, 1) := dk_7 (dk_at dksX4_laysCrossings_4 13 rfl rfl)
theorem dX4_laysCrossings_107 : decode cX4_laysCrossings 107 = .ok (.if_icmp .ge 79, 3) := dk_162 0 79 (dk_at dksX4_laysCrossings_4 14 rfl rfl)
theorem dX4_laysCrossings_110 : decode cX4_laysCrossings 110 = .ok (.iload_n 1, 1) := dk_27 (dk_at dksX4_laysCrossings_4 17 rfl rfl)
theorem dX4_laysCrossings_111 : decode cX4_laysCrossings 111 = .ok (.iload_n 3, 1) := dk_29 (dk_at dksX4_laysCrossings_4 18 rfl rfl)
theorem dX4_laysCrossings_112 : decode cX4_laysCrossings 112 = .ok (.invokestatic 164, 3) := dk_184 0 164 (dk_at dksX4_laysCrossings_4 19 rfl rfl)
theorem dX4_laysCrossings_115 : decode cX4_laysCrossings 115 = .ok (.ifCond .eq 71, 3) := dk_153 0 71 (dk_at dksX4_laysCrossings_5 0 rfl rfl)
theorem dX4_laysCrossings_118 : decode cX4_laysCrossings 118 = .ok (.iload_n 1, 1) := dk_27 (dk_at dksX4_laysCrossings_5 3 rfl rfl)
theorem dX4_laysCrossings_119 : decode cX4_laysCrossings 119 = .ok (.iload 4, 2) := dk_21 4 (dk_at dksX4_laysCrossings_5 4 rfl rfl)
theorem dX4_laysCrossings_121 : decode cX4_laysCrossings 121 = .ok (.invokestatic 164, 3) := dk_184 0 164 (dk_at dksX4_laysCrossings_5 6 rfl rfl)
theorem dX4_laysCrossings_124 : decode cX4_laysCrossings 124 = .ok (.ifCond .eq 62, 3) := dk_153 0 62 (dk_at dksX4_laysCrossings_5 9 rfl rfl)
theorem dX4_laysCrossings_127 : decode cX4_laysCrossings 127 = .ok (.aload_n 0, 1) := dk_42 (dk_at dksX4_laysCrossings_5 12 rfl rfl)
theorem dX4_laysCrossings_128 : decode cX4_laysCrossings 128 = .ok (.iload_n 2, 1) := dk_28 (dk_at dksX4_laysCrossings_5 13 rfl rfl)
theorem dX4_laysCrossings_129 : decode cX4_laysCrossings 129 = .ok (.aload_n 0, 1) := dk_42 (dk_at dksX4_laysCrossings_5 14 rfl rfl)
theorem dX4_laysCrossings_130 : decode cX4_laysCrossings 130 = .ok (.iload 4, 2) := dk_21 4 (dk_at dksX4_laysCrossings_5 15 rfl rfl)
theorem dX4_laysCrossings_132 : decode cX4_laysCrossings 132 = .ok (.iload_n 2, 1) := dk_28 (dk_at dksX4_laysCrossings_5 17 rfl rfl)
theorem dX4_laysCrossings_133 : decode cX4_laysCrossings 133 = .ok (.iload 5, 2) := dk_21 5 (dk_at dksX4_laysCrossings_5 18 rfl rfl)
theorem dX4_laysCrossings_135 : decode cX4_laysCrossings 135 = .ok (.iconst 2, 1) := dk_5 (dk_at dksX4_laysCrossings_5 20 rfl rfl)
theorem dX4_laysCrossings_136 : decode cX4_laysCrossings 136 = .ok (.idiv, 1) := dk_108 (dk_at dksX4_laysCrossings_5 21 rfl rfl)
theorem dX4_laysCrossings_137 : decode cX4_laysCrossings 137 = .ok (.iconst 0, 1) := dk_3 (dk_at dksX4_laysCrossings_5 22 rfl rfl)
theorem dX4_laysCrossings_138 : decode cX4_laysCrossings 138 = .ok (.invokevirtual 191, 3) := dk_182 0 191 (dk_at dksX4_laysCrossings_6 0 rfl rfl)
theorem dX4_laysCrossings_141 : decode cX4_laysCrossings 141 = .ok (.aload_n 0, 1) := dk_42 (dk_at dksX4_laysCrossings_6 3 rfl rfl)
theorem dX4_laysCrossings_142 : decode cX4_laysCrossings 142 = .ok (.iload_n 3, 1) := dk_29 (dk_at dksX4_laysCrossings_6 4 rfl rfl)
theorem dX4_laysCrossings_143 : decode cX4_laysCrossings 143 = .ok (.iload_n 2, 1) := dk_28 (dk_at dksX4_laysCrossings_6 5 rfl rfl)
theorem dX4_laysCrossings_144 : decode cX4_laysCrossings 144 = .ok (.iload 5, 2) := dk_21 5 (dk_at dksX4_laysCrossings_6 6 rfl rfl)
theorem dX4_laysCrossings_146 : decode cX4_laysCrossings 146 = .ok (.iconst 2, 1) := dk_5 (dk_at dksX4_laysCrossings_6 8 rfl rfl)
theorem dX4_laysCrossings_147 : decode cX4_laysCrossings 147 = .ok (.irem, 1) := dk_112 (dk_at dksX4_laysCrossings_6 9 rfl rfl)
theorem dX4_laysCrossings_148 : decode cX4_laysCrossings 148 = .ok (.iconst 0, 1) := dk_3 (dk_at dksX4_laysCrossings_6 10 rfl rfl)
theorem dX4_laysCrossings_149 : decode cX4_laysCrossings 149 = .ok (.invokevirtual 191, 3) := dk_182 0 191 (dk_at dksX4_laysCrossings_6 11 rfl rfl)
theorem dX4_laysCrossings_152 : decode cX4_laysCrossings 152 = .ok (.lsub, 1) := dk_101 (dk_at dksX4_laysCrossings_6 14 rfl rfl)
theorem dX4_laysCrossings_153 : decode cX4_laysCrossings 153 = .ok (.aload_n 0, 1) := dk_42 (dk_at dksX4_laysCrossings_6 15 rfl rfl)
theorem dX4_laysCrossings_154 : decode cX4_laysCrossings 154 = .ok (.iload_n 3, 1) := dk_29 (dk_at dksX4_laysCrossings_6 16 rfl rfl)
theorem dX4_laysCrossings_155 : decode cX4_laysCrossings 155 = .ok (.iload_n 2, 1) := dk_28 (dk_at dksX4_laysCrossings_6 17 rfl rfl)
theorem dX4_laysCrossings_156 : decode cX4_laysCrossings 156 = .ok (.iload 5, 2) := dk_21 5 (dk_at dksX4_laysCrossings_6 18 rfl rfl)
theorem dX4_laysCrossings_158 : decode cX4_laysCrossings 158 = .ok (.iconst 2, 1) := dk_5 (dk_at dksX4_laysCrossings_6 20 rfl rfl)
theorem dX4_laysCrossings_159 : decode cX4_laysCrossings 159 = .ok (.irem, 1) := dk_112 (dk_at dksX4_laysCrossings_6 21 rfl rfl)
theorem dX4_laysCrossings_160 : decode cX4_laysCrossings 160 = .ok (.iconst 1, 1) := dk_4 (dk_at dksX4_laysCrossings_6 22 rfl rfl)
theorem dX4_laysCrossings_161 : decode cX4_laysCrossings 161 = .ok (.invokevirtual 191, 3) := dk_182 0 191 (dk_at dksX4_laysCrossings_7 0 rfl rfl)
theorem dX4_laysCrossings_164 : decode cX4_laysCrossings 164 = .ok (.aload_n 0, 1) := dk_42 (dk_at dksX4_laysCrossings_7 3 rfl rfl)
theorem dX4_laysCrossings_165 : decode cX4_laysCrossings 165 = .ok (.iload 4, 2) := dk_21 4 (dk_at dksX4_laysCrossings_7 4 rfl rfl)
theorem dX4_laysCrossings_167 : decode cX4_laysCrossings 167 = .ok (.iload_n 2, 1) := dk_28 (dk_at dksX4_laysCrossings_7 6 rfl rfl)
theorem dX4_laysCrossings_168 : decode cX4_laysCrossings 168 = .ok (.iload 5, 2) := dk_21 5 (dk_at dksX4_laysCrossings_7 7 rfl rfl)
theorem dX4_laysCrossings_170 : decode cX4_laysCrossings 170 = .ok (.iconst 2, 1) := dk_5 (dk_at dksX4_laysCrossings_7 9 rfl rfl)
theorem dX4_laysCrossings_171 : decode cX4_laysCrossings 171 = .ok (.idiv, 1) := dk_108 (dk_at dksX4_laysCrossings_7 10 rfl rfl)
theorem dX4_laysCrossings_172 : decode cX4_laysCrossings 172 = .ok (.iconst 1, 1) := dk_4 (dk_at dksX4_laysCrossings_7 11 rfl rfl)
theorem dX4_laysCrossings_173 : decode cX4_laysCrossings 173 = .ok (.invokevirtual 191, 3) := dk_182 0 191 (dk_at dksX4_laysCrossings_7 12 rfl rfl)
theorem dX4_laysCrossings_176 : decode cX4_laysCrossings 176 = .ok (.lsub, 1) := dk_101 (dk_at dksX4_laysCrossings_7 15 rfl rfl)
theorem dX4_laysCrossings_177 : decode cX4_laysCrossings 177 = .ok (.invokevirtual 185, 3) := dk_182 0 185 (dk_at dksX4_laysCrossings_7 16 rfl rfl)
theorem dX4_laysCrossings_180 : decode cX4_laysCrossings 180 = .ok (.iinc 5 1, 3) := dk_132 5 1 (dk_at dksX4_laysCrossings_7 19 rfl rfl)
theorem dX4_laysCrossings_183 : decode cX4_laysCrossings 183 = .ok (.goto (-79), 3) := dk_167 255 177 (dk_at dksX4_laysCrossings_8 0 rfl rfl)
theorem dX4_laysCrossings_186 : decode cX4_laysCrossings 186 = .ok (.iinc 4 1, 3) := dk_132 4 1 (dk_at dksX4_laysCrossings_8 3 rfl rfl)
theorem dX4_laysCrossings_189 : decode cX4_laysCrossings 189 = .ok (.goto (-94), 3) := dk_167 255 162 (dk_at dksX4_laysCrossings_8 6 rfl rfl)
theorem dX4_laysCrossings_192 : decode cX4_laysCrossings 192 = .ok (.iinc 3 1, 3) := dk_132 3 1 (dk_at dksX4_laysCrossings_8 9 rfl rfl)
theorem dX4_laysCrossings_195 : decode cX4_laysCrossings 195 = .ok (.goto (-168), 3) := dk_167 255 88 (dk_at dksX4_laysCrossings_8 12 rfl rfl)
theorem dX4_laysCrossings_198 : decode cX4_laysCrossings 198 = .ok (.iconst 0, 1) := dk_3 (dk_at dksX4_laysCrossings_8 15 rfl rfl)
theorem dX4_laysCrossings_199 : decode cX4_laysCrossings 199 = .ok (.istore_n 3, 1) := dk_62 (dk_at dksX4_laysCrossings_8 16 rfl rfl)
theorem dX4_laysCrossings_200 : decode cX4_laysCrossings 200 = .ok (.iload_n 3, 1) := dk_29 (dk_at dksX4_laysCrossings_8 17 rfl rfl)
theorem dX4_laysCrossings_201 : decode cX4_laysCrossings 201 = .ok (.aload_n 0, 1) := dk_42 (dk_at dksX4_laysCrossings_8 18 rfl rfl)
theorem dX4_laysCrossings_202 : decode cX4_laysCrossings 202 = .ok (.invokevirtual 97, 3) := dk_182 0 97 (dk_at dksX4_laysCrossings_8 19 rfl rfl)
theorem dX4_laysCrossings_205 : decode cX4_laysCrossings 205 = .ok (.if_icmp .ge 45, 3) := dk_162 0 45 (dk_at dksX4_laysCrossings_9 0 rfl rfl)
theorem dX4_laysCrossings_208 : decode cX4_laysCrossings 208 = .ok (.aload_n 0, 1) := dk_42 (dk_at dksX4_laysCrossings_9 3 rfl rfl)
theorem dX4_laysCrossings_209 : decode cX4_laysCrossings 209 = .ok (.iload_n 3, 1) := dk_29 (dk_at dksX4_laysCrossings_9 4 rfl rfl)
theorem dX4_laysCrossings_210 : decode cX4_laysCrossings 210 = .ok (.iconst 0, 1) := dk_3 (dk_at dksX4_laysCrossings_9 5 rfl rfl)
theorem dX4_laysCrossings_211 : decode cX4_laysCrossings 211 = .ok (.invokevirtual 100, 3) := dk_182 0 100 (dk_at dksX4_laysCrossings_9 6 rfl rfl)
theorem dX4_laysCrossings_214 : decode cX4_laysCrossings 214 = .ok (.iload_n 2, 1) := dk_28 (dk_at dksX4_laysCrossings_9 9 rfl rfl)
theorem dX4_laysCrossings_215 : decode cX4_laysCrossings 215 = .ok (.if_icmp .ne 29, 3) := dk_160 0 29 (dk_at dksX4_laysCrossings_9 10 rfl rfl)
theorem dX4_laysCrossings_218 : decode cX4_laysCrossings 218 = .ok (.aload_n 0, 1) := dk_42 (dk_at dksX4_laysCrossings_9 13 rfl rfl)
theorem dX4_laysCrossings_219 : decode cX4_laysCrossings 219 = .ok (.iload_n 2, 1) := dk_28 (dk_at dksX4_laysCrossings_9 14 rfl rfl)
theorem dX4_laysCrossings_220 : decode cX4_laysCrossings 220 = .ok (.aload_n 0, 1) := dk_42 (dk_at dksX4_laysCrossings_9 15 rfl rfl)
theorem dX4_laysCrossings_221 : decode cX4_laysCrossings 221 = .ok (.iload_n 3, 1) := dk_29 (dk_at dksX4_laysCrossings_9 16 rfl rfl)
theorem dX4_laysCrossings_222 : decode cX4_laysCrossings 222 = .ok (.iconst 1, 1) := dk_4 (dk_at dksX4_laysCrossings_9 17 rfl rfl)
theorem dX4_laysCrossings_223 : decode cX4_laysCrossings 223 = .ok (.invokevirtual 100, 3) := dk_182 0 100 (dk_at dksX4_laysCrossings_9 18 rfl rfl)
theorem dX4_laysCrossings_226 : decode cX4_laysCrossings 226 = .ok (.i2l, 1) := dk_133 (dk_at dksX4_laysCrossings_9 21 rfl rfl)
theorem dX4_laysCrossings_227 : decode cX4_laysCrossings 227 = .ok (.lconst 1, 1) := dk_10 (dk_at dksX4_laysCrossings_9 22 rfl rfl)
theorem dX4_laysCrossings_228 : decode cX4_laysCrossings 228 = .ok (.invokevirtual 185, 3) := dk_182 0 185 (dk_at dksX4_laysCrossings_10 0 rfl rfl)
theorem dX4_laysCrossings_231 : decode cX4_laysCrossings 231 = .ok (.aload_n 0, 1) := dk_42 (dk_at dksX4_laysCrossings_10 3 rfl rfl)
theorem dX4_laysCrossings_232 : decode cX4_laysCrossings 232 = .ok (.iload_n 2, 1) := dk_28 (dk_at dksX4_laysCrossings_10 4 rfl rfl)
theorem dX4_laysCrossings_233 : decode cX4_laysCrossings 233 = .ok (.aload_n 0, 1) := dk_42 (dk_at dksX4_laysCrossings_10 5 rfl rfl)
theorem dX4_laysCrossings_234 : decode cX4_laysCrossings 234 = .ok (.iload_n 3, 1) := dk_29 (dk_at dksX4_laysCrossings_10 6 rfl rfl)
theorem dX4_laysCrossings_235 : decode cX4_laysCrossings 235 = .ok (.iconst 2, 1) := dk_5 (dk_at dksX4_laysCrossings_10 7 rfl rfl)
theorem dX4_laysCrossings_236 : decode cX4_laysCrossings 236 = .ok (.invokevirtual 100, 3) := dk_182 0 100 (dk_at dksX4_laysCrossings_10 8 rfl rfl)
theorem dX4_laysCrossings_239 : decode cX4_laysCrossings 239 = .ok (.i2l, 1) := dk_133 (dk_at dksX4_laysCrossings_10 11 rfl rfl)
theorem dX4_laysCrossings_240 : decode cX4_laysCrossings 240 = .ok (.lconst 1, 1) := dk_10 (dk_at dksX4_laysCrossings_10 12 rfl rfl)
theorem dX4_laysCrossings_241 : decode cX4_laysCrossings 241 = .ok (.invokevirtual 185, 3) := dk_182 0 185 (dk_at dksX4_laysCrossings_10 13 rfl rfl)
theorem dX4_laysCrossings_244 : decode cX4_laysCrossings 244 = .ok (.iinc 3 1, 3) := dk_132 3 1 (dk_at dksX4_laysCrossings_10 16 rfl rfl)
theorem dX4_laysCrossings_247 : decode cX4_laysCrossings 247 = .ok (.goto (-47), 3) := dk_167 255 209 (dk_at dksX4_laysCrossings_10 19 rfl rfl)
theorem dX4_laysCrossings_250 : decode cX4_laysCrossings 250 = .ok (.return_, 1) := dk_177 (dk_at dksX4_laysCrossings_10 22 rfl rfl)
abbrev cX4_crosses : ByteArray := prog_19_method_58_code
def yX4_crosses : MethodName := ⟨RX4, "crosses", "(IJJ)V"⟩
def dkwX4_crosses_3 : List UInt8 := [180, 0, 182, 22, 6, 22, 4, 105, 80, 42, 89, 180, 0, 182, 4, 96, 181, 0, 182, 177]
abbrev dktX4_crosses_3 : List UInt8 := dkwX4_crosses_3 ++ []
def dkwX4_crosses_2 : List UInt8 := [133, 105, 148, 157, 0, 40, 42, 180, 0, 28, 42, 180, 0, 182, 22, 6, 32, 105, 80, 42, 180, 0, 32, 42]
abbrev dktX4_crosses_2 : List UInt8 := dkwX4_crosses_2 ++ dktX4_crosses_3
def dkwX4_crosses_1 : List UInt8 := [22, 6, 32, 105, 9, 148, 155, 0, 61, 22, 6, 32, 105, 22, 6, 22, 4, 105, 42, 27, 5, 182, 0, 79]
abbrev dktX4_crosses_1 : List UInt8 := dkwX4_crosses_1 ++ dktX4_crosses_2
def dkwX4_crosses_0 : List UInt8 := [22, 4, 9, 148, 156, 0, 9, 20, 0, 180, 167, 0, 4, 10, 55, 6, 22, 4, 9, 148, 153, 0, 70]
abbrev dktX4_crosses_0 : List UInt8 := dkwX4_crosses_0 ++ dktX4_crosses_1
theorem dksX4_crosses_0 : cX4_crosses.data.toList.drop 0 = dktX4_crosses_0 := by decide +kernel
theorem dksX4_crosses_1 : cX4_crosses.data.toList.drop 23 = dktX4_crosses_1 := dk_seg dksX4_crosses_0 23 rfl rfl
theorem dksX4_crosses_2 : cX4_crosses.data.toList.drop 47 = dktX4_crosses_2 := dk_seg dksX4_crosses_1 24 rfl rfl
theorem dksX4_crosses_3 : cX4_crosses.data.toList.drop 71 = dktX4_crosses_3 := dk_seg dksX4_crosses_2 24 rfl rfl
theorem dX4_crosses_0 : decode cX4_crosses 0 = .ok (.lload 4, 2) := dk_22 4 (dk_at dksX4_crosses_0 0 rfl rfl)
theorem dX4_crosses_2 : decode cX4_crosses 2 = .ok (.lconst 0, 1) := dk_9 (dk_at dksX4_crosses_0 2 rfl rfl)
theorem dX4_crosses_3 : decode cX4_crosses 3 = .ok (.lcmp, 1) := dk_148 (dk_at dksX4_crosses_0 3 rfl rfl)
theorem dX4_crosses_4 : decode cX4_crosses 4 = .ok (.ifCond .ge 9, 3) := dk_156 0 9 (dk_at dksX4_crosses_0 4 rfl rfl)
theorem dX4_crosses_7 : decode cX4_crosses 7 = .ok (.ldc2_w 180, 3) := dk_20 0 180 (dk_at dksX4_crosses_0 7 rfl rfl)
theorem dX4_crosses_10 : decode cX4_crosses 10 = .ok (.goto 4, 3) := dk_167 0 4 (dk_at dksX4_crosses_0 10 rfl rfl)
theorem dX4_crosses_13 : decode cX4_crosses 13 = .ok (.lconst 1, 1) := dk_10 (dk_at dksX4_crosses_0 13 rfl rfl)
theorem dX4_crosses_14 : decode cX4_crosses 14 = .ok (.lstore 6, 2) := dk_55 6 (dk_at dksX4_crosses_0 14 rfl rfl)
theorem dX4_crosses_16 : decode cX4_crosses 16 = .ok (.lload 4, 2) := dk_22 4 (dk_at dksX4_crosses_0 16 rfl rfl)
theorem dX4_crosses_18 : decode cX4_crosses 18 = .ok (.lconst 0, 1) := dk_9 (dk_at dksX4_crosses_0 18 rfl rfl)
theorem dX4_crosses_19 : decode cX4_crosses 19 = .ok (.lcmp, 1) := dk_148 (dk_at dksX4_crosses_0 19 rfl rfl)
theorem dX4_crosses_20 : decode cX4_crosses 20 = .ok (.ifCond .eq 70, 3) := dk_153 0 70 (dk_at dksX4_crosses_0 20 rfl rfl)
theorem dX4_crosses_23 : decode cX4_crosses 23 = .ok (.lload 6, 2) := dk_22 6 (dk_at dksX4_crosses_1 0 rfl rfl)
theorem dX4_crosses_25 : decode cX4_crosses 25 = .ok (.lload_n 2, 1) := dk_32 (dk_at dksX4_crosses_1 2 rfl rfl)
theorem dX4_crosses_26 : decode cX4_crosses 26 = .ok (.lmul, 1) := dk_105 (dk_at dksX4_crosses_1 3 rfl rfl)
theorem dX4_crosses_27 : decode cX4_crosses 27 = .ok (.lconst 0, 1) := dk_9 (dk_at dksX4_crosses_1 4 rfl rfl)
theorem dX4_crosses_28 : decode cX4_crosses 28 = .ok (.lcmp, 1) := dk_148 (dk_at dksX4_crosses_1 5 rfl rfl)
theorem dX4_crosses_29 : decode cX4_crosses 29 = .ok (.ifCond .lt 61, 3) := dk_155 0 61 (dk_at dksX4_crosses_1 6 rfl rfl)
theorem dX4_crosses_32 : decode cX4_crosses 32 = .ok (.lload 6, 2) := dk_22 6 (dk_at dksX4_crosses_1 9 rfl rfl)
theorem dX4_crosses_34 : decode cX4_crosses 34 = .ok (.lload_n 2, 1) := dk_32 (dk_at dksX4_crosses_1 11 rfl rfl)
theorem dX4_crosses_35 : decode cX4_crosses 35 = .ok (.lmul, 1) := dk_105 (dk_at dksX4_crosses_1 12 rfl rfl)
theorem dX4_crosses_36 : decode cX4_crosses 36 = .ok (.lload 6, 2) := dk_22 6 (dk_at dksX4_crosses_1 13 rfl rfl)
theorem dX4_crosses_38 : decode cX4_crosses 38 = .ok (.lload 4, 2) := dk_22 4 (dk_at dksX4_crosses_1 15 rfl rfl)
theorem dX4_crosses_40 : decode cX4_crosses 40 = .ok (.lmul, 1) := dk_105 (dk_at dksX4_crosses_1 17 rfl rfl)
theorem dX4_crosses_41 : decode cX4_crosses 41 = .ok (.aload_n 0, 1) := dk_42 (dk_at dksX4_crosses_1 18 rfl rfl)
theorem dX4_crosses_42 : decode cX4_crosses 42 = .ok (.iload_n 1, 1) := dk_27 (dk_at dksX4_crosses_1 19 rfl rfl)
theorem dX4_crosses_43 : decode cX4_crosses 43 = .ok (.iconst 2, 1) := dk_5 (dk_at dksX4_crosses_1 20 rfl rfl)
theorem dX4_crosses_44 : decode cX4_crosses 44 = .ok (.invokevirtual 79, 3) := dk_182 0 79 (dk_at dksX4_crosses_1 21 rfl rfl)
theorem dX4_crosses_47 : decode cX4_crosses 47 = .ok (.i2l, 1) := dk_133 (dk_at dksX4_crosses_2 0 rfl rfl)
theorem dX4_crosses_48 : decode cX4_crosses 48 = .ok (.lmul, 1) := dk_105 (dk_at dksX4_crosses_2 1 rfl rfl)
theorem dX4_crosses_49 : decode cX4_crosses 49 = .ok (.lcmp, 1) := dk_148 (dk_at dksX4_crosses_2 2 rfl rfl)
theorem dX4_crosses_50 : decode cX4_crosses 50 = .ok (.ifCond .gt 40, 3) := dk_157 0 40 (dk_at dksX4_crosses_2 3 rfl rfl)
theorem dX4_crosses_53 : decode cX4_crosses 53 = .ok (.aload_n 0, 1) := dk_42 (dk_at dksX4_crosses_2 6 rfl rfl)
theorem dX4_crosses_54 : decode cX4_crosses 54 = .ok (.getfield 28, 3) := dk_180 0 28 (dk_at dksX4_crosses_2 7 rfl rfl)
theorem dX4_crosses_57 : decode cX4_crosses 57 = .ok (.aload_n 0, 1) := dk_42 (dk_at dksX4_crosses_2 10 rfl rfl)
theorem dX4_crosses_58 : decode cX4_crosses 58 = .ok (.getfield 182, 3) := dk_180 0 182 (dk_at dksX4_crosses_2 11 rfl rfl)
theorem dX4_crosses_61 : decode cX4_crosses 61 = .ok (.lload 6, 2) := dk_22 6 (dk_at dksX4_crosses_2 14 rfl rfl)
theorem dX4_crosses_63 : decode cX4_crosses 63 = .ok (.lload_n 2, 1) := dk_32 (dk_at dksX4_crosses_2 16 rfl rfl)
theorem dX4_crosses_64 : decode cX4_crosses 64 = .ok (.lmul, 1) := dk_105 (dk_at dksX4_crosses_2 17 rfl rfl)
theorem dX4_crosses_65 : decode cX4_crosses 65 = .ok (.lastore, 1) := dk_80 (dk_at dksX4_crosses_2 18 rfl rfl)
theorem dX4_crosses_66 : decode cX4_crosses 66 = .ok (.aload_n 0, 1) := dk_42 (dk_at dksX4_crosses_2 19 rfl rfl)
theorem dX4_crosses_67 : decode cX4_crosses 67 = .ok (.getfield 32, 3) := dk_180 0 32 (dk_at dksX4_crosses_2 20 rfl rfl)
theorem dX4_crosses_70 : decode cX4_crosses 70 = .ok (.aload_n 0, 1) := dk_42 (dk_at dksX4_crosses_2 23 rfl rfl)
theorem dX4_crosses_71 : decode cX4_crosses 71 = .ok (.getfield 182, 3) := dk_180 0 182 (dk_at dksX4_crosses_3 0 rfl rfl)
theorem dX4_crosses_74 : decode cX4_crosses 74 = .ok (.lload 6, 2) := dk_22 6 (dk_at dksX4_crosses_3 3 rfl rfl)
theorem dX4_crosses_76 : decode cX4_crosses 76 = .ok (.lload 4, 2) := dk_22 4 (dk_at dksX4_crosses_3 5 rfl rfl)
theorem dX4_crosses_78 : decode cX4_crosses 78 = .ok (.lmul, 1) := dk_105 (dk_at dksX4_crosses_3 7 rfl rfl)
theorem dX4_crosses_79 : decode cX4_crosses 79 = .ok (.lastore, 1) := dk_80 (dk_at dksX4_crosses_3 8 rfl rfl)
theorem dX4_crosses_80 : decode cX4_crosses 80 = .ok (.aload_n 0, 1) := dk_42 (dk_at dksX4_crosses_3 9 rfl rfl)
theorem dX4_crosses_81 : decode cX4_crosses 81 = .ok (.dup, 1) := dk_89 (dk_at dksX4_crosses_3 10 rfl rfl)
theorem dX4_crosses_82 : decode cX4_crosses 82 = .ok (.getfield 182, 3) := dk_180 0 182 (dk_at dksX4_crosses_3 11 rfl rfl)
theorem dX4_crosses_85 : decode cX4_crosses 85 = .ok (.iconst 1, 1) := dk_4 (dk_at dksX4_crosses_3 14 rfl rfl)
theorem dX4_crosses_86 : decode cX4_crosses 86 = .ok (.iadd, 1) := dk_96 (dk_at dksX4_crosses_3 15 rfl rfl)
theorem dX4_crosses_87 : decode cX4_crosses 87 = .ok (.putfield 182, 3) := dk_181 0 182 (dk_at dksX4_crosses_3 16 rfl rfl)
theorem dX4_crosses_90 : decode cX4_crosses 90 = .ok (.return_, 1) := dk_177 (dk_at dksX4_crosses_3 19 rfl rfl)
abbrev cX4_line : ByteArray := prog_19_method_59_code
def yX4_line : MethodName := ⟨RX4, "line", "(IIIZ)J"⟩
def dkwX4_line_3 : List UInt8 := [96, 46, 42, 28, 5, 182, 0, 79, 96, 133, 105, 173]
abbrev dktX4_line_3 : List UInt8 := dkwX4_line_3 ++ []
def dkwX4_line_2 : List UInt8 := [28, 3, 182, 0, 79, 96, 46, 167, 0, 26, 42, 180, 0, 22, 16, 8, 27, 104, 42, 28, 4, 182, 0, 79]
abbrev dktX4_line_2 : List UInt8 := dkwX4_line_2 ++ dktX4_line_3
def dkwX4_line_1 : List UInt8 := [46, 116, 133, 173, 42, 180, 0, 25, 27, 46, 133, 29, 154, 0, 22, 42, 180, 0, 22, 16, 8, 27, 104, 42]
abbrev dktX4_line_1 : List UInt8 := dkwX4_line_1 ++ dktX4_line_2
def dkwX4_line_0 : List UInt8 := [21, 4, 153, 0, 26, 29, 154, 0, 13, 42, 180, 0, 25, 27, 46, 133, 167, 0, 11, 42, 180, 0, 25, 27]
abbrev dktX4_line_0 : List UInt8 := dkwX4_line_0 ++ dktX4_line_1
theorem dksX4_line_0 : cX4_line.data.toList.drop 0 = dktX4_line_0 := by decide +kernel
theorem dksX4_line_1 : cX4_line.data.toList.drop 24 = dktX4_line_1 := dk_seg dksX4_line_0 24 rfl rfl
theorem dksX4_line_2 : cX4_line.data.toList.drop 48 = dktX4_line_2 := dk_seg dksX4_line_1 24 rfl rfl
theorem dksX4_line_3 : cX4_line.data.toList.drop 72 = dktX4_line_3 := dk_seg dksX4_line_2 24 rfl rfl
theorem dX4_line_0 : decode cX4_line 0 = .ok (.iload 4, 2) := dk_21 4 (dk_at dksX4_line_0 0 rfl rfl)
theorem dX4_line_2 : decode cX4_line 2 = .ok (.ifCond .eq 26, 3) := dk_153 0 26 (dk_at dksX4_line_0 2 rfl rfl)
theorem dX4_line_5 : decode cX4_line 5 = .ok (.iload_n 3, 1) := dk_29 (dk_at dksX4_line_0 5 rfl rfl)
theorem dX4_line_6 : decode cX4_line 6 = .ok (.ifCond .ne 13, 3) := dk_154 0 13 (dk_at dksX4_line_0 6 rfl rfl)
theorem dX4_line_9 : decode cX4_line 9 = .ok (.aload_n 0, 1) := dk_42 (dk_at dksX4_line_0 9 rfl rfl)
theorem dX4_line_10 : decode cX4_line 10 = .ok (.getfield 25, 3) := dk_180 0 25 (dk_at dksX4_line_0 10 rfl rfl)
theorem dX4_line_13 : decode cX4_line 13 = .ok (.iload_n 1, 1) := dk_27 (dk_at dksX4_line_0 13 rfl rfl)
theorem dX4_line_14 : decode cX4_line 14 = .ok (.iaload, 1) := dk_46 (dk_at dksX4_line_0 14 rfl rfl)
theorem dX4_line_15 : decode cX4_line 15 = .ok (.i2l, 1) := dk_133 (dk_at dksX4_line_0 15 rfl rfl)
theorem dX4_line_16 : decode cX4_line 16 = .ok (.goto 11, 3) := dk_167 0 11 (dk_at dksX4_line_0 16 rfl rfl)
theorem dX4_line_19 : decode cX4_line 19 = .ok (.aload_n 0, 1) := dk_42 (dk_at dksX4_line_0 19 rfl rfl)
theorem dX4_line_20 : decode cX4_line 20 = .ok (.getfield 25, 3) := dk_180 0 25 (dk_at dksX4_line_0 20 rfl rfl)
theorem dX4_line_23 : decode cX4_line 23 = .ok (.iload_n 1, 1) := dk_27 (dk_at dksX4_line_0 23 rfl rfl)
theorem dX4_line_24 : decode cX4_line 24 = .ok (.iaload, 1) := dk_46 (dk_at dksX4_line_1 0 rfl rfl)
theorem dX4_line_25 : decode cX4_line 25 = .ok (.ineg, 1) := dk_116 (dk_at dksX4_line_1 1 rfl rfl)
theorem dX4_line_26 : decode cX4_line 26 = .ok (.i2l, 1) := dk_133 (dk_at dksX4_line_1 2 rfl rfl)
theorem dX4_line_27 : decode cX4_line 27 = .ok (.lreturn, 1) := dk_173 (dk_at dksX4_line_1 3 rfl rfl)
theorem dX4_line_28 : decode cX4_line 28 = .ok (.aload_n 0, 1) := dk_42 (dk_at dksX4_line_1 4 rfl rfl)
theorem dX4_line_29 : decode cX4_line 29 = .ok (.getfield 25, 3) := dk_180 0 25 (dk_at dksX4_line_1 5 rfl rfl)
theorem dX4_line_32 : decode cX4_line 32 = .ok (.iload_n 1, 1) := dk_27 (dk_at dksX4_line_1 8 rfl rfl)
theorem dX4_line_33 : decode cX4_line 33 = .ok (.iaload, 1) := dk_46 (dk_at dksX4_line_1 9 rfl rfl)
theorem dX4_line_34 : decode cX4_line 34 = .ok (.i2l, 1) := dk_133 (dk_at dksX4_line_1 10 rfl rfl)
theorem dX4_line_35 : decode cX4_line 35 = .ok (.iload_n 3, 1) := dk_29 (dk_at dksX4_line_1 11 rfl rfl)
theorem dX4_line_36 : decode cX4_line 36 = .ok (.ifCond .ne 22, 3) := dk_154 0 22 (dk_at dksX4_line_1 12 rfl rfl)
theorem dX4_line_39 : decode cX4_line 39 = .ok (.aload_n 0, 1) := dk_42 (dk_at dksX4_line_1 15 rfl rfl)
theorem dX4_line_40 : decode cX4_line 40 = .ok (.getfield 22, 3) := dk_180 0 22 (dk_at dksX4_line_1 16 rfl rfl)
theorem dX4_line_43 : decode cX4_line 43 = .ok (.bipush 8, 2) := dk_16 8 (dk_at dksX4_line_1 19 rfl rfl)
theorem dX4_line_45 : decode cX4_line 45 = .ok (.iload_n 1, 1) := dk_27 (dk_at dksX4_line_1 21 rfl rfl)
theorem dX4_line_46 : decode cX4_line 46 = .ok (.imul, 1) := dk_104 (dk_at dksX4_line_1 22 rfl rfl)
theorem dX4_line_47 : decode cX4_line 47 = .ok (.aload_n 0, 1) := dk_42 (dk_at dksX4_line_1 23 rfl rfl)
theorem dX4_line_48 : decode cX4_line 48 = .ok (.iload_n 2, 1) := dk_28 (dk_at dksX4_line_2 0 rfl rfl)
theorem dX4_line_49 : decode cX4_line 49 = .ok (.iconst 0, 1) := dk_3 (dk_at dksX4_line_2 1 rfl rfl)
theorem dX4_line_50 : decode cX4_line 50 = .ok (.invokevirtual 79, 3) := dk_182 0 79 (dk_at dksX4_line_2 2 rfl rfl)
theorem dX4_line_53 : decode cX4_line 53 = .ok (.iadd, 1) := dk_96 (dk_at dksX4_line_2 5 rfl rfl)
theorem dX4_line_54 : decode cX4_line 54 = .ok (.iaload, 1) := dk_46 (dk_at dksX4_line_2 6 rfl rfl)
theorem dX4_line_55 : decode cX4_line 55 = .ok (.goto 26, 3) := dk_167 0 26 (dk_at dksX4_line_2 7 rfl rfl)
theorem dX4_line_58 : decode cX4_line 58 = .ok (.aload_n 0, 1) := dk_42 (dk_at dksX4_line_2 10 rfl rfl)
theorem dX4_line_59 : decode cX4_line 59 = .ok (.getfield 22, 3) := dk_180 0 22 (dk_at dksX4_line_2 11 rfl rfl)
theorem dX4_line_62 : decode cX4_line 62 = .ok (.bipush 8, 2) := dk_16 8 (dk_at dksX4_line_2 14 rfl rfl)
theorem dX4_line_64 : decode cX4_line 64 = .ok (.iload_n 1, 1) := dk_27 (dk_at dksX4_line_2 16 rfl rfl)
theorem dX4_line_65 : decode cX4_line 65 = .ok (.imul, 1) := dk_104 (dk_at dksX4_line_2 17 rfl rfl)
theorem dX4_line_66 : decode cX4_line 66 = .ok (.aload_n 0, 1) := dk_42 (dk_at dksX4_line_2 18 rfl rfl)
theorem dX4_line_67 : decode cX4_line 67 = .ok (.iload_n 2, 1) := dk_28 (dk_at dksX4_line_2 19 rfl rfl)
theorem dX4_line_68 : decode cX4_line 68 = .ok (.iconst 1, 1) := dk_4 (dk_at dksX4_line_2 20 rfl rfl)
theorem dX4_line_69 : decode cX4_line 69 = .ok (.invokevirtual 79, 3) := dk_182 0 79 (dk_at dksX4_line_2 21 rfl rfl)
theorem dX4_line_72 : decode cX4_line 72 = .ok (.iadd, 1) := dk_96 (dk_at dksX4_line_3 0 rfl rfl)
theorem dX4_line_73 : decode cX4_line 73 = .ok (.iaload, 1) := dk_46 (dk_at dksX4_line_3 1 rfl rfl)
theorem dX4_line_74 : decode cX4_line 74 = .ok (.aload_n 0, 1) := dk_42 (dk_at dksX4_line_3 2 rfl rfl)
theorem dX4_line_75 : decode cX4_line 75 = .ok (.iload_n 2, 1) := dk_28 (dk_at dksX4_line_3 3 rfl rfl)
theorem dX4_line_76 : decode cX4_line 76 = .ok (.iconst 2, 1) := dk_5 (dk_at dksX4_line_3 4 rfl rfl)
theorem dX4_line_77 : decode cX4_line 77 = .ok (.invokevirtual 79, 3) := dk_182 0 79 (dk_at dksX4_line_3 5 rfl rfl)
theorem dX4_line_80 : decode cX4_line 80 = .ok (.iadd, 1) := dk_96 (dk_at dksX4_line_3 8 rfl rfl)
theorem dX4_line_81 : decode cX4_line 81 = .ok (.i2l, 1) := dk_133 (dk_at dksX4_line_3 9 rfl rfl)
theorem dX4_line_82 : decode cX4_line 82 = .ok (.lmul, 1) := dk_105 (dk_at dksX4_line_3 10 rfl rfl)
theorem dX4_line_83 : decode cX4_line 83 = .ok (.lreturn, 1) := dk_173 (dk_at dksX4_line_3 11 rfl rfl)
abbrev cX4_nextCorner : ByteArray := prog_19_method_66_code
def yX4_nextCorner : MethodName := ⟨RX4, "nextCorner", "(II)I"⟩
def dkwX4_nextCorner_5 : List UInt8 := [182, 0, 224, 153, 0, 8, 21, 4, 167, 0, 4, 29, 62, 132, 4, 1, 167, 255, 129, 29, 172]
abbrev dktX4_nextCorner_5 : List UInt8 := dkwX4_nextCorner_5 ++ []
def dkwX4_nextCorner_4 : List UInt8 := [21, 4, 47, 105, 148, 156, 0, 7, 4, 167, 0, 4, 3, 54, 5, 21, 5, 153, 0, 18, 42, 27, 21, 4]
abbrev dktX4_nextCorner_4 : List UInt8 := dkwX4_nextCorner_4 ++ dktX4_nextCorner_5
def dkwX4_nextCorner_3 : List UInt8 := [180, 0, 28, 21, 4, 47, 42, 180, 0, 32, 29, 47, 105, 42, 180, 0, 28, 29, 47, 42, 180, 0, 32]
abbrev dktX4_nextCorner_3 : List UInt8 := dkwX4_nextCorner_3 ++ dktX4_nextCorner_4
def dkwX4_nextCorner_2 : List UInt8 := [148, 158, 0, 7, 4, 167, 0, 4, 3, 54, 5, 21, 5, 153, 0, 44, 29, 2, 159, 0, 35, 42]
abbrev dktX4_nextCorner_2 : List UInt8 := dkwX4_nextCorner_2 ++ dktX4_nextCorner_3
def dkwX4_nextCorner_1 : List UInt8 := [21, 4, 47, 42, 180, 0, 32, 28, 47, 105, 42, 180, 0, 28, 28, 47, 42, 180, 0, 32, 21, 4, 47, 105]
abbrev dktX4_nextCorner_1 : List UInt8 := dkwX4_nextCorner_1 ++ dktX4_nextCorner_2
def dkwX4_nextCorner_0 : List UInt8 := [2, 62, 3, 54, 4, 21, 4, 42, 180, 0, 182, 162, 0, 124, 28, 2, 159, 0, 35, 42, 180, 0, 28]
abbrev dktX4_nextCorner_0 : List UInt8 := dkwX4_nextCorner_0 ++ dktX4_nextCorner_1
theorem dksX4_nextCorner_0 : cX4_nextCorner.data.toList.drop 0 = dktX4_nextCorner_0 := by decide +kernel
theorem dksX4_nextCorner_1 : cX4_nextCorner.data.toList.drop 23 = dktX4_nextCorner_1 := dk_seg dksX4_nextCorner_0 23 rfl rfl
theorem dksX4_nextCorner_2 : cX4_nextCorner.data.toList.drop 47 = dktX4_nextCorner_2 := dk_seg dksX4_nextCorner_1 24 rfl rfl
theorem dksX4_nextCorner_3 : cX4_nextCorner.data.toList.drop 69 = dktX4_nextCorner_3 := dk_seg dksX4_nextCorner_2 22 rfl rfl
theorem dksX4_nextCorner_4 : cX4_nextCorner.data.toList.drop 92 = dktX4_nextCorner_4 := dk_seg dksX4_nextCorner_3 23 rfl rfl
theorem dksX4_nextCorner_5 : cX4_nextCorner.data.toList.drop 116 = dktX4_nextCorner_5 := dk_seg dksX4_nextCorner_4 24 rfl rfl
theorem dX4_nextCorner_0 : decode cX4_nextCorner 0 = .ok (.iconst (-1), 1) := dk_2 (dk_at dksX4_nextCorner_0 0 rfl rfl)
theorem dX4_nextCorner_1 : decode cX4_nextCorner 1 = .ok (.istore_n 3, 1) := dk_62 (dk_at dksX4_nextCorner_0 1 rfl rfl)
theorem dX4_nextCorner_2 : decode cX4_nextCorner 2 = .ok (.iconst 0, 1) := dk_3 (dk_at dksX4_nextCorner_0 2 rfl rfl)
theorem dX4_nextCorner_3 : decode cX4_nextCorner 3 = .ok (.istore 4, 2) := dk_54 4 (dk_at dksX4_nextCorner_0 3 rfl rfl)
theorem dX4_nextCorner_5 : decode cX4_nextCorner 5 = .ok (.iload 4, 2) := dk_21 4 (dk_at dksX4_nextCorner_0 5 rfl rfl)
theorem dX4_nextCorner_7 : decode cX4_nextCorner 7 = .ok (.aload_n 0, 1) := dk_42 (dk_at dksX4_nextCorner_0 7 rfl rfl)
theorem dX4_nextCorner_8 : decode cX4_nextCorner 8 = .ok (.getfield 182, 3) := dk_180 0 182 (dk_at dksX4_nextCorner_0 8 rfl rfl)
theorem dX4_nextCorner_11 : decode cX4_nextCorner 11 = .ok (.if_icmp .ge 124, 3) := dk_162 0 124 (dk_at dksX4_nextCorner_0 11 rfl rfl)
theorem dX4_nextCorner_14 : decode cX4_nextCorner 14 = .ok (.iload_n 2, 1) := dk_28 (dk_at dksX4_nextCorner_0 14 rfl rfl)
theorem dX4_nextCorner_15 : decode cX4_nextCorner 15 = .ok (.iconst (-1), 1) := dk_2 (dk_at dksX4_nextCorner_0 15 rfl rfl)
theorem dX4_nextCorner_16 : decode cX4_nextCorner 16 = .ok (.if_icmp .eq 35, 3) := dk_159 0 35 (dk_at dksX4_nextCorner_0 16 rfl rfl)
theorem dX4_nextCorner_19 : decode cX4_nextCorner 19 = .ok (.aload_n 0, 1) := dk_42 (dk_at dksX4_nextCorner_0 19 rfl rfl)
theorem dX4_nextCorner_20 : decode cX4_nextCorner 20 = .ok (.getfield 28, 3) := dk_180 0 28 (dk_at dksX4_nextCorner_0 20 rfl rfl)
theorem dX4_nextCorner_23 : decode cX4_nextCorner 23 = .ok (.iload 4, 2) := dk_21 4 (dk_at dksX4_nextCorner_1 0 rfl rfl)
theorem dX4_nextCorner_25 : decode cX4_nextCorner 25 = .ok (.laload, 1) := dk_47 (dk_at dksX4_nextCorner_1 2 rfl rfl)
theorem dX4_nextCorner_26 : decode cX4_nextCorner 26 = .ok (.aload_n 0, 1) := dk_42 (dk_at dksX4_nextCorner_1 3 rfl rfl)
theorem dX4_nextCorner_27 : decode cX4_nextCorner 27 = .ok (.getfield 32, 3) := dk_180 0 32 (dk_at dksX4_nextCorner_1 4 rfl rfl)
theorem dX4_nextCorner_30 : decode cX4_nextCorner 30 = .ok (.iload_n 2, 1) := dk_28 (dk_at dksX4_nextCorner_1 7 rfl rfl)
theorem dX4_nextCorner_31 : decode cX4_nextCorner 31 = .ok (.laload, 1) := dk_47 (dk_at dksX4_nextCorner_1 8 rfl rfl)
theorem dX4_nextCorner_32 : decode cX4_nextCorner 32 = .ok (.lmul, 1) := dk_105 (dk_at dksX4_nextCorner_1 9 rfl rfl)
theorem dX4_nextCorner_33 : decode cX4_nextCorner 33 = .ok (.aload_n 0, 1) := dk_42 (dk_at dksX4_nextCorner_1 10 rfl rfl)
theorem dX4_nextCorner_34 : decode cX4_nextCorner 34 = .ok (.getfield 28, 3) := dk_180 0 28 (dk_at dksX4_nextCorner_1 11 rfl rfl)
theorem dX4_nextCorner_37 : decode cX4_nextCorner 37 = .ok (.iload_n 2, 1) := dk_28 (dk_at dksX4_nextCorner_1 14 rfl rfl)
theorem dX4_nextCorner_38 : decode cX4_nextCorner 38 = .ok (.laload, 1) := dk_47 (dk_at dksX4_nextCorner_1 15 rfl rfl)
theorem dX4_nextCorner_39 : decode cX4_nextCorner 39 = .ok (.aload_n 0, 1) := dk_42 (dk_at dksX4_nextCorner_1 16 rfl rfl)
theorem dX4_nextCorner_40 : decode cX4_nextCorner 40 = .ok (.getfield 32, 3) := dk_180 0 32 (dk_at dksX4_nextCorner_1 17 rfl rfl)
theorem dX4_nextCorner_43 : decode cX4_nextCorner 43 = .ok (.iload 4, 2) := dk_21 4 (dk_at dksX4_nextCorner_1 20 rfl rfl)
theorem dX4_nextCorner_45 : decode cX4_nextCorner 45 = .ok (.laload, 1) := dk_47 (dk_at dksX4_nextCorner_1 22 rfl rfl)
theorem dX4_nextCorner_46 : decode cX4_nextCorner 46 = .ok (.lmul, 1) := dk_105 (dk_at dksX4_nextCorner_1 23 rfl rfl)
theorem dX4_nextCorner_47 : decode cX4_nextCorner 47 = .ok (.lcmp, 1) := dk_148 (dk_at dksX4_nextCorner_2 0 rfl rfl)
theorem dX4_nextCorner_48 : decode cX4_nextCorner 48 = .ok (.ifCond .le 7, 3) := dk_158 0 7 (dk_at dksX4_nextCorner_2 1 rfl rfl)
theorem dX4_nextCorner_51 : decode cX4_nextCorner 51 = .ok (.iconst 1, 1) := dk_4 (dk_at dksX4_nextCorner_2 4 rfl rfl)
theorem dX4_nextCorner_52 : decode cX4_nextCorner 52 = .ok (.goto 4, 3) := dk_167 0 4 (dk_at dksX4_nextCorner_2 5 rfl rfl)
theorem dX4_nextCorner_55 : decode cX4_nextCorner 55 = .ok (.iconst 0, 1) := dk_3 (dk_at dksX4_nextCorner_2 8 rfl rfl)
theorem dX4_nextCorner_56 : decode cX4_nextCorner 56 = .ok (.istore 5, 2) := dk_54 5 (dk_at dksX4_nextCorner_2 9 rfl rfl)
theorem dX4_nextCorner_58 : decode cX4_nextCorner 58 = .ok (.iload 5, 2) := dk_21 5 (dk_at dksX4_nextCorner_2 11 rfl rfl)
theorem dX4_nextCorner_60 : decode cX4_nextCorner 60 = .ok (.ifCond .eq 44, 3) := dk_153 0 44 (dk_at dksX4_nextCorner_2 13 rfl rfl)
theorem dX4_nextCorner_63 : decode cX4_nextCorner 63 = .ok (.iload_n 3, 1) := dk_29 (dk_at dksX4_nextCorner_2 16 rfl rfl)
theorem dX4_nextCorner_64 : decode cX4_nextCorner 64 = .ok (.iconst (-1), 1) := dk_2 (dk_at dksX4_nextCorner_2 17 rfl rfl)
theorem dX4_nextCorner_65 : decode cX4_nextCorner 65 = .ok (.if_icmp .eq 35, 3) := dk_159 0 35 (dk_at dksX4_nextCorner_2 18 rfl rfl)
theorem dX4_nextCorner_68 : decode cX4_nextCorner 68 = .ok (.aload_n 0, 1) := dk_42 (dk_at dksX4_nextCorner_2 21 rfl rfl)
theorem dX4_nextCorner_69 : decode cX4_nextCorner 69 = .ok (.getfield 28, 3) := dk_180 0 28 (dk_at dksX4_nextCorner_3 0 rfl rfl)
theorem dX4_nextCorner_72 : decode cX4_nextCorner 72 = .ok (.iload 4, 2) := dk_21 4 (dk_at dksX4_nextCorner_3 3 rfl rfl)
theorem dX4_nextCorner_74 : decode cX4_nextCorner 74 = .ok (.laload, 1) := dk_47 (dk_at dksX4_nextCorner_3 5 rfl rfl)
theorem dX4_nextCorner_75 : decode cX4_nextCorner 75 = .ok (.aload_n 0, 1) := dk_42 (dk_at dksX4_nextCorner_3 6 rfl rfl)
theorem dX4_nextCorner_76 : decode cX4_nextCorner 76 = .ok (.getfield 32, 3) := dk_180 0 32 (dk_at dksX4_nextCorner_3 7 rfl rfl)
theorem dX4_nextCorner_79 : decode cX4_nextCorner 79 = .ok (.iload_n 3, 1) := dk_29 (dk_at dksX4_nextCorner_3 10 rfl rfl)
theorem dX4_nextCorner_80 : decode cX4_nextCorner 80 = .ok (.laload, 1) := dk_47 (dk_at dksX4_nextCorner_3 11 rfl rfl)
theorem dX4_nextCorner_81 : decode cX4_nextCorner 81 = .ok (.lmul, 1) := dk_105 (dk_at dksX4_nextCorner_3 12 rfl rfl)
theorem dX4_nextCorner_82 : decode cX4_nextCorner 82 = .ok (.aload_n 0, 1) := dk_42 (dk_at dksX4_nextCorner_3 13 rfl rfl)
theorem dX4_nextCorner_83 : decode cX4_nextCorner 83 = .ok (.getfield 28, 3) := dk_180 0 28 (dk_at dksX4_nextCorner_3 14 rfl rfl)
theorem dX4_nextCorner_86 : decode cX4_nextCorner 86 = .ok (.iload_n 3, 1) := dk_29 (dk_at dksX4_nextCorner_3 17 rfl rfl)
theorem dX4_nextCorner_87 : decode cX4_nextCorner 87 = .ok (.laload, 1) := dk_47 (dk_at dksX4_nextCorner_3 18 rfl rfl)
theorem dX4_nextCorner_88 : decode cX4_nextCorner 88 = .ok (.aload_n 0, 1) := dk_42 (dk_at dksX4_nextCorner_3 19 rfl rfl)
theorem dX4_nextCorner_89 : decode cX4_nextCorner 89 = .ok (.getfield 32, 3) := dk_180 0 32 (dk_at dksX4_nextCorner_3 20 rfl rfl)
theorem dX4_nextCorner_92 : decode cX4_nextCorner 92 = .ok (.iload 4, 2) := dk_21 4 (dk_at dksX4_nextCorner_4 0 rfl rfl)
theorem dX4_nextCorner_94 : decode cX4_nextCorner 94 = .ok (.laload, 1) := dk_47 (dk_at dksX4_nextCorner_4 2 rfl rfl)
theorem dX4_nextCorner_95 : decode cX4_nextCorner 95 = .ok (.lmul, 1) := dk_105 (dk_at dksX4_nextCorner_4 3 rfl rfl)
theorem dX4_nextCorner_96 : decode cX4_nextCorner 96 = .ok (.lcmp, 1) := dk_148 (dk_at dksX4_nextCorner_4 4 rfl rfl)
theorem dX4_nextCorner_97 : decode cX4_nextCorner 97 = .ok (.ifCond .ge 7, 3) := dk_156 0 7 (dk_at dksX4_nextCorner_4 5 rfl rfl)
theorem dX4_nextCorner_100 : decode cX4_nextCorner 100 = .ok (.iconst 1, 1) := dk_4 (dk_at dksX4_nextCorner_4 8 rfl rfl)
theorem dX4_nextCorner_101 : decode cX4_nextCorner 101 = .ok (.goto 4, 3) := dk_167 0 4 (dk_at dksX4_nextCorner_4 9 rfl rfl)
theorem dX4_nextCorner_104 : decode cX4_nextCorner 104 = .ok (.iconst 0, 1) := dk_3 (dk_at dksX4_nextCorner_4 12 rfl rfl)
theorem dX4_nextCorner_105 : decode cX4_nextCorner 105 = .ok (.istore 5, 2) := dk_54 5 (dk_at dksX4_nextCorner_4 13 rfl rfl)
theorem dX4_nextCorner_107 : decode cX4_nextCorner 107 = .ok (.iload 5, 2) := dk_21 5 (dk_at dksX4_nextCorner_4 15 rfl rfl)
theorem dX4_nextCorner_109 : decode cX4_nextCorner 109 = .ok (.ifCond .eq 18, 3) := dk_153 0 18 (dk_at dksX4_nextCorner_4 17 rfl rfl)
theorem dX4_nextCorner_112 : decode cX4_nextCorner 112 = .ok (.aload_n 0, 1) := dk_42 (dk_at dksX4_nextCorner_4 20 rfl rfl)
theorem dX4_nextCorner_113 : decode cX4_nextCorner 113 = .ok (.iload_n 1, 1) := dk_27 (dk_at dksX4_nextCorner_4 21 rfl rfl)
theorem dX4_nextCorner_114 : decode cX4_nextCorner 114 = .ok (.iload 4, 2) := dk_21 4 (dk_at dksX4_nextCorner_4 22 rfl rfl)
theorem dX4_nextCorner_116 : decode cX4_nextCorner 116 = .ok (.invokevirtual 224, 3) := dk_182 0 224 (dk_at dksX4_nextCorner_5 0 rfl rfl)
theorem dX4_nextCorner_119 : decode cX4_nextCorner 119 = .ok (.ifCond .eq 8, 3) := dk_153 0 8 (dk_at dksX4_nextCorner_5 3 rfl rfl)
theorem dX4_nextCorner_122 : decode cX4_nextCorner 122 = .ok (.iload 4, 2) := dk_21 4 (dk_at dksX4_nextCorner_5 6 rfl rfl)
theorem dX4_nextCorner_124 : decode cX4_nextCorner 124 = .ok (.goto 4, 3) := dk_167 0 4 (dk_at dksX4_nextCorner_5 8 rfl rfl)
theorem dX4_nextCorner_127 : decode cX4_nextCorner 127 = .ok (.iload_n 3, 1) := dk_29 (dk_at dksX4_nextCorner_5 11 rfl rfl)
theorem dX4_nextCorner_128 : decode cX4_nextCorner 128 = .ok (.istore_n 3, 1) := dk_62 (dk_at dksX4_nextCorner_5 12 rfl rfl)
theorem dX4_nextCorner_129 : decode cX4_nextCorner 129 = .ok (.iinc 4 1, 3) := dk_132 4 1 (dk_at dksX4_nextCorner_5 13 rfl rfl)
theorem dX4_nextCorner_132 : decode cX4_nextCorner 132 = .ok (.goto (-127), 3) := dk_167 255 129 (dk_at dksX4_nextCorner_5 16 rfl rfl)
theorem dX4_nextCorner_135 : decode cX4_nextCorner 135 = .ok (.iload_n 3, 1) := dk_29 (dk_at dksX4_nextCorner_5 19 rfl rfl)
theorem dX4_nextCorner_136 : decode cX4_nextCorner 136 = .ok (.ireturn, 1) := dk_172 (dk_at dksX4_nextCorner_5 20 rfl rfl)
abbrev cX4_isCorner : ByteArray := prog_19_method_65_code
def yX4_isCorner : MethodName := ⟨RX4, "isCorner", "(II)Z"⟩
def dkwX4_isCorner_2 : List UInt8 := [42, 180, 0, 32, 28, 47, 3, 182, 0, 220, 148, 153, 0, 7, 4, 167, 0, 4, 3, 172]
abbrev dktX4_isCorner_2 : List UInt8 := dkwX4_isCorner_2 ++ []
def dkwX4_isCorner_1 : List UInt8 := [42, 180, 0, 28, 28, 47, 42, 180, 0, 32, 28, 47, 4, 182, 0, 220, 42, 27, 42, 180, 0, 28, 28, 47]
abbrev dktX4_isCorner_1 : List UInt8 := dkwX4_isCorner_1 ++ dktX4_isCorner_2
def dkwX4_isCorner_0 : List UInt8 := [42, 27, 28, 4, 182, 0, 216, 153, 0, 13, 42, 27, 28, 3, 182, 0, 216, 154, 0, 5, 4, 172, 42, 27]
abbrev dktX4_isCorner_0 : List UInt8 := dkwX4_isCorner_0 ++ dktX4_isCorner_1
theorem dksX4_isCorner_0 : cX4_isCorner.data.toList.drop 0 = dktX4_isCorner_0 := by decide +kernel
theorem dksX4_isCorner_1 : cX4_isCorner.data.toList.drop 24 = dktX4_isCorner_1 := dk_seg dksX4_isCorner_0 24 rfl rfl
theorem dksX4_isCorner_2 : cX4_isCorner.data.toList.drop 48 = dktX4_isCorner_2 := dk_seg dksX4_isCorner_1 24 rfl rfl
theorem dX4_isCorner_0 : decode cX4_isCorner 0 = .ok (.aload_n 0, 1) := dk_42 (dk_at dksX4_isCorner_0 0 rfl rfl)
theorem dX4_isCorner_1 : decode cX4_isCorner 1 = .ok (.iload_n 1, 1) := dk_27 (dk_at dksX4_isCorner_0 1 rfl rfl)
theorem dX4_isCorner_2 : decode cX4_isCorner 2 = .ok (.iload_n 2, 1) := dk_28 (dk_at dksX4_isCorner_0 2 rfl rfl)
theorem dX4_isCorner_3 : decode cX4_isCorner 3 = .ok (.iconst 1, 1) := dk_4 (dk_at dksX4_isCorner_0 3 rfl rfl)
theorem dX4_isCorner_4 : decode cX4_isCorner 4 = .ok (.invokevirtual 216, 3) := dk_182 0 216 (dk_at dksX4_isCorner_0 4 rfl rfl)
theorem dX4_isCorner_7 : decode cX4_isCorner 7 = .ok (.ifCond .eq 13, 3) := dk_153 0 13 (dk_at dksX4_isCorner_0 7 rfl rfl)
theorem dX4_isCorner_10 : decode cX4_isCorner 10 = .ok (.aload_n 0, 1) := dk_42 (dk_at dksX4_isCorner_0 10 rfl rfl)
theorem dX4_isCorner_11 : decode cX4_isCorner 11 = .ok (.iload_n 1, 1) := dk_27 (dk_at dksX4_isCorner_0 11 rfl rfl)
theorem dX4_isCorner_12 : decode cX4_isCorner 12 = .ok (.iload_n 2, 1) := dk_28 (dk_at dksX4_isCorner_0 12 rfl rfl)
theorem dX4_isCorner_13 : decode cX4_isCorner 13 = .ok (.iconst 0, 1) := dk_3 (dk_at dksX4_isCorner_0 13 rfl rfl)
theorem dX4_isCorner_14 : decode cX4_isCorner 14 = .ok (.invokevirtual 216, 3) := dk_182 0 216 (dk_at dksX4_isCorner_0 14 rfl rfl)
theorem dX4_isCorner_17 : decode cX4_isCorner 17 = .ok (.ifCond .ne 5, 3) := dk_154 0 5 (dk_at dksX4_isCorner_0 17 rfl rfl)
theorem dX4_isCorner_20 : decode cX4_isCorner 20 = .ok (.iconst 1, 1) := dk_4 (dk_at dksX4_isCorner_0 20 rfl rfl)
theorem dX4_isCorner_21 : decode cX4_isCorner 21 = .ok (.ireturn, 1) := dk_172 (dk_at dksX4_isCorner_0 21 rfl rfl)
theorem dX4_isCorner_22 : decode cX4_isCorner 22 = .ok (.aload_n 0, 1) := dk_42 (dk_at dksX4_isCorner_0 22 rfl rfl)
theorem dX4_isCorner_23 : decode cX4_isCorner 23 = .ok (.iload_n 1, 1) := dk_27 (dk_at dksX4_isCorner_0 23 rfl rfl)
theorem dX4_isCorner_24 : decode cX4_isCorner 24 = .ok (.aload_n 0, 1) := dk_42 (dk_at dksX4_isCorner_1 0 rfl rfl)
theorem dX4_isCorner_25 : decode cX4_isCorner 25 = .ok (.getfield 28, 3) := dk_180 0 28 (dk_at dksX4_isCorner_1 1 rfl rfl)
theorem dX4_isCorner_28 : decode cX4_isCorner 28 = .ok (.iload_n 2, 1) := dk_28 (dk_at dksX4_isCorner_1 4 rfl rfl)
theorem dX4_isCorner_29 : decode cX4_isCorner 29 = .ok (.laload, 1) := dk_47 (dk_at dksX4_isCorner_1 5 rfl rfl)
theorem dX4_isCorner_30 : decode cX4_isCorner 30 = .ok (.aload_n 0, 1) := dk_42 (dk_at dksX4_isCorner_1 6 rfl rfl)
theorem dX4_isCorner_31 : decode cX4_isCorner 31 = .ok (.getfield 32, 3) := dk_180 0 32 (dk_at dksX4_isCorner_1 7 rfl rfl)
theorem dX4_isCorner_34 : decode cX4_isCorner 34 = .ok (.iload_n 2, 1) := dk_28 (dk_at dksX4_isCorner_1 10 rfl rfl)
theorem dX4_isCorner_35 : decode cX4_isCorner 35 = .ok (.laload, 1) := dk_47 (dk_at dksX4_isCorner_1 11 rfl rfl)
theorem dX4_isCorner_36 : decode cX4_isCorner 36 = .ok (.iconst 1, 1) := dk_4 (dk_at dksX4_isCorner_1 12 rfl rfl)
theorem dX4_isCorner_37 : decode cX4_isCorner 37 = .ok (.invokevirtual 220, 3) := dk_182 0 220 (dk_at dksX4_isCorner_1 13 rfl rfl)
theorem dX4_isCorner_40 : decode cX4_isCorner 40 = .ok (.aload_n 0, 1) := dk_42 (dk_at dksX4_isCorner_1 16 rfl rfl)
theorem dX4_isCorner_41 : decode cX4_isCorner 41 = .ok (.iload_n 1, 1) := dk_27 (dk_at dksX4_isCorner_1 17 rfl rfl)
theorem dX4_isCorner_42 : decode cX4_isCorner 42 = .ok (.aload_n 0, 1) := dk_42 (dk_at dksX4_isCorner_1 18 rfl rfl)
theorem dX4_isCorner_43 : decode cX4_isCorner 43 = .ok (.getfield 28, 3) := dk_180 0 28 (dk_at dksX4_isCorner_1 19 rfl rfl)
theorem dX4_isCorner_46 : decode cX4_isCorner 46 = .ok (.iload_n 2, 1) := dk_28 (dk_at dksX4_isCorner_1 22 rfl rfl)
theorem dX4_isCorner_47 : decode cX4_isCorner 47 = .ok (.laload, 1) := dk_47 (dk_at dksX4_isCorner_1 23 rfl rfl)
theorem dX4_isCorner_48 : decode cX4_isCorner 48 = .ok (.aload_n 0, 1) := dk_42 (dk_at dksX4_isCorner_2 0 rfl rfl)
theorem dX4_isCorner_49 : decode cX4_isCorner 49 = .ok (.getfield 32, 3) := dk_180 0 32 (dk_at dksX4_isCorner_2 1 rfl rfl)
theorem dX4_isCorner_52 : decode cX4_isCorner 52 = .ok (.iload_n 2, 1) := dk_28 (dk_at dksX4_isCorner_2 4 rfl rfl)
theorem dX4_isCorner_53 : decode cX4_isCorner 53 = .ok (.laload, 1) := dk_47 (dk_at dksX4_isCorner_2 5 rfl rfl)
theorem dX4_isCorner_54 : decode cX4_isCorner 54 = .ok (.iconst 0, 1) := dk_3 (dk_at dksX4_isCorner_2 6 rfl rfl)
theorem dX4_isCorner_55 : decode cX4_isCorner 55 = .ok (.invokevirtual 220, 3) := dk_182 0 220 (dk_at dksX4_isCorner_2 7 rfl rfl)
theorem dX4_isCorner_58 : decode cX4_isCorner 58 = .ok (.lcmp, 1) := dk_148 (dk_at dksX4_isCorner_2 10 rfl rfl)
theorem dX4_isCorner_59 : decode cX4_isCorner 59 = .ok (.ifCond .eq 7, 3) := dk_153 0 7 (dk_at dksX4_isCorner_2 11 rfl rfl)
theorem dX4_isCorner_62 : decode cX4_isCorner 62 = .ok (.iconst 1, 1) := dk_4 (dk_at dksX4_isCorner_2 14 rfl rfl)
theorem dX4_isCorner_63 : decode cX4_isCorner 63 = .ok (.goto 4, 3) := dk_167 0 4 (dk_at dksX4_isCorner_2 15 rfl rfl)
theorem dX4_isCorner_66 : decode cX4_isCorner 66 = .ok (.iconst 0, 1) := dk_3 (dk_at dksX4_isCorner_2 18 rfl rfl)
theorem dX4_isCorner_67 : decode cX4_isCorner 67 = .ok (.ireturn, 1) := dk_172 (dk_at dksX4_isCorner_2 19 rfl rfl)
abbrev cX4_isRight : ByteArray := prog_19_method_63_code
def yX4_isRight : MethodName := ⟨RX4, "isRight", "(IIZ)Z"⟩
def dkwX4_isRight_2 : List UInt8 := [158, 0, 7, 4, 167, 0, 4, 3, 172]
abbrev dktX4_isRight_2 : List UInt8 := dkwX4_isRight_2 ++ []
def dkwX4_isRight_1 : List UInt8 := [42, 27, 5, 182, 0, 79, 133, 105, 148, 156, 0, 7, 4, 167, 0, 19, 3, 167, 0, 15, 22, 4, 9, 148]
abbrev dktX4_isRight_1 : List UInt8 := dkwX4_isRight_1 ++ dktX4_isRight_2
def dkwX4_isRight_0 : List UInt8 := [42, 180, 0, 28, 28, 47, 55, 4, 42, 180, 0, 32, 28, 47, 55, 6, 29, 153, 0, 27, 22, 4, 22, 6]
abbrev dktX4_isRight_0 : List UInt8 := dkwX4_isRight_0 ++ dktX4_isRight_1
theorem dksX4_isRight_0 : cX4_isRight.data.toList.drop 0 = dktX4_isRight_0 := by decide +kernel
theorem dksX4_isRight_1 : cX4_isRight.data.toList.drop 24 = dktX4_isRight_1 := dk_seg dksX4_isRight_0 24 rfl rfl
theorem dksX4_isRight_2 : cX4_isRight.data.toList.drop 48 = dktX4_isRight_2 := dk_seg dksX4_isRight_1 24 rfl rfl
theorem dX4_isRight_0 : decode cX4_isRight 0 = .ok (.aload_n 0, 1) := dk_42 (dk_at dksX4_isRight_0 0 rfl rfl)
theorem dX4_isRight_1 : decode cX4_isRight 1 = .ok (.getfield 28, 3) := dk_180 0 28 (dk_at dksX4_isRight_0 1 rfl rfl)
theorem dX4_isRight_4 : decode cX4_isRight 4 = .ok (.iload_n 2, 1) := dk_28 (dk_at dksX4_isRight_0 4 rfl rfl)
theorem dX4_isRight_5 : decode cX4_isRight 5 = .ok (.laload, 1) := dk_47 (dk_at dksX4_isRight_0 5 rfl rfl)
theorem dX4_isRight_6 : decode cX4_isRight 6 = .ok (.lstore 4, 2) := dk_55 4 (dk_at dksX4_isRight_0 6 rfl rfl)
theorem dX4_isRight_8 : decode cX4_isRight 8 = .ok (.aload_n 0, 1) := dk_42 (dk_at dksX4_isRight_0 8 rfl rfl)
theorem dX4_isRight_9 : decode cX4_isRight 9 = .ok (.getfield 32, 3) := dk_180 0 32 (dk_at dksX4_isRight_0 9 rfl rfl)
theorem dX4_isRight_12 : decode cX4_isRight 12 = .ok (.iload_n 2, 1) := dk_28 (dk_at dksX4_isRight_0 12 rfl rfl)
theorem dX4_isRight_13 : decode cX4_isRight 13 = .ok (.laload, 1) := dk_47 (dk_at dksX4_isRight_0 13 rfl rfl)
theorem dX4_isRight_14 : decode cX4_isRight 14 = .ok (.lstore 6, 2) := dk_55 6 (dk_at dksX4_isRight_0 14 rfl rfl)
theorem dX4_isRight_16 : decode cX4_isRight 16 = .ok (.iload_n 3, 1) := dk_29 (dk_at dksX4_isRight_0 16 rfl rfl)
theorem dX4_isRight_17 : decode cX4_isRight 17 = .ok (.ifCond .eq 27, 3) := dk_153 0 27 (dk_at dksX4_isRight_0 17 rfl rfl)
theorem dX4_isRight_20 : decode cX4_isRight 20 = .ok (.lload 4, 2) := dk_22 4 (dk_at dksX4_isRight_0 20 rfl rfl)
theorem dX4_isRight_22 : decode cX4_isRight 22 = .ok (.lload 6, 2) := dk_22 6 (dk_at dksX4_isRight_0 22 rfl rfl)
theorem dX4_isRight_24 : decode cX4_isRight 24 = .ok (.aload_n 0, 1) := dk_42 (dk_at dksX4_isRight_1 0 rfl rfl)
theorem dX4_isRight_25 : decode cX4_isRight 25 = .ok (.iload_n 1, 1) := dk_27 (dk_at dksX4_isRight_1 1 rfl rfl)
theorem dX4_isRight_26 : decode cX4_isRight 26 = .ok (.iconst 2, 1) := dk_5 (dk_at dksX4_isRight_1 2 rfl rfl)
theorem dX4_isRight_27 : decode cX4_isRight 27 = .ok (.invokevirtual 79, 3) := dk_182 0 79 (dk_at dksX4_isRight_1 3 rfl rfl)
theorem dX4_isRight_30 : decode cX4_isRight 30 = .ok (.i2l, 1) := dk_133 (dk_at dksX4_isRight_1 6 rfl rfl)
theorem dX4_isRight_31 : decode cX4_isRight 31 = .ok (.lmul, 1) := dk_105 (dk_at dksX4_isRight_1 7 rfl rfl)
theorem dX4_isRight_32 : decode cX4_isRight 32 = .ok (.lcmp, 1) := dk_148 (dk_at dksX4_isRight_1 8 rfl rfl)
theorem dX4_isRight_33 : decode cX4_isRight 33 = .ok (.ifCond .ge 7, 3) := dk_156 0 7 (dk_at dksX4_isRight_1 9 rfl rfl)
theorem dX4_isRight_36 : decode cX4_isRight 36 = .ok (.iconst 1, 1) := dk_4 (dk_at dksX4_isRight_1 12 rfl rfl)
theorem dX4_isRight_37 : decode cX4_isRight 37 = .ok (.goto 19, 3) := dk_167 0 19 (dk_at dksX4_isRight_1 13 rfl rfl)
theorem dX4_isRight_40 : decode cX4_isRight 40 = .ok (.iconst 0, 1) := dk_3 (dk_at dksX4_isRight_1 16 rfl rfl)
theorem dX4_isRight_41 : decode cX4_isRight 41 = .ok (.goto 15, 3) := dk_167 0 15 (dk_at dksX4_isRight_1 17 rfl rfl)
theorem dX4_isRight_44 : decode cX4_isRight 44 = .ok (.lload 4, 2) := dk_22 4 (dk_at dksX4_isRight_1 20 rfl rfl)
theorem dX4_isRight_46 : decode cX4_isRight 46 = .ok (.lconst 0, 1) := dk_9 (dk_at dksX4_isRight_1 22 rfl rfl)
theorem dX4_isRight_47 : decode cX4_isRight 47 = .ok (.lcmp, 1) := dk_148 (dk_at dksX4_isRight_1 23 rfl rfl)
theorem dX4_isRight_48 : decode cX4_isRight 48 = .ok (.ifCond .le 7, 3) := dk_158 0 7 (dk_at dksX4_isRight_2 0 rfl rfl)
theorem dX4_isRight_51 : decode cX4_isRight 51 = .ok (.iconst 1, 1) := dk_4 (dk_at dksX4_isRight_2 3 rfl rfl)
theorem dX4_isRight_52 : decode cX4_isRight 52 = .ok (.goto 4, 3) := dk_167 0 4 (dk_at dksX4_isRight_2 4 rfl rfl)
theorem dX4_isRight_55 : decode cX4_isRight 55 = .ok (.iconst 0, 1) := dk_3 (dk_at dksX4_isRight_2 7 rfl rfl)
theorem dX4_isRight_56 : decode cX4_isRight 56 = .ok (.ireturn, 1) := dk_172 (dk_at dksX4_isRight_2 8 rfl rfl)
abbrev cX4_slopeAt : ByteArray := prog_19_method_64_code
def yX4_slopeAt : MethodName := ⟨RX4, "slopeAt", "(IJJZ)J"⟩
def dkwX4_slopeAt_8 : List UInt8 := [132, 12, 1, 167, 255, 91, 22, 9, 173]
abbrev dktX4_slopeAt_8 : List UInt8 := dkwX4_slopeAt_8 ++ []
def dkwX4_slopeAt_7 : List UInt8 := [167, 0, 11, 22, 18, 22, 9, 148, 156, 0, 8, 22, 18, 167, 0, 5, 22, 9, 55, 9, 3, 54, 11]
abbrev dktX4_slopeAt_7 : List UInt8 := dkwX4_slopeAt_7 ++ dktX4_slopeAt_8
def dkwX4_slopeAt_6 : List UInt8 := [46, 116, 133, 55, 18, 21, 11, 154, 0, 27, 21, 6, 153, 0, 14, 22, 18, 22, 9, 148, 158, 0, 19]
abbrev dktX4_slopeAt_6 : List UInt8 := dkwX4_slopeAt_6 ++ dktX4_slopeAt_7
def dkwX4_slopeAt_5 : List UInt8 := [54, 17, 21, 17, 153, 0, 14, 42, 180, 0, 25, 21, 12, 46, 133, 167, 0, 12, 42, 180, 0, 25, 21, 12]
abbrev dktX4_slopeAt_5 : List UInt8 := dkwX4_slopeAt_5 ++ dktX4_slopeAt_6
def dkwX4_slopeAt_4 : List UInt8 := [156, 0, 7, 4, 167, 0, 20, 3, 167, 0, 16, 22, 13, 22, 15, 148, 157, 0, 7, 4, 167, 0, 4, 3]
abbrev dktX4_slopeAt_4 : List UInt8 := dkwX4_slopeAt_4 ++ dktX4_slopeAt_5
def dkwX4_slopeAt_3 : List UInt8 := [55, 13, 42, 21, 12, 27, 32, 22, 4, 182, 0, 147, 55, 15, 21, 6, 153, 0, 19, 22, 13, 22, 15, 148]
abbrev dktX4_slopeAt_3 : List UInt8 := dkwX4_slopeAt_3 ++ dktX4_slopeAt_4
def dkwX4_slopeAt_2 : List UInt8 := [32, 22, 4, 182, 0, 153, 105, 22, 7, 148, 154, 0, 131, 42, 21, 12, 27, 32, 22, 4, 182, 0, 143]
abbrev dktX4_slopeAt_2 : List UInt8 := dkwX4_slopeAt_2 ++ dktX4_slopeAt_3
def dkwX4_slopeAt_1 : List UInt8 := [3, 54, 12, 21, 12, 42, 182, 0, 65, 162, 0, 162, 42, 180, 0, 25, 21, 12, 46, 133, 42, 21, 12, 27]
abbrev dktX4_slopeAt_1 : List UInt8 := dkwX4_slopeAt_1 ++ dktX4_slopeAt_2
def dkwX4_slopeAt_0 : List UInt8 := [42, 4, 42, 182, 0, 65, 120, 4, 100, 27, 32, 22, 4, 182, 0, 173, 55, 7, 9, 55, 9, 4, 54, 11]
abbrev dktX4_slopeAt_0 : List UInt8 := dkwX4_slopeAt_0 ++ dktX4_slopeAt_1
theorem dksX4_slopeAt_0 : cX4_slopeAt.data.toList.drop 0 = dktX4_slopeAt_0 := by decide +kernel
theorem dksX4_slopeAt_1 : cX4_slopeAt.data.toList.drop 24 = dktX4_slopeAt_1 := dk_seg dksX4_slopeAt_0 24 rfl rfl
theorem dksX4_slopeAt_2 : cX4_slopeAt.data.toList.drop 48 = dktX4_slopeAt_2 := dk_seg dksX4_slopeAt_1 24 rfl rfl
theorem dksX4_slopeAt_3 : cX4_slopeAt.data.toList.drop 71 = dktX4_slopeAt_3 := dk_seg dksX4_slopeAt_2 23 rfl rfl
theorem dksX4_slopeAt_4 : cX4_slopeAt.data.toList.drop 95 = dktX4_slopeAt_4 := dk_seg dksX4_slopeAt_3 24 rfl rfl
theorem dksX4_slopeAt_5 : cX4_slopeAt.data.toList.drop 119 = dktX4_slopeAt_5 := dk_seg dksX4_slopeAt_4 24 rfl rfl
theorem dksX4_slopeAt_6 : cX4_slopeAt.data.toList.drop 143 = dktX4_slopeAt_6 := dk_seg dksX4_slopeAt_5 24 rfl rfl
theorem dksX4_slopeAt_7 : cX4_slopeAt.data.toList.drop 166 = dktX4_slopeAt_7 := dk_seg dksX4_slopeAt_6 23 rfl rfl
theorem dksX4_slopeAt_8 : cX4_slopeAt.data.toList.drop 189 = dktX4_slopeAt_8 := dk_seg dksX4_slopeAt_7 23 rfl rfl
theorem dX4_slopeAt_0 : decode cX4_slopeAt 0 = .ok (.aload_n 0, 1) := dk_42 (dk_at dksX4_slopeAt_0 0 rfl rfl)
theorem dX4_slopeAt_1 : decode cX4_slopeAt 1 = .ok (.iconst 1, 1) := dk_4 (dk_at dksX4_slopeAt_0 1 rfl rfl)
theorem dX4_slopeAt_2 : decode cX4_slopeAt 2 = .ok (.aload_n 0, 1) := dk_42 (dk_at dksX4_slopeAt_0 2 rfl rfl)
theorem dX4_slopeAt_3 : decode cX4_slopeAt 3 = .ok (.invokevirtual 65, 3) := dk_182 0 65 (dk_at dksX4_slopeAt_0 3 rfl rfl)
theorem dX4_slopeAt_6 : decode cX4_slopeAt 6 = .ok (.ishl, 1) := dk_120 (dk_at dksX4_slopeAt_0 6 rfl rfl)
theorem dX4_slopeAt_7 : decode cX4_slopeAt 7 = .ok (.iconst 1, 1) := dk_4 (dk_at dksX4_slopeAt_0 7 rfl rfl)
theorem dX4_slopeAt_8 : decode cX4_slopeAt 8 = .ok (.isub, 1) := dk_100 (dk_at dksX4_slopeAt_0 8 rfl rfl)
theorem dX4_slopeAt_9 : decode cX4_slopeAt 9 = .ok (.iload_n 1, 1) := dk_27 (dk_at dksX4_slopeAt_0 9 rfl rfl)
theorem dX4_slopeAt_10 : decode cX4_slopeAt 10 = .ok (.lload_n 2, 1) := dk_32 (dk_at dksX4_slopeAt_0 10 rfl rfl)
theorem dX4_slopeAt_11 : decode cX4_slopeAt 11 = .ok (.lload 4, 2) := dk_22 4 (dk_at dksX4_slopeAt_0 11 rfl rfl)
theorem dX4_slopeAt_13 : decode cX4_slopeAt 13 = .ok (.invokevirtual 173, 3) := dk_182 0 173 (dk_at dksX4_slopeAt_0 13 rfl rfl)
theorem dX4_slopeAt_16 : decode cX4_slopeAt 16 = .ok (.lstore 7, 2) := dk_55 7 (dk_at dksX4_slopeAt_0 16 rfl rfl)
theorem dX4_slopeAt_18 : decode cX4_slopeAt 18 = .ok (.lconst 0, 1) := dk_9 (dk_at dksX4_slopeAt_0 18 rfl rfl)
theorem dX4_slopeAt_19 : decode cX4_slopeAt 19 = .ok (.lstore 9, 2) := dk_55 9 (dk_at dksX4_slopeAt_0 19 rfl rfl)
theorem dX4_slopeAt_21 : decode cX4_slopeAt 21 = .ok (.iconst 1, 1) := dk_4 (dk_at dksX4_slopeAt_0 21 rfl rfl)
theorem dX4_slopeAt_22 : decode cX4_slopeAt 22 = .ok (.istore 11, 2) := dk_54 11 (dk_at dksX4_slopeAt_0 22 rfl rfl)
theorem dX4_slopeAt_24 : decode cX4_slopeAt 24 = .ok (.iconst 0, 1) := dk_3 (dk_at dksX4_slopeAt_1 0 rfl rfl)
theorem dX4_slopeAt_25 : decode cX4_slopeAt 25 = .ok (.istore 12, 2) := dk_54 12 (dk_at dksX4_slopeAt_1 1 rfl rfl)
theorem dX4_slopeAt_27 : decode cX4_slopeAt 27 = .ok (.iload 12, 2) := dk_21 12 (dk_at dksX4_slopeAt_1 3 rfl rfl)
theorem dX4_slopeAt_29 : decode cX4_slopeAt 29 = .ok (.aload_n 0, 1) := dk_42 (dk_at dksX4_slopeAt_1 5 rfl rfl)
theorem dX4_slopeAt_30 : decode cX4_slopeAt 30 = .ok (.invokevirtual 65, 3) := dk_182 0 65 (dk_at dksX4_slopeAt_1 6 rfl rfl)
theorem dX4_slopeAt_33 : decode cX4_slopeAt 33 = .ok (.if_icmp .ge 162, 3) := dk_162 0 162 (dk_at dksX4_slopeAt_1 9 rfl rfl)
theorem dX4_slopeAt_36 : decode cX4_slopeAt 36 = .ok (.aload_n 0, 1) := dk_42 (dk_at dksX4_slopeAt_1 12 rfl rfl)
theorem dX4_slopeAt_37 : decode cX4_slopeAt 37 = .ok (.getfield 25, 3) := dk_180 0 25 (dk_at dksX4_slopeAt_1 13 rfl rfl)
theorem dX4_slopeAt_40 : decode cX4_slopeAt 40 = .ok (.iload 12, 2) := dk_21 12 (dk_at dksX4_slopeAt_1 16 rfl rfl)
theorem dX4_slopeAt_42 : decode cX4_slopeAt 42 = .ok (.iaload, 1) := dk_46 (dk_at dksX4_slopeAt_1 18 rfl rfl)
theorem dX4_slopeAt_43 : decode cX4_slopeAt 43 = .ok (.i2l, 1) := dk_133 (dk_at dksX4_slopeAt_1 19 rfl rfl)
theorem dX4_slopeAt_44 : decode cX4_slopeAt 44 = .ok (.aload_n 0, 1) := dk_42 (dk_at dksX4_slopeAt_1 20 rfl rfl)
theorem dX4_slopeAt_45 : decode cX4_slopeAt 45 = .ok (.iload 12, 2) := dk_21 12 (dk_at dksX4_slopeAt_1 21 rfl rfl)
theorem dX4_slopeAt_47 : decode cX4_slopeAt 47 = .ok (.iload_n 1, 1) := dk_27 (dk_at dksX4_slopeAt_1 23 rfl rfl)
theorem dX4_slopeAt_48 : decode cX4_slopeAt 48 = .ok (.lload_n 2, 1) := dk_32 (dk_at dksX4_slopeAt_2 0 rfl rfl)
theorem dX4_slopeAt_49 : decode cX4_slopeAt 49 = .ok (.lload 4, 2) := dk_22 4 (dk_at dksX4_slopeAt_2 1 rfl rfl)
theorem dX4_slopeAt_51 : decode cX4_slopeAt 51 = .ok (.invokevirtual 153, 3) := dk_182 0 153 (dk_at dksX4_slopeAt_2 3 rfl rfl)
theorem dX4_slopeAt_54 : decode cX4_slopeAt 54 = .ok (.lmul, 1) := dk_105 (dk_at dksX4_slopeAt_2 6 rfl rfl)
theorem dX4_slopeAt_55 : decode cX4_slopeAt 55 = .ok (.lload 7, 2) := dk_22 7 (dk_at dksX4_slopeAt_2 7 rfl rfl)
theorem dX4_slopeAt_57 : decode cX4_slopeAt 57 = .ok (.lcmp, 1) := dk_148 (dk_at dksX4_slopeAt_2 9 rfl rfl)
theorem dX4_slopeAt_58 : decode cX4_slopeAt 58 = .ok (.ifCond .ne 131, 3) := dk_154 0 131 (dk_at dksX4_slopeAt_2 10 rfl rfl)
theorem dX4_slopeAt_61 : decode cX4_slopeAt 61 = .ok (.aload_n 0, 1) := dk_42 (dk_at dksX4_slopeAt_2 13 rfl rfl)
theorem dX4_slopeAt_62 : decode cX4_slopeAt 62 = .ok (.iload 12, 2) := dk_21 12 (dk_at dksX4_slopeAt_2 14 rfl rfl)
theorem dX4_slopeAt_64 : decode cX4_slopeAt 64 = .ok (.iload_n 1, 1) := dk_27 (dk_at dksX4_slopeAt_2 16 rfl rfl)
theorem dX4_slopeAt_65 : decode cX4_slopeAt 65 = .ok (.lload_n 2, 1) := dk_32 (dk_at dksX4_slopeAt_2 17 rfl rfl)
theorem dX4_slopeAt_66 : decode cX4_slopeAt 66 = .ok (.lload 4, 2) := dk_22 4 (dk_at dksX4_slopeAt_2 18 rfl rfl)
theorem dX4_slopeAt_68 : decode cX4_slopeAt 68 = .ok (.invokevirtual 143, 3) := dk_182 0 143 (dk_at dksX4_slopeAt_2 20 rfl rfl)
theorem dX4_slopeAt_71 : decode cX4_slopeAt 71 = .ok (.lstore 13, 2) := dk_55 13 (dk_at dksX4_slopeAt_3 0 rfl rfl)
theorem dX4_slopeAt_73 : decode cX4_slopeAt 73 = .ok (.aload_n 0, 1) := dk_42 (dk_at dksX4_slopeAt_3 2 rfl rfl)
theorem dX4_slopeAt_74 : decode cX4_slopeAt 74 = .ok (.iload 12, 2) := dk_21 12 (dk_at dksX4_slopeAt_3 3 rfl rfl)
theorem dX4_slopeAt_76 : decode cX4_slopeAt 76 = .ok (.iload_n 1, 1) := dk_27 (dk_at dksX4_slopeAt_3 5 rfl rfl)
theorem dX4_slopeAt_77 : decode cX4_slopeAt 77 = .ok (.lload_n 2, 1) := dk_32 (dk_at dksX4_slopeAt_3 6 rfl rfl)
theorem dX4_slopeAt_78 : decode cX4_slopeAt 78 = .ok (.lload 4, 2) := dk_22 4 (dk_at dksX4_slopeAt_3 7 rfl rfl)
theorem dX4_slopeAt_80 : decode cX4_slopeAt 80 = .ok (.invokevirtual 147, 3) := dk_182 0 147 (dk_at dksX4_slopeAt_3 9 rfl rfl)
theorem dX4_slopeAt_83 : decode cX4_slopeAt 83 = .ok (.lstore 15, 2) := dk_55 15 (dk_at dksX4_slopeAt_3 12 rfl rfl)
theorem dX4_slopeAt_85 : decode cX4_slopeAt 85 = .ok (.iload 6, 2) := dk_21 6 (dk_at dksX4_slopeAt_3 14 rfl rfl)
theorem dX4_slopeAt_87 : decode cX4_slopeAt 87 = .ok (.ifCond .eq 19, 3) := dk_153 0 19 (dk_at dksX4_slopeAt_3 16 rfl rfl)
theorem dX4_slopeAt_90 : decode cX4_slopeAt 90 = .ok (.lload 13, 2) := dk_22 13 (dk_at dksX4_slopeAt_3 19 rfl rfl)
theorem dX4_slopeAt_92 : decode cX4_slopeAt 92 = .ok (.lload 15, 2) := dk_22 15 (dk_at dksX4_slopeAt_3 21 rfl rfl)
theorem dX4_slopeAt_94 : decode cX4_slopeAt 94 = .ok (.lcmp, 1) := dk_148 (dk_at dksX4_slopeAt_3 23 rfl rfl)
theorem dX4_slopeAt_95 : decode cX4_slopeAt 95 = .ok (.ifCond .ge 7, 3) := dk_156 0 7 (dk_at dksX4_slopeAt_4 0 rfl rfl)
theorem dX4_slopeAt_98 : decode cX4_slopeAt 98 = .ok (.iconst 1, 1) := dk_4 (dk_at dksX4_slopeAt_4 3 rfl rfl)
theorem dX4_slopeAt_99 : decode cX4_slopeAt 99 = .ok (.goto 20, 3) := dk_167 0 20 (dk_at dksX4_slopeAt_4 4 rfl rfl)
theorem dX4_slopeAt_102 : decode cX4_slopeAt 102 = .ok (.iconst 0, 1) := dk_3 (dk_at dksX4_slopeAt_4 7 rfl rfl)
theorem dX4_slopeAt_103 : decode cX4_slopeAt 103 = .ok (.goto 16, 3) := dk_167 0 16 (dk_at dksX4_slopeAt_4 8 rfl rfl)
theorem dX4_slopeAt_106 : decode cX4_slopeAt 106 = .ok (.lload 13, 2) := dk_22 13 (dk_at dksX4_slopeAt_4 11 rfl rfl)
theorem dX4_slopeAt_108 : decode cX4_slopeAt 108 = .ok (.lload 15, 2) := dk_22 15 (dk_at dksX4_slopeAt_4 13 rfl rfl)
theorem dX4_slopeAt_110 : decode cX4_slopeAt 110 = .ok (.lcmp, 1) := dk_148 (dk_at dksX4_slopeAt_4 15 rfl rfl)
theorem dX4_slopeAt_111 : decode cX4_slopeAt 111 = .ok (.ifCond .gt 7, 3) := dk_157 0 7 (dk_at dksX4_slopeAt_4 16 rfl rfl)
theorem dX4_slopeAt_114 : decode cX4_slopeAt 114 = .ok (.iconst 1, 1) := dk_4 (dk_at dksX4_slopeAt_4 19 rfl rfl)
theorem dX4_slopeAt_115 : decode cX4_slopeAt 115 = .ok (.goto 4, 3) := dk_167 0 4 (dk_at dksX4_slopeAt_4 20 rfl rfl)
theorem dX4_slopeAt_118 : decode cX4_slopeAt 118 = .ok (.iconst 0, 1) := dk_3 (dk_at dksX4_slopeAt_4 23 rfl rfl)
theorem dX4_slopeAt_119 : decode cX4_slopeAt 119 = .ok (.istore 17, 2) := dk_54 17 (dk_at dksX4_slopeAt_5 0 rfl rfl)
theorem dX4_slopeAt_121 : decode cX4_slopeAt 121 = .ok (.iload 17, 2) := dk_21 17 (dk_at dksX4_slopeAt_5 2 rfl rfl)
theorem dX4_slopeAt_123 : decode cX4_slopeAt 123 = .ok (.ifCond .eq 14, 3) := dk_153 0 14 (dk_at dksX4_slopeAt_5 4 rfl rfl)
theorem dX4_slopeAt_126 : decode cX4_slopeAt 126 = .ok (.aload_n 0, 1) := dk_42 (dk_at dksX4_slopeAt_5 7 rfl rfl)
theorem dX4_slopeAt_127 : decode cX4_slopeAt 127 = .ok (.getfield 25, 3) := dk_180 0 25 (dk_at dksX4_slopeAt_5 8 rfl rfl)
theorem dX4_slopeAt_130 : decode cX4_slopeAt 130 = .ok (.iload 12, 2) := dk_21 12 (dk_at dksX4_slopeAt_5 11 rfl rfl)
theorem dX4_slopeAt_132 : decode cX4_slopeAt 132 = .ok (.iaload, 1) := dk_46 (dk_at dksX4_slopeAt_5 13 rfl rfl)
theorem dX4_slopeAt_133 : decode cX4_slopeAt 133 = .ok (.i2l, 1) := dk_133 (dk_at dksX4_slopeAt_5 14 rfl rfl)
theorem dX4_slopeAt_134 : decode cX4_slopeAt 134 = .ok (.goto 12, 3) := dk_167 0 12 (dk_at dksX4_slopeAt_5 15 rfl rfl)
theorem dX4_slopeAt_137 : decode cX4_slopeAt 137 = .ok (.aload_n 0, 1) := dk_42 (dk_at dksX4_slopeAt_5 18 rfl rfl)
theorem dX4_slopeAt_138 : decode cX4_slopeAt 138 = .ok (.getfield 25, 3) := dk_180 0 25 (dk_at dksX4_slopeAt_5 19 rfl rfl)
theorem dX4_slopeAt_141 : decode cX4_slopeAt 141 = .ok (.iload 12, 2) := dk_21 12 (dk_at dksX4_slopeAt_5 22 rfl rfl)
theorem dX4_slopeAt_143 : decode cX4_slopeAt 143 = .ok (.iaload, 1) := dk_46 (dk_at dksX4_slopeAt_6 0 rfl rfl)
theorem dX4_slopeAt_144 : decode cX4_slopeAt 144 = .ok (.ineg, 1) := dk_116 (dk_at dksX4_slopeAt_6 1 rfl rfl)
theorem dX4_slopeAt_145 : decode cX4_slopeAt 145 = .ok (.i2l, 1) := dk_133 (dk_at dksX4_slopeAt_6 2 rfl rfl)
theorem dX4_slopeAt_146 : decode cX4_slopeAt 146 = .ok (.lstore 18, 2) := dk_55 18 (dk_at dksX4_slopeAt_6 3 rfl rfl)
theorem dX4_slopeAt_148 : decode cX4_slopeAt 148 = .ok (.iload 11, 2) := dk_21 11 (dk_at dksX4_slopeAt_6 5 rfl rfl)
theorem dX4_slopeAt_150 : decode cX4_slopeAt 150 = .ok (.ifCond .ne 27, 3) := dk_154 0 27 (dk_at dksX4_slopeAt_6 7 rfl rfl)
theorem dX4_slopeAt_153 : decode cX4_slopeAt 153 = .ok (.iload 6, 2) := dk_21 6 (dk_at dksX4_slopeAt_6 10 rfl rfl)
theorem dX4_slopeAt_155 : decode cX4_slopeAt 155 = .ok (.ifCond .eq 14, 3) := dk_153 0 14 (dk_at dksX4_slopeAt_6 12 rfl rfl)
theorem dX4_slopeAt_158 : decode cX4_slopeAt 158 = .ok (.lload 18, 2) := dk_22 18 (dk_at dksX4_slopeAt_6 15 rfl rfl)
theorem dX4_slopeAt_160 : decode cX4_slopeAt 160 = .ok (.lload 9, 2) := dk_22 9 (dk_at dksX4_slopeAt_6 17 rfl rfl)
theorem dX4_slopeAt_162 : decode cX4_slopeAt 162 = .ok (.lcmp, 1) := dk_148 (dk_at dksX4_slopeAt_6 19 rfl rfl)
theorem dX4_slopeAt_163 : decode cX4_slopeAt 163 = .ok (.ifCond .le 19, 3) := dk_158 0 19 (dk_at dksX4_slopeAt_6 20 rfl rfl)
theorem dX4_slopeAt_166 : decode cX4_slopeAt 166 = .ok (.goto 11, 3) := dk_167 0 11 (dk_at dksX4_slopeAt_7 0 rfl rfl)
theorem dX4_slopeAt_169 : decode cX4_slopeAt 169 = .ok (.lload 18, 2) := dk_22 18 (dk_at dksX4_slopeAt_7 3 rfl rfl)
theorem dX4_slopeAt_171 : decode cX4_slopeAt 171 = .ok (.lload 9, 2) := dk_22 9 (dk_at dksX4_slopeAt_7 5 rfl rfl)
theorem dX4_slopeAt_173 : decode cX4_slopeAt 173 = .ok (.lcmp, 1) := dk_148 (dk_at dksX4_slopeAt_7 7 rfl rfl)
theorem dX4_slopeAt_174 : decode cX4_slopeAt 174 = .ok (.ifCond .ge 8, 3) := dk_156 0 8 (dk_at dksX4_slopeAt_7 8 rfl rfl)
theorem dX4_slopeAt_177 : decode cX4_slopeAt 177 = .ok (.lload 18, 2) := dk_22 18 (dk_at dksX4_slopeAt_7 11 rfl rfl)
theorem dX4_slopeAt_179 : decode cX4_slopeAt 179 = .ok (.goto 5, 3) := dk_167 0 5 (dk_at dksX4_slopeAt_7 13 rfl rfl)
theorem dX4_slopeAt_182 : decode cX4_slopeAt 182 = .ok (.lload 9, 2) := dk_22 9 (dk_at dksX4_slopeAt_7 16 rfl rfl)
theorem dX4_slopeAt_184 : decode cX4_slopeAt 184 = .ok (.lstore 9, 2) := dk_55 9 (dk_at dksX4_slopeAt_7 18 rfl rfl)
theorem dX4_slopeAt_186 : decode cX4_slopeAt 186 = .ok (.iconst 0, 1) := dk_3 (dk_at dksX4_slopeAt_7 20 rfl rfl)
theorem dX4_slopeAt_187 : decode cX4_slopeAt 187 = .ok (.istore 11, 2) := dk_54 11 (dk_at dksX4_slopeAt_7 21 rfl rfl)
theorem dX4_slopeAt_189 : decode cX4_slopeAt 189 = .ok (.iinc 12 1, 3) := dk_132 12 1 (dk_at dksX4_slopeAt_8 0 rfl rfl)
theorem dX4_slopeAt_192 : decode cX4_slopeAt 192 = .ok (.goto (-165), 3) := dk_167 255 91 (dk_at dksX4_slopeAt_8 3 rfl rfl)
theorem dX4_slopeAt_195 : decode cX4_slopeAt 195 = .ok (.lload 9, 2) := dk_22 9 (dk_at dksX4_slopeAt_8 6 rfl rfl)
theorem dX4_slopeAt_197 : decode cX4_slopeAt 197 = .ok (.lreturn, 1) := dk_173 (dk_at dksX4_slopeAt_8 8 rfl rfl)
abbrev cX4_radius : ByteArray := prog_19_method_71_code
def yX4_radius : MethodName := ⟨RX4, "radius", "(II)I"⟩
def dkwX4_radius_1 : List UInt8 := [184, 0, 156, 172]
abbrev dktX4_radius_1 : List UInt8 := dkwX4_radius_1 ++ []
def dkwX4_radius_0 : List UInt8 := [42, 27, 28, 4, 182, 0, 239, 153, 0, 7, 3, 167, 0, 15, 42, 180, 0, 202, 42, 180, 0, 198, 28]
abbrev dktX4_radius_0 : List UInt8 := dkwX4_radius_0 ++ dktX4_radius_1
theorem dksX4_radius_0 : cX4_radius.data.toList.drop 0 = dktX4_radius_0 := by decide +kernel
theorem dksX4_radius_1 : cX4_radius.data.toList.drop 23 = dktX4_radius_1 := dk_seg dksX4_radius_0 23 rfl rfl
theorem dX4_radius_0 : decode cX4_radius 0 = .ok (.aload_n 0, 1) := dk_42 (dk_at dksX4_radius_0 0 rfl rfl)
theorem dX4_radius_1 : decode cX4_radius 1 = .ok (.iload_n 1, 1) := dk_27 (dk_at dksX4_radius_0 1 rfl rfl)
theorem dX4_radius_2 : decode cX4_radius 2 = .ok (.iload_n 2, 1) := dk_28 (dk_at dksX4_radius_0 2 rfl rfl)
theorem dX4_radius_3 : decode cX4_radius 3 = .ok (.iconst 1, 1) := dk_4 (dk_at dksX4_radius_0 3 rfl rfl)
theorem dX4_radius_4 : decode cX4_radius 4 = .ok (.invokevirtual 239, 3) := dk_182 0 239 (dk_at dksX4_radius_0 4 rfl rfl)
theorem dX4_radius_7 : decode cX4_radius 7 = .ok (.ifCond .eq 7, 3) := dk_153 0 7 (dk_at dksX4_radius_0 7 rfl rfl)
theorem dX4_radius_10 : decode cX4_radius 10 = .ok (.iconst 0, 1) := dk_3 (dk_at dksX4_radius_0 10 rfl rfl)
theorem dX4_radius_11 : decode cX4_radius 11 = .ok (.goto 15, 3) := dk_167 0 15 (dk_at dksX4_radius_0 11 rfl rfl)
theorem dX4_radius_14 : decode cX4_radius 14 = .ok (.aload_n 0, 1) := dk_42 (dk_at dksX4_radius_0 14 rfl rfl)
theorem dX4_radius_15 : decode cX4_radius 15 = .ok (.getfield 202, 3) := dk_180 0 202 (dk_at dksX4_radius_0 15 rfl rfl)
theorem dX4_radius_18 : decode cX4_radius 18 = .ok (.aload_n 0, 1) := dk_42 (dk_at dksX4_radius_0 18 rfl rfl)
theorem dX4_radius_19 : decode cX4_radius 19 = .ok (.getfield 198, 3) := dk_180 0 198 (dk_at dksX4_radius_0 19 rfl rfl)
theorem dX4_radius_22 : decode cX4_radius 22 = .ok (.iload_n 2, 1) := dk_28 (dk_at dksX4_radius_0 22 rfl rfl)
theorem dX4_radius_23 : decode cX4_radius 23 = .ok (.invokestatic 156, 3) := dk_184 0 156 (dk_at dksX4_radius_1 0 rfl rfl)
theorem dX4_radius_26 : decode cX4_radius 26 = .ok (.ireturn, 1) := dk_172 (dk_at dksX4_radius_1 3 rfl rfl)
abbrev cX4_refusedCenter : ByteArray := prog_19_method_70_code
def yX4_refusedCenter : MethodName := ⟨RX4, "refusedCenter", "(III)Z"⟩
def dkwX4_refusedCenter_2 : List UInt8 := [42, 27, 182, 0, 236, 3, 172]
abbrev dktX4_refusedCenter_2 : List UInt8 := dkwX4_refusedCenter_2 ++ []
def dkwX4_refusedCenter_1 : List UInt8 := [182, 0, 233, 154, 0, 7, 5, 167, 0, 4, 3, 182, 0, 61, 153, 0, 5, 4, 172, 42, 3, 182, 0, 170]
abbrev dktX4_refusedCenter_1 : List UInt8 := dkwX4_refusedCenter_1 ++ dktX4_refusedCenter_2
def dkwX4_refusedCenter_0 : List UInt8 := [42, 42, 27, 182, 0, 167, 153, 0, 12, 28, 3, 29, 184, 0, 69, 154, 0, 7, 4, 167, 0, 15, 42]
abbrev dktX4_refusedCenter_0 : List UInt8 := dkwX4_refusedCenter_0 ++ dktX4_refusedCenter_1
theorem dksX4_refusedCenter_0 : cX4_refusedCenter.data.toList.drop 0 = dktX4_refusedCenter_0 := by decide +kernel
theorem dksX4_refusedCenter_1 : cX4_refusedCenter.data.toList.drop 23 = dktX4_refusedCenter_1 := dk_seg dksX4_refusedCenter_0 23 rfl rfl
theorem dksX4_refusedCenter_2 : cX4_refusedCenter.data.toList.drop 47 = dktX4_refusedCenter_2 := dk_seg dksX4_refusedCenter_1 24 rfl rfl
theorem dX4_refusedCenter_0 : decode cX4_refusedCenter 0 = .ok (.aload_n 0, 1) := dk_42 (dk_at dksX4_refusedCenter_0 0 rfl rfl)
theorem dX4_refusedCenter_1 : decode cX4_refusedCenter 1 = .ok (.aload_n 0, 1) := dk_42 (dk_at dksX4_refusedCenter_0 1 rfl rfl)
theorem dX4_refusedCenter_2 : decode cX4_refusedCenter 2 = .ok (.iload_n 1, 1) := dk_27 (dk_at dksX4_refusedCenter_0 2 rfl rfl)
theorem dX4_refusedCenter_3 : decode cX4_refusedCenter 3 = .ok (.invokevirtual 167, 3) := dk_182 0 167 (dk_at dksX4_refusedCenter_0 3 rfl rfl)
theorem dX4_refusedCenter_6 : decode cX4_refusedCenter 6 = .ok (.ifCond .eq 12, 3) := dk_153 0 12 (dk_at dksX4_refusedCenter_0 6 rfl rfl)
theorem dX4_refusedCenter_9 : decode cX4_refusedCenter 9 = .ok (.iload_n 2, 1) := dk_28 (dk_at dksX4_refusedCenter_0 9 rfl rfl)
theorem dX4_refusedCenter_10 : decode cX4_refusedCenter 10 = .ok (.iconst 0, 1) := dk_3 (dk_at dksX4_refusedCenter_0 10 rfl rfl)
theorem dX4_refusedCenter_11 : decode cX4_refusedCenter 11 = .ok (.iload_n 3, 1) := dk_29 (dk_at dksX4_refusedCenter_0 11 rfl rfl)
theorem dX4_refusedCenter_12 : decode cX4_refusedCenter 12 = .ok (.invokestatic 69, 3) := dk_184 0 69 (dk_at dksX4_refusedCenter_0 12 rfl rfl)
theorem dX4_refusedCenter_15 : decode cX4_refusedCenter 15 = .ok (.ifCond .ne 7, 3) := dk_154 0 7 (dk_at dksX4_refusedCenter_0 15 rfl rfl)
theorem dX4_refusedCenter_18 : decode cX4_refusedCenter 18 = .ok (.iconst 1, 1) := dk_4 (dk_at dksX4_refusedCenter_0 18 rfl rfl)
theorem dX4_refusedCenter_19 : decode cX4_refusedCenter 19 = .ok (.goto 15, 3) := dk_167 0 15 (dk_at dksX4_refusedCenter_0 19 rfl rfl)
theorem dX4_refusedCenter_22 : decode cX4_refusedCenter 22 = .ok (.aload_n 0, 1) := dk_42 (dk_at dksX4_refusedCenter_0 22 rfl rfl)
theorem dX4_refusedCenter_23 : decode cX4_refusedCenter 23 = .ok (.invokevirtual 233, 3) := dk_182 0 233 (dk_at dksX4_refusedCenter_1 0 rfl rfl)
theorem dX4_refusedCenter_26 : decode cX4_refusedCenter 26 = .ok (.ifCond .ne 7, 3) := dk_154 0 7 (dk_at dksX4_refusedCenter_1 3 rfl rfl)
theorem dX4_refusedCenter_29 : decode cX4_refusedCenter 29 = .ok (.iconst 2, 1) := dk_5 (dk_at dksX4_refusedCenter_1 6 rfl rfl)
theorem dX4_refusedCenter_30 : decode cX4_refusedCenter 30 = .ok (.goto 4, 3) := dk_167 0 4 (dk_at dksX4_refusedCenter_1 7 rfl rfl)
theorem dX4_refusedCenter_33 : decode cX4_refusedCenter 33 = .ok (.iconst 0, 1) := dk_3 (dk_at dksX4_refusedCenter_1 10 rfl rfl)
theorem dX4_refusedCenter_34 : decode cX4_refusedCenter 34 = .ok (.invokevirtual 61, 3) := dk_182 0 61 (dk_at dksX4_refusedCenter_1 11 rfl rfl)
theorem dX4_refusedCenter_37 : decode cX4_refusedCenter 37 = .ok (.ifCond .eq 5, 3) := dk_153 0 5 (dk_at dksX4_refusedCenter_1 14 rfl rfl)
theorem dX4_refusedCenter_40 : decode cX4_refusedCenter 40 = .ok (.iconst 1, 1) := dk_4 (dk_at dksX4_refusedCenter_1 17 rfl rfl)
theorem dX4_refusedCenter_41 : decode cX4_refusedCenter 41 = .ok (.ireturn, 1) := dk_172 (dk_at dksX4_refusedCenter_1 18 rfl rfl)
theorem dX4_refusedCenter_42 : decode cX4_refusedCenter 42 = .ok (.aload_n 0, 1) := dk_42 (dk_at dksX4_refusedCenter_1 19 rfl rfl)
theorem dX4_refusedCenter_43 : decode cX4_refusedCenter 43 = .ok (.iconst 0, 1) := dk_3 (dk_at dksX4_refusedCenter_1 20 rfl rfl)
theorem dX4_refusedCenter_44 : decode cX4_refusedCenter 44 = .ok (.invokevirtual 170, 3) := dk_182 0 170 (dk_at dksX4_refusedCenter_1 21 rfl rfl)
theorem dX4_refusedCenter_47 : decode cX4_refusedCenter 47 = .ok (.aload_n 0, 1) := dk_42 (dk_at dksX4_refusedCenter_2 0 rfl rfl)
theorem dX4_refusedCenter_48 : decode cX4_refusedCenter 48 = .ok (.iload_n 1, 1) := dk_27 (dk_at dksX4_refusedCenter_2 1 rfl rfl)
theorem dX4_refusedCenter_49 : decode cX4_refusedCenter 49 = .ok (.invokevirtual 236, 3) := dk_182 0 236 (dk_at dksX4_refusedCenter_2 2 rfl rfl)
theorem dX4_refusedCenter_52 : decode cX4_refusedCenter 52 = .ok (.iconst 0, 1) := dk_3 (dk_at dksX4_refusedCenter_2 5 rfl rfl)
theorem dX4_refusedCenter_53 : decode cX4_refusedCenter 53 = .ok (.ireturn, 1) := dk_172 (dk_at dksX4_refusedCenter_2 6 rfl rfl)
abbrev cX4_canHave : ByteArray := prog_19_method_69_code
def yX4_canHave : MethodName := ⟨RX4, "canHave", "()Z"⟩
def dkwX4_canHave_0 : List UInt8 := [42, 182, 0, 73, 158, 0, 14, 42, 182, 0, 122, 153, 0, 7, 4, 167, 0, 4, 3, 172]
abbrev dktX4_canHave_0 : List UInt8 := dkwX4_canHave_0 ++ []
theorem dksX4_canHave_0 : cX4_canHave.data.toList.drop 0 = dktX4_canHave_0 := by decide +kernel
theorem dX4_canHave_0 : decode cX4_canHave 0 = .ok (.aload_n 0, 1) := dk_42 (dk_at dksX4_canHave_0 0 rfl rfl)
theorem dX4_canHave_1 : decode cX4_canHave 1 = .ok (.invokevirtual 73, 3) := dk_182 0 73 (dk_at dksX4_canHave_0 1 rfl rfl)
theorem dX4_canHave_4 : decode cX4_canHave 4 = .ok (.ifCond .le 14, 3) := dk_158 0 14 (dk_at dksX4_canHave_0 4 rfl rfl)
theorem dX4_canHave_7 : decode cX4_canHave 7 = .ok (.aload_n 0, 1) := dk_42 (dk_at dksX4_canHave_0 7 rfl rfl)
theorem dX4_canHave_8 : decode cX4_canHave 8 = .ok (.invokevirtual 122, 3) := dk_182 0 122 (dk_at dksX4_canHave_0 8 rfl rfl)
theorem dX4_canHave_11 : decode cX4_canHave 11 = .ok (.ifCond .eq 7, 3) := dk_153 0 7 (dk_at dksX4_canHave_0 11 rfl rfl)
theorem dX4_canHave_14 : decode cX4_canHave 14 = .ok (.iconst 1, 1) := dk_4 (dk_at dksX4_canHave_0 14 rfl rfl)
theorem dX4_canHave_15 : decode cX4_canHave 15 = .ok (.goto 4, 3) := dk_167 0 4 (dk_at dksX4_canHave_0 15 rfl rfl)
theorem dX4_canHave_18 : decode cX4_canHave 18 = .ok (.iconst 0, 1) := dk_3 (dk_at dksX4_canHave_0 18 rfl rfl)
theorem dX4_canHave_19 : decode cX4_canHave 19 = .ok (.ireturn, 1) := dk_172 (dk_at dksX4_canHave_0 19 rfl rfl)
abbrev cX4_centers : ByteArray := prog_19_method_62_code
def yX4_centers : MethodName := ⟨RX4, "centers", "(I)V"⟩
def dkwX4_centers_4 : List UInt8 := [167, 255, 168, 177]
abbrev dktX4_centers_4 : List UInt8 := dkwX4_centers_4 ++ []
def dkwX4_centers_3 : List UInt8 := [29, 47, 42, 180, 0, 32, 29, 47, 182, 0, 173, 182, 0, 212, 132, 3, 1, 167, 255, 190, 132, 2, 1]
abbrev dktX4_centers_3 : List UInt8 := dkwX4_centers_3 ++ dktX4_centers_4
def dkwX4_centers_2 : List UInt8 := [153, 0, 38, 42, 28, 42, 180, 0, 28, 29, 47, 42, 180, 0, 32, 29, 47, 42, 27, 28, 42, 180, 0, 28]
abbrev dktX4_centers_2 : List UInt8 := dkwX4_centers_2 ++ dktX4_centers_3
def dkwX4_centers_1 : List UInt8 := [42, 180, 0, 182, 162, 0, 64, 42, 28, 42, 180, 0, 28, 29, 47, 42, 180, 0, 32, 29, 47, 182, 0, 160]
abbrev dktX4_centers_1 : List UInt8 := dkwX4_centers_1 ++ dktX4_centers_2
def dkwX4_centers_0 : List UInt8 := [42, 2, 181, 0, 195, 3, 61, 28, 42, 182, 0, 73, 162, 0, 86, 42, 27, 28, 182, 0, 208, 3, 62, 29]
abbrev dktX4_centers_0 : List UInt8 := dkwX4_centers_0 ++ dktX4_centers_1
theorem dksX4_centers_0 : cX4_centers.data.toList.drop 0 = dktX4_centers_0 := by decide +kernel
theorem dksX4_centers_1 : cX4_centers.data.toList.drop 24 = dktX4_centers_1 := dk_seg dksX4_centers_0 24 rfl rfl
theorem dksX4_centers_2 : cX4_centers.data.toList.drop 48 = dktX4_centers_2 := dk_seg dksX4_centers_1 24 rfl rfl
theorem dksX4_centers_3 : cX4_centers.data.toList.drop 72 = dktX4_centers_3 := dk_seg dksX4_centers_2 24 rfl rfl
theorem dksX4_centers_4 : cX4_centers.data.toList.drop 95 = dktX4_centers_4 := dk_seg dksX4_centers_3 23 rfl rfl
theorem dX4_centers_0 : decode cX4_centers 0 = .ok (.aload_n 0, 1) := dk_42 (dk_at dksX4_centers_0 0 rfl rfl)
theorem dX4_centers_1 : decode cX4_centers 1 = .ok (.iconst (-1), 1) := dk_2 (dk_at dksX4_centers_0 1 rfl rfl)
theorem dX4_centers_2 : decode cX4_centers 2 = .ok (.putfield 195, 3) := dk_181 0 195 (dk_at dksX4_centers_0 2 rfl rfl)
theorem dX4_centers_5 : decode cX4_centers 5 = .ok (.iconst 0, 1) := dk_3 (dk_at dksX4_centers_0 5 rfl rfl)
theorem dX4_centers_6 : decode cX4_centers 6 = .ok (.istore_n 2, 1) := dk_61 (dk_at dksX4_centers_0 6 rfl rfl)
theorem dX4_centers_7 : decode cX4_centers 7 = .ok (.iload_n 2, 1) := dk_28 (dk_at dksX4_centers_0 7 rfl rfl)
theorem dX4_centers_8 : decode cX4_centers 8 = .ok (.aload_n 0, 1) := dk_42 (dk_at dksX4_centers_0 8 rfl rfl)
theorem dX4_centers_9 : decode cX4_centers 9 = .ok (.invokevirtual 73, 3) := dk_182 0 73 (dk_at dksX4_centers_0 9 rfl rfl)
theorem dX4_centers_12 : decode cX4_centers 12 = .ok (.if_icmp .ge 86, 3) := dk_162 0 86 (dk_at dksX4_centers_0 12 rfl rfl)
theorem dX4_centers_15 : decode cX4_centers 15 = .ok (.aload_n 0, 1) := dk_42 (dk_at dksX4_centers_0 15 rfl rfl)
theorem dX4_centers_16 : decode cX4_centers 16 = .ok (.iload_n 1, 1) := dk_27 (dk_at dksX4_centers_0 16 rfl rfl)
theorem dX4_centers_17 : decode cX4_centers 17 = .ok (.iload_n 2, 1) := dk_28 (dk_at dksX4_centers_0 17 rfl rfl)
theorem dX4_centers_18 : decode cX4_centers 18 = .ok (.invokevirtual 208, 3) := dk_182 0 208 (dk_at dksX4_centers_0 18 rfl rfl)
theorem dX4_centers_21 : decode cX4_centers 21 = .ok (.iconst 0, 1) := dk_3 (dk_at dksX4_centers_0 21 rfl rfl)
theorem dX4_centers_22 : decode cX4_centers 22 = .ok (.istore_n 3, 1) := dk_62 (dk_at dksX4_centers_0 22 rfl rfl)
theorem dX4_centers_23 : decode cX4_centers 23 = .ok (.iload_n 3, 1) := dk_29 (dk_at dksX4_centers_0 23 rfl rfl)
theorem dX4_centers_24 : decode cX4_centers 24 = .ok (.aload_n 0, 1) := dk_42 (dk_at dksX4_centers_1 0 rfl rfl)
theorem dX4_centers_25 : decode cX4_centers 25 = .ok (.getfield 182, 3) := dk_180 0 182 (dk_at dksX4_centers_1 1 rfl rfl)
theorem dX4_centers_28 : decode cX4_centers 28 = .ok (.if_icmp .ge 64, 3) := dk_162 0 64 (dk_at dksX4_centers_1 4 rfl rfl)
theorem dX4_centers_31 : decode cX4_centers 31 = .ok (.aload_n 0, 1) := dk_42 (dk_at dksX4_centers_1 7 rfl rfl)
theorem dX4_centers_32 : decode cX4_centers 32 = .ok (.iload_n 2, 1) := dk_28 (dk_at dksX4_centers_1 8 rfl rfl)
theorem dX4_centers_33 : decode cX4_centers 33 = .ok (.aload_n 0, 1) := dk_42 (dk_at dksX4_centers_1 9 rfl rfl)
theorem dX4_centers_34 : decode cX4_centers 34 = .ok (.getfield 28, 3) := dk_180 0 28 (dk_at dksX4_centers_1 10 rfl rfl)
theorem dX4_centers_37 : decode cX4_centers 37 = .ok (.iload_n 3, 1) := dk_29 (dk_at dksX4_centers_1 13 rfl rfl)
theorem dX4_centers_38 : decode cX4_centers 38 = .ok (.laload, 1) := dk_47 (dk_at dksX4_centers_1 14 rfl rfl)
theorem dX4_centers_39 : decode cX4_centers 39 = .ok (.aload_n 0, 1) := dk_42 (dk_at dksX4_centers_1 15 rfl rfl)
theorem dX4_centers_40 : decode cX4_centers 40 = .ok (.getfield 32, 3) := dk_180 0 32 (dk_at dksX4_centers_1 16 rfl rfl)
theorem dX4_centers_43 : decode cX4_centers 43 = .ok (.iload_n 3, 1) := dk_29 (dk_at dksX4_centers_1 19 rfl rfl)
theorem dX4_centers_44 : decode cX4_centers 44 = .ok (.laload, 1) := dk_47 (dk_at dksX4_centers_1 20 rfl rfl)
theorem dX4_centers_45 : decode cX4_centers 45 = .ok (.invokevirtual 160, 3) := dk_182 0 160 (dk_at dksX4_centers_1 21 rfl rfl)
theorem dX4_centers_48 : decode cX4_centers 48 = .ok (.ifCond .eq 38, 3) := dk_153 0 38 (dk_at dksX4_centers_2 0 rfl rfl)
theorem dX4_centers_51 : decode cX4_centers 51 = .ok (.aload_n 0, 1) := dk_42 (dk_at dksX4_centers_2 3 rfl rfl)
theorem dX4_centers_52 : decode cX4_centers 52 = .ok (.iload_n 2, 1) := dk_28 (dk_at dksX4_centers_2 4 rfl rfl)
theorem dX4_centers_53 : decode cX4_centers 53 = .ok (.aload_n 0, 1) := dk_42 (dk_at dksX4_centers_2 5 rfl rfl)
theorem dX4_centers_54 : decode cX4_centers 54 = .ok (.getfield 28, 3) := dk_180 0 28 (dk_at dksX4_centers_2 6 rfl rfl)
theorem dX4_centers_57 : decode cX4_centers 57 = .ok (.iload_n 3, 1) := dk_29 (dk_at dksX4_centers_2 9 rfl rfl)
theorem dX4_centers_58 : decode cX4_centers 58 = .ok (.laload, 1) := dk_47 (dk_at dksX4_centers_2 10 rfl rfl)
theorem dX4_centers_59 : decode cX4_centers 59 = .ok (.aload_n 0, 1) := dk_42 (dk_at dksX4_centers_2 11 rfl rfl)
theorem dX4_centers_60 : decode cX4_centers 60 = .ok (.getfield 32, 3) := dk_180 0 32 (dk_at dksX4_centers_2 12 rfl rfl)
theorem dX4_centers_63 : decode cX4_centers 63 = .ok (.iload_n 3, 1) := dk_29 (dk_at dksX4_centers_2 15 rfl rfl)
theorem dX4_centers_64 : decode cX4_centers 64 = .ok (.laload, 1) := dk_47 (dk_at dksX4_centers_2 16 rfl rfl)
theorem dX4_centers_65 : decode cX4_centers 65 = .ok (.aload_n 0, 1) := dk_42 (dk_at dksX4_centers_2 17 rfl rfl)
theorem dX4_centers_66 : decode cX4_centers 66 = .ok (.iload_n 1, 1) := dk_27 (dk_at dksX4_centers_2 18 rfl rfl)
theorem dX4_centers_67 : decode cX4_centers 67 = .ok (.iload_n 2, 1) := dk_28 (dk_at dksX4_centers_2 19 rfl rfl)
theorem dX4_centers_68 : decode cX4_centers 68 = .ok (.aload_n 0, 1) := dk_42 (dk_at dksX4_centers_2 20 rfl rfl)
theorem dX4_centers_69 : decode cX4_centers 69 = .ok (.getfield 28, 3) := dk_180 0 28 (dk_at dksX4_centers_2 21 rfl rfl)
theorem dX4_centers_72 : decode cX4_centers 72 = .ok (.iload_n 3, 1) := dk_29 (dk_at dksX4_centers_3 0 rfl rfl)
theorem dX4_centers_73 : decode cX4_centers 73 = .ok (.laload, 1) := dk_47 (dk_at dksX4_centers_3 1 rfl rfl)
theorem dX4_centers_74 : decode cX4_centers 74 = .ok (.aload_n 0, 1) := dk_42 (dk_at dksX4_centers_3 2 rfl rfl)
theorem dX4_centers_75 : decode cX4_centers 75 = .ok (.getfield 32, 3) := dk_180 0 32 (dk_at dksX4_centers_3 3 rfl rfl)
theorem dX4_centers_78 : decode cX4_centers 78 = .ok (.iload_n 3, 1) := dk_29 (dk_at dksX4_centers_3 6 rfl rfl)
theorem dX4_centers_79 : decode cX4_centers 79 = .ok (.laload, 1) := dk_47 (dk_at dksX4_centers_3 7 rfl rfl)
theorem dX4_centers_80 : decode cX4_centers 80 = .ok (.invokevirtual 173, 3) := dk_182 0 173 (dk_at dksX4_centers_3 8 rfl rfl)
theorem dX4_centers_83 : decode cX4_centers 83 = .ok (.invokevirtual 212, 3) := dk_182 0 212 (dk_at dksX4_centers_3 11 rfl rfl)
theorem dX4_centers_86 : decode cX4_centers 86 = .ok (.iinc 3 1, 3) := dk_132 3 1 (dk_at dksX4_centers_3 14 rfl rfl)
theorem dX4_centers_89 : decode cX4_centers 89 = .ok (.goto (-66), 3) := dk_167 255 190 (dk_at dksX4_centers_3 17 rfl rfl)
theorem dX4_centers_92 : decode cX4_centers 92 = .ok (.iinc 2 1, 3) := dk_132 2 1 (dk_at dksX4_centers_3 20 rfl rfl)
theorem dX4_centers_95 : decode cX4_centers 95 = .ok (.goto (-88), 3) := dk_167 255 168 (dk_at dksX4_centers_4 0 rfl rfl)
theorem dX4_centers_98 : decode cX4_centers 98 = .ok (.return_, 1) := dk_177 (dk_at dksX4_centers_4 3 rfl rfl)
abbrev cX4_tries : ByteArray := prog_19_method_61_code
def yX4_tries : MethodName := ⟨RX4, "tries", "(IJJJ)V"⟩
def dkwX4_tries_4 : List UInt8 := [181, 0, 198, 42, 22, 6, 181, 0, 202, 177]
abbrev dktX4_tries_4 : List UInt8 := dkwX4_tries_4 ++ []
def dkwX4_tries_3 : List UInt8 := [167, 0, 4, 3, 54, 8, 21, 8, 153, 0, 25, 42, 27, 181, 0, 195, 42, 32, 181, 0, 205, 42, 22, 4]
abbrev dktX4_tries_3 : List UInt8 := dkwX4_tries_3 ++ dktX4_tries_4
def dkwX4_tries_2 : List UInt8 := [180, 0, 195, 160, 0, 24, 32, 42, 180, 0, 198, 105, 42, 180, 0, 205, 22, 4, 105, 148, 156, 0, 7, 4]
abbrev dktX4_tries_2 : List UInt8 := dkwX4_tries_2 ++ dktX4_tries_3
def dkwX4_tries_1 : List UInt8 := [155, 0, 46, 22, 6, 42, 180, 0, 198, 105, 42, 180, 0, 202, 22, 4, 105, 148, 154, 0, 32, 27, 42]
abbrev dktX4_tries_1 : List UInt8 := dkwX4_tries_1 ++ dktX4_tries_2
def dkwX4_tries_0 : List UInt8 := [42, 180, 0, 195, 2, 159, 0, 64, 22, 6, 42, 180, 0, 198, 105, 42, 180, 0, 202, 22, 4, 105, 148]
abbrev dktX4_tries_0 : List UInt8 := dkwX4_tries_0 ++ dktX4_tries_1
theorem dksX4_tries_0 : cX4_tries.data.toList.drop 0 = dktX4_tries_0 := by decide +kernel
theorem dksX4_tries_1 : cX4_tries.data.toList.drop 23 = dktX4_tries_1 := dk_seg dksX4_tries_0 23 rfl rfl
theorem dksX4_tries_2 : cX4_tries.data.toList.drop 46 = dktX4_tries_2 := dk_seg dksX4_tries_1 23 rfl rfl
theorem dksX4_tries_3 : cX4_tries.data.toList.drop 70 = dktX4_tries_3 := dk_seg dksX4_tries_2 24 rfl rfl
theorem dksX4_tries_4 : cX4_tries.data.toList.drop 94 = dktX4_tries_4 := dk_seg dksX4_tries_3 24 rfl rfl
theorem dX4_tries_0 : decode cX4_tries 0 = .ok (.aload_n 0, 1) := dk_42 (dk_at dksX4_tries_0 0 rfl rfl)
theorem dX4_tries_1 : decode cX4_tries 1 = .ok (.getfield 195, 3) := dk_180 0 195 (dk_at dksX4_tries_0 1 rfl rfl)
theorem dX4_tries_4 : decode cX4_tries 4 = .ok (.iconst (-1), 1) := dk_2 (dk_at dksX4_tries_0 4 rfl rfl)
theorem dX4_tries_5 : decode cX4_tries 5 = .ok (.if_icmp .eq 64, 3) := dk_159 0 64 (dk_at dksX4_tries_0 5 rfl rfl)
theorem dX4_tries_8 : decode cX4_tries 8 = .ok (.lload 6, 2) := dk_22 6 (dk_at dksX4_tries_0 8 rfl rfl)
theorem dX4_tries_10 : decode cX4_tries 10 = .ok (.aload_n 0, 1) := dk_42 (dk_at dksX4_tries_0 10 rfl rfl)
theorem dX4_tries_11 : decode cX4_tries 11 = .ok (.getfield 198, 3) := dk_180 0 198 (dk_at dksX4_tries_0 11 rfl rfl)
theorem dX4_tries_14 : decode cX4_tries 14 = .ok (.lmul, 1) := dk_105 (dk_at dksX4_tries_0 14 rfl rfl)
theorem dX4_tries_15 : decode cX4_tries 15 = .ok (.aload_n 0, 1) := dk_42 (dk_at dksX4_tries_0 15 rfl rfl)
theorem dX4_tries_16 : decode cX4_tries 16 = .ok (.getfield 202, 3) := dk_180 0 202 (dk_at dksX4_tries_0 16 rfl rfl)
theorem dX4_tries_19 : decode cX4_tries 19 = .ok (.lload 4, 2) := dk_22 4 (dk_at dksX4_tries_0 19 rfl rfl)
theorem dX4_tries_21 : decode cX4_tries 21 = .ok (.lmul, 1) := dk_105 (dk_at dksX4_tries_0 21 rfl rfl)
theorem dX4_tries_22 : decode cX4_tries 22 = .ok (.lcmp, 1) := dk_148 (dk_at dksX4_tries_0 22 rfl rfl)
theorem dX4_tries_23 : decode cX4_tries 23 = .ok (.ifCond .lt 46, 3) := dk_155 0 46 (dk_at dksX4_tries_1 0 rfl rfl)
theorem dX4_tries_26 : decode cX4_tries 26 = .ok (.lload 6, 2) := dk_22 6 (dk_at dksX4_tries_1 3 rfl rfl)
theorem dX4_tries_28 : decode cX4_tries 28 = .ok (.aload_n 0, 1) := dk_42 (dk_at dksX4_tries_1 5 rfl rfl)
theorem dX4_tries_29 : decode cX4_tries 29 = .ok (.getfield 198, 3) := dk_180 0 198 (dk_at dksX4_tries_1 6 rfl rfl)
theorem dX4_tries_32 : decode cX4_tries 32 = .ok (.lmul, 1) := dk_105 (dk_at dksX4_tries_1 9 rfl rfl)
theorem dX4_tries_33 : decode cX4_tries 33 = .ok (.aload_n 0, 1) := dk_42 (dk_at dksX4_tries_1 10 rfl rfl)
theorem dX4_tries_34 : decode cX4_tries 34 = .ok (.getfield 202, 3) := dk_180 0 202 (dk_at dksX4_tries_1 11 rfl rfl)
theorem dX4_tries_37 : decode cX4_tries 37 = .ok (.lload 4, 2) := dk_22 4 (dk_at dksX4_tries_1 14 rfl rfl)
theorem dX4_tries_39 : decode cX4_tries 39 = .ok (.lmul, 1) := dk_105 (dk_at dksX4_tries_1 16 rfl rfl)
theorem dX4_tries_40 : decode cX4_tries 40 = .ok (.lcmp, 1) := dk_148 (dk_at dksX4_tries_1 17 rfl rfl)
theorem dX4_tries_41 : decode cX4_tries 41 = .ok (.ifCond .ne 32, 3) := dk_154 0 32 (dk_at dksX4_tries_1 18 rfl rfl)
theorem dX4_tries_44 : decode cX4_tries 44 = .ok (.iload_n 1, 1) := dk_27 (dk_at dksX4_tries_1 21 rfl rfl)
theorem dX4_tries_45 : decode cX4_tries 45 = .ok (.aload_n 0, 1) := dk_42 (dk_at dksX4_tries_1 22 rfl rfl)
theorem dX4_tries_46 : decode cX4_tries 46 = .ok (.getfield 195, 3) := dk_180 0 195 (dk_at dksX4_tries_2 0 rfl rfl)
theorem dX4_tries_49 : decode cX4_tries 49 = .ok (.if_icmp .ne 24, 3) := dk_160 0 24 (dk_at dksX4_tries_2 3 rfl rfl)
theorem dX4_tries_52 : decode cX4_tries 52 = .ok (.lload_n 2, 1) := dk_32 (dk_at dksX4_tries_2 6 rfl rfl)
theorem dX4_tries_53 : decode cX4_tries 53 = .ok (.aload_n 0, 1) := dk_42 (dk_at dksX4_tries_2 7 rfl rfl)
theorem dX4_tries_54 : decode cX4_tries 54 = .ok (.getfield 198, 3) := dk_180 0 198 (dk_at dksX4_tries_2 8 rfl rfl)
theorem dX4_tries_57 : decode cX4_tries 57 = .ok (.lmul, 1) := dk_105 (dk_at dksX4_tries_2 11 rfl rfl)
theorem dX4_tries_58 : decode cX4_tries 58 = .ok (.aload_n 0, 1) := dk_42 (dk_at dksX4_tries_2 12 rfl rfl)
theorem dX4_tries_59 : decode cX4_tries 59 = .ok (.getfield 205, 3) := dk_180 0 205 (dk_at dksX4_tries_2 13 rfl rfl)
theorem dX4_tries_62 : decode cX4_tries 62 = .ok (.lload 4, 2) := dk_22 4 (dk_at dksX4_tries_2 16 rfl rfl)
theorem dX4_tries_64 : decode cX4_tries 64 = .ok (.lmul, 1) := dk_105 (dk_at dksX4_tries_2 18 rfl rfl)
theorem dX4_tries_65 : decode cX4_tries 65 = .ok (.lcmp, 1) := dk_148 (dk_at dksX4_tries_2 19 rfl rfl)
theorem dX4_tries_66 : decode cX4_tries 66 = .ok (.ifCond .ge 7, 3) := dk_156 0 7 (dk_at dksX4_tries_2 20 rfl rfl)
theorem dX4_tries_69 : decode cX4_tries 69 = .ok (.iconst 1, 1) := dk_4 (dk_at dksX4_tries_2 23 rfl rfl)
theorem dX4_tries_70 : decode cX4_tries 70 = .ok (.goto 4, 3) := dk_167 0 4 (dk_at dksX4_tries_3 0 rfl rfl)
theorem dX4_tries_73 : decode cX4_tries 73 = .ok (.iconst 0, 1) := dk_3 (dk_at dksX4_tries_3 3 rfl rfl)
theorem dX4_tries_74 : decode cX4_tries 74 = .ok (.istore 8, 2) := dk_54 8 (dk_at dksX4_tries_3 4 rfl rfl)
theorem dX4_tries_76 : decode cX4_tries 76 = .ok (.iload 8, 2) := dk_21 8 (dk_at dksX4_tries_3 6 rfl rfl)
theorem dX4_tries_78 : decode cX4_tries 78 = .ok (.ifCond .eq 25, 3) := dk_153 0 25 (dk_at dksX4_tries_3 8 rfl rfl)
theorem dX4_tries_81 : decode cX4_tries 81 = .ok (.aload_n 0, 1) := dk_42 (dk_at dksX4_tries_3 11 rfl rfl)
theorem dX4_tries_82 : decode cX4_tries 82 = .ok (.iload_n 1, 1) := dk_27 (dk_at dksX4_tries_3 12 rfl rfl)
theorem dX4_tries_83 : decode cX4_tries 83 = .ok (.putfield 195, 3) := dk_181 0 195 (dk_at dksX4_tries_3 13 rfl rfl)
theorem dX4_tries_86 : decode cX4_tries 86 = .ok (.aload_n 0, 1) := dk_42 (dk_at dksX4_tries_3 16 rfl rfl)
theorem dX4_tries_87 : decode cX4_tries 87 = .ok (.lload_n 2, 1) := dk_32 (dk_at dksX4_tries_3 17 rfl rfl)
theorem dX4_tries_88 : decode cX4_tries 88 = .ok (.putfield 205, 3) := dk_181 0 205 (dk_at dksX4_tries_3 18 rfl rfl)
theorem dX4_tries_91 : decode cX4_tries 91 = .ok (.aload_n 0, 1) := dk_42 (dk_at dksX4_tries_3 21 rfl rfl)
theorem dX4_tries_92 : decode cX4_tries 92 = .ok (.lload 4, 2) := dk_22 4 (dk_at dksX4_tries_3 22 rfl rfl)
theorem dX4_tries_94 : decode cX4_tries 94 = .ok (.putfield 198, 3) := dk_181 0 198 (dk_at dksX4_tries_4 0 rfl rfl)
theorem dX4_tries_97 : decode cX4_tries 97 = .ok (.aload_n 0, 1) := dk_42 (dk_at dksX4_tries_4 3 rfl rfl)
theorem dX4_tries_98 : decode cX4_tries 98 = .ok (.lload 6, 2) := dk_22 6 (dk_at dksX4_tries_4 4 rfl rfl)
theorem dX4_tries_100 : decode cX4_tries 100 = .ok (.putfield 202, 3) := dk_181 0 202 (dk_at dksX4_tries_4 6 rfl rfl)
theorem dX4_tries_103 : decode cX4_tries 103 = .ok (.return_, 1) := dk_177 (dk_at dksX4_tries_4 9 rfl rfl)
abbrev cX4_center : ByteArray := prog_19_method_73_code
def yX4_center : MethodName := ⟨RX4, "center", "(II)I"⟩
def dkwX4_center_0 : List UInt8 := [42, 27, 28, 5, 182, 0, 239, 153, 0, 7, 3, 167, 0, 8, 42, 28, 182, 0, 242, 172]
abbrev dktX4_center_0 : List UInt8 := dkwX4_center_0 ++ []
theorem dksX4_center_0 : cX4_center.data.toList.drop 0 = dktX4_center_0 := by decide +kernel
theorem dX4_center_0 : decode cX4_center 0 = .ok (.aload_n 0, 1) := dk_42 (dk_at dksX4_center_0 0 rfl rfl)
theorem dX4_center_1 : decode cX4_center 1 = .ok (.iload_n 1, 1) := dk_27 (dk_at dksX4_center_0 1 rfl rfl)
theorem dX4_center_2 : decode cX4_center 2 = .ok (.iload_n 2, 1) := dk_28 (dk_at dksX4_center_0 2 rfl rfl)
theorem dX4_center_3 : decode cX4_center 3 = .ok (.iconst 2, 1) := dk_5 (dk_at dksX4_center_0 3 rfl rfl)
theorem dX4_center_4 : decode cX4_center 4 = .ok (.invokevirtual 239, 3) := dk_182 0 239 (dk_at dksX4_center_0 4 rfl rfl)
theorem dX4_center_7 : decode cX4_center 7 = .ok (.ifCond .eq 7, 3) := dk_153 0 7 (dk_at dksX4_center_0 7 rfl rfl)
theorem dX4_center_10 : decode cX4_center 10 = .ok (.iconst 0, 1) := dk_3 (dk_at dksX4_center_0 10 rfl rfl)
theorem dX4_center_11 : decode cX4_center 11 = .ok (.goto 8, 3) := dk_167 0 8 (dk_at dksX4_center_0 11 rfl rfl)
theorem dX4_center_14 : decode cX4_center 14 = .ok (.aload_n 0, 1) := dk_42 (dk_at dksX4_center_0 14 rfl rfl)
theorem dX4_center_15 : decode cX4_center 15 = .ok (.iload_n 2, 1) := dk_28 (dk_at dksX4_center_0 15 rfl rfl)
theorem dX4_center_16 : decode cX4_center 16 = .ok (.invokevirtual 242, 3) := dk_182 0 242 (dk_at dksX4_center_0 16 rfl rfl)
theorem dX4_center_19 : decode cX4_center 19 = .ok (.ireturn, 1) := dk_172 (dk_at dksX4_center_0 19 rfl rfl)
abbrev cX4_centerTold : ByteArray := prog_19_method_72_code
def yX4_centerTold : MethodName := ⟨RX4, "centerTold", "(I)I"⟩
def dkwX4_centerTold_1 : List UInt8 := [184, 0, 156, 172]
abbrev dktX4_centerTold_1 : List UInt8 := dkwX4_centerTold_1 ++ []
def dkwX4_centerTold_0 : List UInt8 := [27, 154, 0, 10, 42, 180, 0, 195, 167, 0, 17, 42, 180, 0, 205, 42, 180, 0, 198, 27, 4, 100]
abbrev dktX4_centerTold_0 : List UInt8 := dkwX4_centerTold_0 ++ dktX4_centerTold_1
theorem dksX4_centerTold_0 : cX4_centerTold.data.toList.drop 0 = dktX4_centerTold_0 := by decide +kernel
theorem dksX4_centerTold_1 : cX4_centerTold.data.toList.drop 22 = dktX4_centerTold_1 := dk_seg dksX4_centerTold_0 22 rfl rfl
theorem dX4_centerTold_0 : decode cX4_centerTold 0 = .ok (.iload_n 1, 1) := dk_27 (dk_at dksX4_centerTold_0 0 rfl rfl)
theorem dX4_centerTold_1 : decode cX4_centerTold 1 = .ok (.ifCond .ne 10, 3) := dk_154 0 10 (dk_at dksX4_centerTold_0 1 rfl rfl)
theorem dX4_centerTold_4 : decode cX4_centerTold 4 = .ok (.aload_n 0, 1) := dk_42 (dk_at dksX4_centerTold_0 4 rfl rfl)
theorem dX4_centerTold_5 : decode cX4_centerTold 5 = .ok (.getfield 195, 3) := dk_180 0 195 (dk_at dksX4_centerTold_0 5 rfl rfl)
theorem dX4_centerTold_8 : decode cX4_centerTold 8 = .ok (.goto 17, 3) := dk_167 0 17 (dk_at dksX4_centerTold_0 8 rfl rfl)
theorem dX4_centerTold_11 : decode cX4_centerTold 11 = .ok (.aload_n 0, 1) := dk_42 (dk_at dksX4_centerTold_0 11 rfl rfl)
theorem dX4_centerTold_12 : decode cX4_centerTold 12 = .ok (.getfield 205, 3) := dk_180 0 205 (dk_at dksX4_centerTold_0 12 rfl rfl)
theorem dX4_centerTold_15 : decode cX4_centerTold 15 = .ok (.aload_n 0, 1) := dk_42 (dk_at dksX4_centerTold_0 15 rfl rfl)
theorem dX4_centerTold_16 : decode cX4_centerTold 16 = .ok (.getfield 198, 3) := dk_180 0 198 (dk_at dksX4_centerTold_0 16 rfl rfl)
theorem dX4_centerTold_19 : decode cX4_centerTold 19 = .ok (.iload_n 1, 1) := dk_27 (dk_at dksX4_centerTold_0 19 rfl rfl)
theorem dX4_centerTold_20 : decode cX4_centerTold 20 = .ok (.iconst 1, 1) := dk_4 (dk_at dksX4_centerTold_0 20 rfl rfl)
theorem dX4_centerTold_21 : decode cX4_centerTold 21 = .ok (.isub, 1) := dk_100 (dk_at dksX4_centerTold_0 21 rfl rfl)
theorem dX4_centerTold_22 : decode cX4_centerTold 22 = .ok (.invokestatic 156, 3) := dk_184 0 156 (dk_at dksX4_centerTold_1 0 rfl rfl)
theorem dX4_centerTold_25 : decode cX4_centerTold 25 = .ok (.ireturn, 1) := dk_172 (dk_at dksX4_centerTold_1 3 rfl rfl)
abbrev cX4_critical : ByteArray := prog_19_method_75_code
def yX4_critical : MethodName := ⟨RX4, "critical", "(I)I"⟩
def dkwX4_critical_0 : List UInt8 := [42, 27, 3, 3, 182, 0, 239, 153, 0, 7, 3, 167, 0, 8, 42, 27, 182, 0, 245, 172]
abbrev dktX4_critical_0 : List UInt8 := dkwX4_critical_0 ++ []
theorem dksX4_critical_0 : cX4_critical.data.toList.drop 0 = dktX4_critical_0 := by decide +kernel
theorem dX4_critical_0 : decode cX4_critical 0 = .ok (.aload_n 0, 1) := dk_42 (dk_at dksX4_critical_0 0 rfl rfl)
theorem dX4_critical_1 : decode cX4_critical 1 = .ok (.iload_n 1, 1) := dk_27 (dk_at dksX4_critical_0 1 rfl rfl)
theorem dX4_critical_2 : decode cX4_critical 2 = .ok (.iconst 0, 1) := dk_3 (dk_at dksX4_critical_0 2 rfl rfl)
theorem dX4_critical_3 : decode cX4_critical 3 = .ok (.iconst 0, 1) := dk_3 (dk_at dksX4_critical_0 3 rfl rfl)
theorem dX4_critical_4 : decode cX4_critical 4 = .ok (.invokevirtual 239, 3) := dk_182 0 239 (dk_at dksX4_critical_0 4 rfl rfl)
theorem dX4_critical_7 : decode cX4_critical 7 = .ok (.ifCond .eq 7, 3) := dk_153 0 7 (dk_at dksX4_critical_0 7 rfl rfl)
theorem dX4_critical_10 : decode cX4_critical 10 = .ok (.iconst 0, 1) := dk_3 (dk_at dksX4_critical_0 10 rfl rfl)
theorem dX4_critical_11 : decode cX4_critical 11 = .ok (.goto 8, 3) := dk_167 0 8 (dk_at dksX4_critical_0 11 rfl rfl)
theorem dX4_critical_14 : decode cX4_critical 14 = .ok (.aload_n 0, 1) := dk_42 (dk_at dksX4_critical_0 14 rfl rfl)
theorem dX4_critical_15 : decode cX4_critical 15 = .ok (.iload_n 1, 1) := dk_27 (dk_at dksX4_critical_0 15 rfl rfl)
theorem dX4_critical_16 : decode cX4_critical 16 = .ok (.invokevirtual 245, 3) := dk_182 0 245 (dk_at dksX4_critical_0 16 rfl rfl)
theorem dX4_critical_19 : decode cX4_critical 19 = .ok (.ireturn, 1) := dk_172 (dk_at dksX4_critical_0 19 rfl rfl)
abbrev cX4_criticalNow : ByteArray := prog_19_method_74_code
def yX4_criticalNow : MethodName := ⟨RX4, "criticalNow", "(I)I"⟩
def dkwX4_criticalNow_3 : List UInt8 := [172]
abbrev dktX4_criticalNow_3 : List UInt8 := dkwX4_criticalNow_3 ++ []
def dkwX4_criticalNow_2 : List UInt8 := [42, 180, 0, 202, 148, 154, 0, 9, 4, 29, 120, 167, 0, 4, 3, 128, 61, 132, 3, 1, 167, 255, 194, 28]
abbrev dktX4_criticalNow_2 : List UInt8 := dkwX4_criticalNow_2 ++ dktX4_criticalNow_3
def dkwX4_criticalNow_1 : List UInt8 := [180, 0, 25, 29, 46, 133, 42, 29, 42, 180, 0, 195, 42, 180, 0, 205, 42, 180, 0, 198, 182, 0, 153, 105]
abbrev dktX4_criticalNow_1 : List UInt8 := dkwX4_criticalNow_1 ++ dktX4_criticalNow_2
def dkwX4_criticalNow_0 : List UInt8 := [3, 61, 3, 62, 29, 42, 182, 0, 65, 162, 0, 60, 28, 27, 29, 184, 0, 164, 153, 0, 42, 42]
abbrev dktX4_criticalNow_0 : List UInt8 := dkwX4_criticalNow_0 ++ dktX4_criticalNow_1
theorem dksX4_criticalNow_0 : cX4_criticalNow.data.toList.drop 0 = dktX4_criticalNow_0 := by decide +kernel
theorem dksX4_criticalNow_1 : cX4_criticalNow.data.toList.drop 22 = dktX4_criticalNow_1 := dk_seg dksX4_criticalNow_0 22 rfl rfl
theorem dksX4_criticalNow_2 : cX4_criticalNow.data.toList.drop 46 = dktX4_criticalNow_2 := dk_seg dksX4_criticalNow_1 24 rfl rfl
theorem dksX4_criticalNow_3 : cX4_criticalNow.data.toList.drop 70 = dktX4_criticalNow_3 := dk_seg dksX4_criticalNow_2 24 rfl rfl
theorem dX4_criticalNow_0 : decode cX4_criticalNow 0 = .ok (.iconst 0, 1) := dk_3 (dk_at dksX4_criticalNow_0 0 rfl rfl)
theorem dX4_criticalNow_1 : decode cX4_criticalNow 1 = .ok (.istore_n 2, 1) := dk_61 (dk_at dksX4_criticalNow_0 1 rfl rfl)
theorem dX4_criticalNow_2 : decode cX4_criticalNow 2 = .ok (.iconst 0, 1) := dk_3 (dk_at dksX4_criticalNow_0 2 rfl rfl)
theorem dX4_criticalNow_3 : decode cX4_criticalNow 3 = .ok (.istore_n 3, 1) := dk_62 (dk_at dksX4_criticalNow_0 3 rfl rfl)
theorem dX4_criticalNow_4 : decode cX4_criticalNow 4 = .ok (.iload_n 3, 1) := dk_29 (dk_at dksX4_criticalNow_0 4 rfl rfl)
theorem dX4_criticalNow_5 : decode cX4_criticalNow 5 = .ok (.aload_n 0, 1) := dk_42 (dk_at dksX4_criticalNow_0 5 rfl rfl)
theorem dX4_criticalNow_6 : decode cX4_criticalNow 6 = .ok (.invokevirtual 65, 3) := dk_182 0 65 (dk_at dksX4_criticalNow_0 6 rfl rfl)
theorem dX4_criticalNow_9 : decode cX4_criticalNow 9 = .ok (.if_icmp .ge 60, 3) := dk_162 0 60 (dk_at dksX4_criticalNow_0 9 rfl rfl)
theorem dX4_criticalNow_12 : decode cX4_criticalNow 12 = .ok (.iload_n 2, 1) := dk_28 (dk_at dksX4_criticalNow_0 12 rfl rfl)
theorem dX4_criticalNow_13 : decode cX4_criticalNow 13 = .ok (.iload_n 1, 1) := dk_27 (dk_at dksX4_criticalNow_0 13 rfl rfl)
theorem dX4_criticalNow_14 : decode cX4_criticalNow 14 = .ok (.iload_n 3, 1) := dk_29 (dk_at dksX4_criticalNow_0 14 rfl rfl)
theorem dX4_criticalNow_15 : decode cX4_criticalNow 15 = .ok (.invokestatic 164, 3) := dk_184 0 164 (dk_at dksX4_criticalNow_0 15 rfl rfl)
theorem dX4_criticalNow_18 : decode cX4_criticalNow 18 = .ok (.ifCond .eq 42, 3) := dk_153 0 42 (dk_at dksX4_criticalNow_0 18 rfl rfl)
theorem dX4_criticalNow_21 : decode cX4_criticalNow 21 = .ok (.aload_n 0, 1) := dk_42 (dk_at dksX4_criticalNow_0 21 rfl rfl)
theorem dX4_criticalNow_22 : decode cX4_criticalNow 22 = .ok (.getfield 25, 3) := dk_180 0 25 (dk_at dksX4_criticalNow_1 0 rfl rfl)
theorem dX4_criticalNow_25 : decode cX4_criticalNow 25 = .ok (.iload_n 3, 1) := dk_29 (dk_at dksX4_criticalNow_1 3 rfl rfl)
theorem dX4_criticalNow_26 : decode cX4_criticalNow 26 = .ok (.iaload, 1) := dk_46 (dk_at dksX4_criticalNow_1 4 rfl rfl)
theorem dX4_criticalNow_27 : decode cX4_criticalNow 27 = .ok (.i2l, 1) := dk_133 (dk_at dksX4_criticalNow_1 5 rfl rfl)
theorem dX4_criticalNow_28 : decode cX4_criticalNow 28 = .ok (.aload_n 0, 1) := dk_42 (dk_at dksX4_criticalNow_1 6 rfl rfl)
theorem dX4_criticalNow_29 : decode cX4_criticalNow 29 = .ok (.iload_n 3, 1) := dk_29 (dk_at dksX4_criticalNow_1 7 rfl rfl)
theorem dX4_criticalNow_30 : decode cX4_criticalNow 30 = .ok (.aload_n 0, 1) := dk_42 (dk_at dksX4_criticalNow_1 8 rfl rfl)
theorem dX4_criticalNow_31 : decode cX4_criticalNow 31 = .ok (.getfield 195, 3) := dk_180 0 195 (dk_at dksX4_criticalNow_1 9 rfl rfl)
theorem dX4_criticalNow_34 : decode cX4_criticalNow 34 = .ok (.aload_n 0, 1) := dk_42 (dk_at dksX4_criticalNow_1 12 rfl rfl)
theorem dX4_criticalNow_35 : decode cX4_criticalNow 35 = .ok (.getfield 205, 3) := dk_180 0 205 (dk_at dksX4_criticalNow_1 13 rfl rfl)
theorem dX4_criticalNow_38 : decode cX4_criticalNow 38 = .ok (.aload_n 0, 1) := dk_42 (dk_at dksX4_criticalNow_1 16 rfl rfl)
theorem dX4_criticalNow_39 : decode cX4_criticalNow 39 = .ok (.getfield 198, 3) := dk_180 0 198 (dk_at dksX4_criticalNow_1 17 rfl rfl)
theorem dX4_criticalNow_42 : decode cX4_criticalNow 42 = .ok (.invokevirtual 153, 3) := dk_182 0 153 (dk_at dksX4_criticalNow_1 20 rfl rfl)
theorem dX4_criticalNow_45 : decode cX4_criticalNow 45 = .ok (.lmul, 1) := dk_105 (dk_at dksX4_criticalNow_1 23 rfl rfl)
theorem dX4_criticalNow_46 : decode cX4_criticalNow 46 = .ok (.aload_n 0, 1) := dk_42 (dk_at dksX4_criticalNow_2 0 rfl rfl)
theorem dX4_criticalNow_47 : decode cX4_criticalNow 47 = .ok (.getfield 202, 3) := dk_180 0 202 (dk_at dksX4_criticalNow_2 1 rfl rfl)
theorem dX4_criticalNow_50 : decode cX4_criticalNow 50 = .ok (.lcmp, 1) := dk_148 (dk_at dksX4_criticalNow_2 4 rfl rfl)
theorem dX4_criticalNow_51 : decode cX4_criticalNow 51 = .ok (.ifCond .ne 9, 3) := dk_154 0 9 (dk_at dksX4_criticalNow_2 5 rfl rfl)
theorem dX4_criticalNow_54 : decode cX4_criticalNow 54 = .ok (.iconst 1, 1) := dk_4 (dk_at dksX4_criticalNow_2 8 rfl rfl)
theorem dX4_criticalNow_55 : decode cX4_criticalNow 55 = .ok (.iload_n 3, 1) := dk_29 (dk_at dksX4_criticalNow_2 9 rfl rfl)
theorem dX4_criticalNow_56 : decode cX4_criticalNow 56 = .ok (.ishl, 1) := dk_120 (dk_at dksX4_criticalNow_2 10 rfl rfl)
theorem dX4_criticalNow_57 : decode cX4_criticalNow 57 = .ok (.goto 4, 3) := dk_167 0 4 (dk_at dksX4_criticalNow_2 11 rfl rfl)
theorem dX4_criticalNow_60 : decode cX4_criticalNow 60 = .ok (.iconst 0, 1) := dk_3 (dk_at dksX4_criticalNow_2 14 rfl rfl)
theorem dX4_criticalNow_61 : decode cX4_criticalNow 61 = .ok (.ior, 1) := dk_128 (dk_at dksX4_criticalNow_2 15 rfl rfl)
theorem dX4_criticalNow_62 : decode cX4_criticalNow 62 = .ok (.istore_n 2, 1) := dk_61 (dk_at dksX4_criticalNow_2 16 rfl rfl)
theorem dX4_criticalNow_63 : decode cX4_criticalNow 63 = .ok (.iinc 3 1, 3) := dk_132 3 1 (dk_at dksX4_criticalNow_2 17 rfl rfl)
theorem dX4_criticalNow_66 : decode cX4_criticalNow 66 = .ok (.goto (-62), 3) := dk_167 255 194 (dk_at dksX4_criticalNow_2 20 rfl rfl)
theorem dX4_criticalNow_69 : decode cX4_criticalNow 69 = .ok (.iload_n 2, 1) := dk_28 (dk_at dksX4_criticalNow_2 23 rfl rfl)
theorem dX4_criticalNow_70 : decode cX4_criticalNow 70 = .ok (.ireturn, 1) := dk_172 (dk_at dksX4_criticalNow_3 0 rfl rfl)
abbrev cX4_median : ByteArray := prog_19_method_78_code
def yX4_median : MethodName := ⟨RX4, "median", "(I)I"⟩
def dkwX4_median_2 : List UInt8 := [182, 0, 251, 172]
abbrev dktX4_median_2 : List UInt8 := dkwX4_median_2 ++ []
def dkwX4_median_1 : List UInt8 := [167, 0, 4, 3, 182, 0, 61, 153, 0, 5, 3, 172, 42, 3, 182, 0, 170, 42, 182, 0, 248, 42, 27]
abbrev dktX4_median_1 : List UInt8 := dkwX4_median_1 ++ dktX4_median_2
def dkwX4_median_0 : List UInt8 := [42, 27, 3, 7, 184, 0, 69, 154, 0, 7, 4, 167, 0, 15, 42, 182, 0, 233, 154, 0, 7, 5]
abbrev dktX4_median_0 : List UInt8 := dkwX4_median_0 ++ dktX4_median_1
theorem dksX4_median_0 : cX4_median.data.toList.drop 0 = dktX4_median_0 := by decide +kernel
theorem dksX4_median_1 : cX4_median.data.toList.drop 22 = dktX4_median_1 := dk_seg dksX4_median_0 22 rfl rfl
theorem dksX4_median_2 : cX4_median.data.toList.drop 45 = dktX4_median_2 := dk_seg dksX4_median_1 23 rfl rfl
theorem dX4_median_0 : decode cX4_median 0 = .ok (.aload_n 0, 1) := dk_42 (dk_at dksX4_median_0 0 rfl rfl)
theorem dX4_median_1 : decode cX4_median 1 = .ok (.iload_n 1, 1) := dk_27 (dk_at dksX4_median_0 1 rfl rfl)
theorem dX4_median_2 : decode cX4_median 2 = .ok (.iconst 0, 1) := dk_3 (dk_at dksX4_median_0 2 rfl rfl)
theorem dX4_median_3 : decode cX4_median 3 = .ok (.iconst 4, 1) := dk_7 (dk_at dksX4_median_0 3 rfl rfl)
theorem dX4_median_4 : decode cX4_median 4 = .ok (.invokestatic 69, 3) := dk_184 0 69 (dk_at dksX4_median_0 4 rfl rfl)
theorem dX4_median_7 : decode cX4_median 7 = .ok (.ifCond .ne 7, 3) := dk_154 0 7 (dk_at dksX4_median_0 7 rfl rfl)
theorem dX4_median_10 : decode cX4_median 10 = .ok (.iconst 1, 1) := dk_4 (dk_at dksX4_median_0 10 rfl rfl)
theorem dX4_median_11 : decode cX4_median 11 = .ok (.goto 15, 3) := dk_167 0 15 (dk_at dksX4_median_0 11 rfl rfl)
theorem dX4_median_14 : decode cX4_median 14 = .ok (.aload_n 0, 1) := dk_42 (dk_at dksX4_median_0 14 rfl rfl)
theorem dX4_median_15 : decode cX4_median 15 = .ok (.invokevirtual 233, 3) := dk_182 0 233 (dk_at dksX4_median_0 15 rfl rfl)
theorem dX4_median_18 : decode cX4_median 18 = .ok (.ifCond .ne 7, 3) := dk_154 0 7 (dk_at dksX4_median_0 18 rfl rfl)
theorem dX4_median_21 : decode cX4_median 21 = .ok (.iconst 2, 1) := dk_5 (dk_at dksX4_median_0 21 rfl rfl)
theorem dX4_median_22 : decode cX4_median 22 = .ok (.goto 4, 3) := dk_167 0 4 (dk_at dksX4_median_1 0 rfl rfl)
theorem dX4_median_25 : decode cX4_median 25 = .ok (.iconst 0, 1) := dk_3 (dk_at dksX4_median_1 3 rfl rfl)
theorem dX4_median_26 : decode cX4_median 26 = .ok (.invokevirtual 61, 3) := dk_182 0 61 (dk_at dksX4_median_1 4 rfl rfl)
theorem dX4_median_29 : decode cX4_median 29 = .ok (.ifCond .eq 5, 3) := dk_153 0 5 (dk_at dksX4_median_1 7 rfl rfl)
theorem dX4_median_32 : decode cX4_median 32 = .ok (.iconst 0, 1) := dk_3 (dk_at dksX4_median_1 10 rfl rfl)
theorem dX4_median_33 : decode cX4_median 33 = .ok (.ireturn, 1) := dk_172 (dk_at dksX4_median_1 11 rfl rfl)
theorem dX4_median_34 : decode cX4_median 34 = .ok (.aload_n 0, 1) := dk_42 (dk_at dksX4_median_1 12 rfl rfl)
theorem dX4_median_35 : decode cX4_median 35 = .ok (.iconst 0, 1) := dk_3 (dk_at dksX4_median_1 13 rfl rfl)
theorem dX4_median_36 : decode cX4_median 36 = .ok (.invokevirtual 170, 3) := dk_182 0 170 (dk_at dksX4_median_1 14 rfl rfl)
theorem dX4_median_39 : decode cX4_median 39 = .ok (.aload_n 0, 1) := dk_42 (dk_at dksX4_median_1 17 rfl rfl)
theorem dX4_median_40 : decode cX4_median 40 = .ok (.invokevirtual 248, 3) := dk_182 0 248 (dk_at dksX4_median_1 18 rfl rfl)
theorem dX4_median_43 : decode cX4_median 43 = .ok (.aload_n 0, 1) := dk_42 (dk_at dksX4_median_1 21 rfl rfl)
theorem dX4_median_44 : decode cX4_median 44 = .ok (.iload_n 1, 1) := dk_27 (dk_at dksX4_median_1 22 rfl rfl)
theorem dX4_median_45 : decode cX4_median 45 = .ok (.invokevirtual 251, 3) := dk_182 0 251 (dk_at dksX4_median_2 0 rfl rfl)
theorem dX4_median_48 : decode cX4_median 48 = .ok (.ireturn, 1) := dk_172 (dk_at dksX4_median_2 3 rfl rfl)
abbrev cX4_medians : ByteArray := prog_19_method_76_code
def yX4_medians : MethodName := ⟨RX4, "medians", "()V"⟩
def dkwX4_medians_4 : List UInt8 := [167, 255, 191, 132, 1, 1, 167, 255, 162, 177]
abbrev dktX4_medians_4 : List UInt8 := dkwX4_medians_4 ++ []
def dkwX4_medians_3 : List UInt8 := [47, 42, 27, 42, 180, 0, 28, 28, 47, 42, 180, 0, 32, 28, 47, 182, 0, 176, 182, 0, 212, 132, 2, 1]
abbrev dktX4_medians_3 : List UInt8 := dkwX4_medians_3 ++ dktX4_medians_4
def dkwX4_medians_2 : List UInt8 := [180, 0, 32, 28, 47, 182, 0, 160, 153, 0, 37, 42, 27, 42, 180, 0, 28, 28, 47, 42, 180, 0, 32, 28]
abbrev dktX4_medians_2 : List UInt8 := dkwX4_medians_2 ++ dktX4_medians_3
def dkwX4_medians_1 : List UInt8 := [27, 182, 0, 208, 3, 61, 28, 42, 180, 0, 182, 162, 0, 63, 42, 27, 42, 180, 0, 28, 28, 47, 42]
abbrev dktX4_medians_1 : List UInt8 := dkwX4_medians_1 ++ dktX4_medians_2
def dkwX4_medians_0 : List UInt8 := [42, 2, 181, 0, 195, 3, 60, 27, 42, 182, 0, 73, 162, 0, 92, 42, 4, 42, 182, 0, 65, 120, 4, 100]
abbrev dktX4_medians_0 : List UInt8 := dkwX4_medians_0 ++ dktX4_medians_1
theorem dksX4_medians_0 : cX4_medians.data.toList.drop 0 = dktX4_medians_0 := by decide +kernel
theorem dksX4_medians_1 : cX4_medians.data.toList.drop 24 = dktX4_medians_1 := dk_seg dksX4_medians_0 24 rfl rfl
theorem dksX4_medians_2 : cX4_medians.data.toList.drop 47 = dktX4_medians_2 := dk_seg dksX4_medians_1 23 rfl rfl
theorem dksX4_medians_3 : cX4_medians.data.toList.drop 71 = dktX4_medians_3 := dk_seg dksX4_medians_2 24 rfl rfl
theorem dksX4_medians_4 : cX4_medians.data.toList.drop 95 = dktX4_medians_4 := dk_seg dksX4_medians_3 24 rfl rfl
theorem dX4_medians_0 : decode cX4_medians 0 = .ok (.aload_n 0, 1) := dk_42 (dk_at dksX4_medians_0 0 rfl rfl)
theorem dX4_medians_1 : decode cX4_medians 1 = .ok (.iconst (-1), 1) := dk_2 (dk_at dksX4_medians_0 1 rfl rfl)
theorem dX4_medians_2 : decode cX4_medians 2 = .ok (.putfield 195, 3) := dk_181 0 195 (dk_at dksX4_medians_0 2 rfl rfl)
theorem dX4_medians_5 : decode cX4_medians 5 = .ok (.iconst 0, 1) := dk_3 (dk_at dksX4_medians_0 5 rfl rfl)
theorem dX4_medians_6 : decode cX4_medians 6 = .ok (.istore_n 1, 1) := dk_60 (dk_at dksX4_medians_0 6 rfl rfl)
theorem dX4_medians_7 : decode cX4_medians 7 = .ok (.iload_n 1, 1) := dk_27 (dk_at dksX4_medians_0 7 rfl rfl)
theorem dX4_medians_8 : decode cX4_medians 8 = .ok (.aload_n 0, 1) := dk_42 (dk_at dksX4_medians_0 8 rfl rfl)
theorem dX4_medians_9 : decode cX4_medians 9 = .ok (.invokevirtual 73, 3) := dk_182 0 73 (dk_at dksX4_medians_0 9 rfl rfl)
theorem dX4_medians_12 : decode cX4_medians 12 = .ok (.if_icmp .ge 92, 3) := dk_162 0 92 (dk_at dksX4_medians_0 12 rfl rfl)
theorem dX4_medians_15 : decode cX4_medians 15 = .ok (.aload_n 0, 1) := dk_42 (dk_at dksX4_medians_0 15 rfl rfl)
theorem dX4_medians_16 : decode cX4_medians 16 = .ok (.iconst 1, 1) := dk_4 (dk_at dksX4_medians_0 16 rfl rfl)
theorem dX4_medians_17 : decode cX4_medians 17 = .ok (.aload_n 0, 1) := dk_42 (dk_at dksX4_medians_0 17 rfl rfl)
theorem dX4_medians_18 : decode cX4_medians 18 = .ok (.invokevirtual 65, 3) := dk_182 0 65 (dk_at dksX4_medians_0 18 rfl rfl)
theorem dX4_medians_21 : decode cX4_medians 21 = .ok (.ishl, 1) := dk_120 (dk_at dksX4_medians_0 21 rfl rfl)
theorem dX4_medians_22 : decode cX4_medians 22 = .ok (.iconst 1, 1) := dk_4 (dk_at dksX4_medians_0 22 rfl rfl)
theorem dX4_medians_23 : decode cX4_medians 23 = .ok (.isub, 1) := dk_100 (dk_at dksX4_medians_0 23 rfl rfl)
theorem dX4_medians_24 : decode cX4_medians 24 = .ok (.iload_n 1, 1) := dk_27 (dk_at dksX4_medians_1 0 rfl rfl)
theorem dX4_medians_25 : decode cX4_medians 25 = .ok (.invokevirtual 208, 3) := dk_182 0 208 (dk_at dksX4_medians_1 1 rfl rfl)
theorem dX4_medians_28 : decode cX4_medians 28 = .ok (.iconst 0, 1) := dk_3 (dk_at dksX4_medians_1 4 rfl rfl)
theorem dX4_medians_29 : decode cX4_medians 29 = .ok (.istore_n 2, 1) := dk_61 (dk_at dksX4_medians_1 5 rfl rfl)
theorem dX4_medians_30 : decode cX4_medians 30 = .ok (.iload_n 2, 1) := dk_28 (dk_at dksX4_medians_1 6 rfl rfl)
theorem dX4_medians_31 : decode cX4_medians 31 = .ok (.aload_n 0, 1) := dk_42 (dk_at dksX4_medians_1 7 rfl rfl)
theorem dX4_medians_32 : decode cX4_medians 32 = .ok (.getfield 182, 3) := dk_180 0 182 (dk_at dksX4_medians_1 8 rfl rfl)
theorem dX4_medians_35 : decode cX4_medians 35 = .ok (.if_icmp .ge 63, 3) := dk_162 0 63 (dk_at dksX4_medians_1 11 rfl rfl)
theorem dX4_medians_38 : decode cX4_medians 38 = .ok (.aload_n 0, 1) := dk_42 (dk_at dksX4_medians_1 14 rfl rfl)
theorem dX4_medians_39 : decode cX4_medians 39 = .ok (.iload_n 1, 1) := dk_27 (dk_at dksX4_medians_1 15 rfl rfl)
theorem dX4_medians_40 : decode cX4_medians 40 = .ok (.aload_n 0, 1) := dk_42 (dk_at dksX4_medians_1 16 rfl rfl)
theorem dX4_medians_41 : decode cX4_medians 41 = .ok (.getfield 28, 3) := dk_180 0 28 (dk_at dksX4_medians_1 17 rfl rfl)
theorem dX4_medians_44 : decode cX4_medians 44 = .ok (.iload_n 2, 1) := dk_28 (dk_at dksX4_medians_1 20 rfl rfl)
theorem dX4_medians_45 : decode cX4_medians 45 = .ok (.laload, 1) := dk_47 (dk_at dksX4_medians_1 21 rfl rfl)
theorem dX4_medians_46 : decode cX4_medians 46 = .ok (.aload_n 0, 1) := dk_42 (dk_at dksX4_medians_1 22 rfl rfl)
theorem dX4_medians_47 : decode cX4_medians 47 = .ok (.getfield 32, 3) := dk_180 0 32 (dk_at dksX4_medians_2 0 rfl rfl)
theorem dX4_medians_50 : decode cX4_medians 50 = .ok (.iload_n 2, 1) := dk_28 (dk_at dksX4_medians_2 3 rfl rfl)
theorem dX4_medians_51 : decode cX4_medians 51 = .ok (.laload, 1) := dk_47 (dk_at dksX4_medians_2 4 rfl rfl)
theorem dX4_medians_52 : decode cX4_medians 52 = .ok (.invokevirtual 160, 3) := dk_182 0 160 (dk_at dksX4_medians_2 5 rfl rfl)
theorem dX4_medians_55 : decode cX4_medians 55 = .ok (.ifCond .eq 37, 3) := dk_153 0 37 (dk_at dksX4_medians_2 8 rfl rfl)
theorem dX4_medians_58 : decode cX4_medians 58 = .ok (.aload_n 0, 1) := dk_42 (dk_at dksX4_medians_2 11 rfl rfl)
theorem dX4_medians_59 : decode cX4_medians 59 = .ok (.iload_n 1, 1) := dk_27 (dk_at dksX4_medians_2 12 rfl rfl)
theorem dX4_medians_60 : decode cX4_medians 60 = .ok (.aload_n 0, 1) := dk_42 (dk_at dksX4_medians_2 13 rfl rfl)
theorem dX4_medians_61 : decode cX4_medians 61 = .ok (.getfield 28, 3) := dk_180 0 28 (dk_at dksX4_medians_2 14 rfl rfl)
theorem dX4_medians_64 : decode cX4_medians 64 = .ok (.iload_n 2, 1) := dk_28 (dk_at dksX4_medians_2 17 rfl rfl)
theorem dX4_medians_65 : decode cX4_medians 65 = .ok (.laload, 1) := dk_47 (dk_at dksX4_medians_2 18 rfl rfl)
theorem dX4_medians_66 : decode cX4_medians 66 = .ok (.aload_n 0, 1) := dk_42 (dk_at dksX4_medians_2 19 rfl rfl)
theorem dX4_medians_67 : decode cX4_medians 67 = .ok (.getfield 32, 3) := dk_180 0 32 (dk_at dksX4_medians_2 20 rfl rfl)
theorem dX4_medians_70 : decode cX4_medians 70 = .ok (.iload_n 2, 1) := dk_28 (dk_at dksX4_medians_2 23 rfl rfl)
theorem dX4_medians_71 : decode cX4_medians 71 = .ok (.laload, 1) := dk_47 (dk_at dksX4_medians_3 0 rfl rfl)
theorem dX4_medians_72 : decode cX4_medians 72 = .ok (.aload_n 0, 1) := dk_42 (dk_at dksX4_medians_3 1 rfl rfl)
theorem dX4_medians_73 : decode cX4_medians 73 = .ok (.iload_n 1, 1) := dk_27 (dk_at dksX4_medians_3 2 rfl rfl)
theorem dX4_medians_74 : decode cX4_medians 74 = .ok (.aload_n 0, 1) := dk_42 (dk_at dksX4_medians_3 3 rfl rfl)
theorem dX4_medians_75 : decode cX4_medians 75 = .ok (.getfield 28, 3) := dk_180 0 28 (dk_at dksX4_medians_3 4 rfl rfl)
theorem dX4_medians_78 : decode cX4_medians 78 = .ok (.iload_n 2, 1) := dk_28 (dk_at dksX4_medians_3 7 rfl rfl)
theorem dX4_medians_79 : decode cX4_medians 79 = .ok (.laload, 1) := dk_47 (dk_at dksX4_medians_3 8 rfl rfl)
theorem dX4_medians_80 : decode cX4_medians 80 = .ok (.aload_n 0, 1) := dk_42 (dk_at dksX4_medians_3 9 rfl rfl)
theorem dX4_medians_81 : decode cX4_medians 81 = .ok (.getfield 32, 3) := dk_180 0 32 (dk_at dksX4_medians_3 10 rfl rfl)
theorem dX4_medians_84 : decode cX4_medians 84 = .ok (.iload_n 2, 1) := dk_28 (dk_at dksX4_medians_3 13 rfl rfl)
theorem dX4_medians_85 : decode cX4_medians 85 = .ok (.laload, 1) := dk_47 (dk_at dksX4_medians_3 14 rfl rfl)
theorem dX4_medians_86 : decode cX4_medians 86 = .ok (.invokevirtual 176, 3) := dk_182 0 176 (dk_at dksX4_medians_3 15 rfl rfl)
theorem dX4_medians_89 : decode cX4_medians 89 = .ok (.invokevirtual 212, 3) := dk_182 0 212 (dk_at dksX4_medians_3 18 rfl rfl)
theorem dX4_medians_92 : decode cX4_medians 92 = .ok (.iinc 2 1, 3) := dk_132 2 1 (dk_at dksX4_medians_3 21 rfl rfl)
theorem dX4_medians_95 : decode cX4_medians 95 = .ok (.goto (-65), 3) := dk_167 255 191 (dk_at dksX4_medians_4 0 rfl rfl)
theorem dX4_medians_98 : decode cX4_medians 98 = .ok (.iinc 1 1, 3) := dk_132 1 1 (dk_at dksX4_medians_4 3 rfl rfl)
theorem dX4_medians_101 : decode cX4_medians 101 = .ok (.goto (-94), 3) := dk_167 255 162 (dk_at dksX4_medians_4 6 rfl rfl)
theorem dX4_medians_104 : decode cX4_medians 104 = .ok (.return_, 1) := dk_177 (dk_at dksX4_medians_4 9 rfl rfl)
abbrev cX4_medianTold : ByteArray := prog_19_method_77_code
def yX4_medianTold : MethodName := ⟨RX4, "medianTold", "(I)I"⟩
def dkwX4_medianTold_1 : List UInt8 := [184, 0, 156, 172]
abbrev dktX4_medianTold_1 : List UInt8 := dkwX4_medianTold_1 ++ []
def dkwX4_medianTold_0 : List UInt8 := [27, 6, 162, 0, 11, 42, 27, 182, 0, 242, 167, 0, 17, 42, 180, 0, 202, 42, 180, 0, 198, 27, 6, 100]
abbrev dktX4_medianTold_0 : List UInt8 := dkwX4_medianTold_0 ++ dktX4_medianTold_1
theorem dksX4_medianTold_0 : cX4_medianTold.data.toList.drop 0 = dktX4_medianTold_0 := by decide +kernel
theorem dksX4_medianTold_1 : cX4_medianTold.data.toList.drop 24 = dktX4_medianTold_1 := dk_seg dksX4_medianTold_0 24 rfl rfl
theorem dX4_medianTold_0 : decode cX4_medianTold 0 = .ok (.iload_n 1, 1) := dk_27 (dk_at dksX4_medianTold_0 0 rfl rfl)
theorem dX4_medianTold_1 : decode cX4_medianTold 1 = .ok (.iconst 3, 1) := dk_6 (dk_at dksX4_medianTold_0 1 rfl rfl)
theorem dX4_medianTold_2 : decode cX4_medianTold 2 = .ok (.if_icmp .ge 11, 3) := dk_162 0 11 (dk_at dksX4_medianTold_0 2 rfl rfl)
theorem dX4_medianTold_5 : decode cX4_medianTold 5 = .ok (.aload_n 0, 1) := dk_42 (dk_at dksX4_medianTold_0 5 rfl rfl)
theorem dX4_medianTold_6 : decode cX4_medianTold 6 = .ok (.iload_n 1, 1) := dk_27 (dk_at dksX4_medianTold_0 6 rfl rfl)
theorem dX4_medianTold_7 : decode cX4_medianTold 7 = .ok (.invokevirtual 242, 3) := dk_182 0 242 (dk_at dksX4_medianTold_0 7 rfl rfl)
theorem dX4_medianTold_10 : decode cX4_medianTold 10 = .ok (.goto 17, 3) := dk_167 0 17 (dk_at dksX4_medianTold_0 10 rfl rfl)
theorem dX4_medianTold_13 : decode cX4_medianTold 13 = .ok (.aload_n 0, 1) := dk_42 (dk_at dksX4_medianTold_0 13 rfl rfl)
theorem dX4_medianTold_14 : decode cX4_medianTold 14 = .ok (.getfield 202, 3) := dk_180 0 202 (dk_at dksX4_medianTold_0 14 rfl rfl)
theorem dX4_medianTold_17 : decode cX4_medianTold 17 = .ok (.aload_n 0, 1) := dk_42 (dk_at dksX4_medianTold_0 17 rfl rfl)
theorem dX4_medianTold_18 : decode cX4_medianTold 18 = .ok (.getfield 198, 3) := dk_180 0 198 (dk_at dksX4_medianTold_0 18 rfl rfl)
theorem dX4_medianTold_21 : decode cX4_medianTold 21 = .ok (.iload_n 1, 1) := dk_27 (dk_at dksX4_medianTold_0 21 rfl rfl)
theorem dX4_medianTold_22 : decode cX4_medianTold 22 = .ok (.iconst 3, 1) := dk_6 (dk_at dksX4_medianTold_0 22 rfl rfl)
theorem dX4_medianTold_23 : decode cX4_medianTold 23 = .ok (.isub, 1) := dk_100 (dk_at dksX4_medianTold_0 23 rfl rfl)
theorem dX4_medianTold_24 : decode cX4_medianTold 24 = .ok (.invokestatic 156, 3) := dk_184 0 156 (dk_at dksX4_medianTold_1 0 rfl rfl)
theorem dX4_medianTold_27 : decode cX4_medianTold 27 = .ok (.ireturn, 1) := dk_172 (dk_at dksX4_medianTold_1 3 rfl rfl)
abbrev cX4_radiusOf : ByteArray := prog_19_method_82_code
def yX4_radiusOf : MethodName := ⟨RX4, "radiusOf", "(II)I"⟩
def dkwX4_radiusOf_2 : List UInt8 := [42, 180, 1, 4, 42, 180, 1, 7, 28, 184, 0, 156, 172]
abbrev dktX4_radiusOf_2 : List UInt8 := dkwX4_radiusOf_2 ++ []
def dkwX4_radiusOf_1 : List UInt8 := [182, 0, 233, 154, 0, 7, 5, 167, 0, 4, 3, 182, 0, 61, 153, 0, 5, 3, 172, 42, 27, 182, 1, 10]
abbrev dktX4_radiusOf_1 : List UInt8 := dkwX4_radiusOf_1 ++ dktX4_radiusOf_2
def dkwX4_radiusOf_0 : List UInt8 := [42, 27, 4, 6, 184, 0, 69, 153, 0, 12, 28, 3, 4, 184, 0, 69, 154, 0, 7, 4, 167, 0, 15, 42]
abbrev dktX4_radiusOf_0 : List UInt8 := dkwX4_radiusOf_0 ++ dktX4_radiusOf_1
theorem dksX4_radiusOf_0 : cX4_radiusOf.data.toList.drop 0 = dktX4_radiusOf_0 := by decide +kernel
theorem dksX4_radiusOf_1 : cX4_radiusOf.data.toList.drop 24 = dktX4_radiusOf_1 := dk_seg dksX4_radiusOf_0 24 rfl rfl
theorem dksX4_radiusOf_2 : cX4_radiusOf.data.toList.drop 48 = dktX4_radiusOf_2 := dk_seg dksX4_radiusOf_1 24 rfl rfl
theorem dX4_radiusOf_0 : decode cX4_radiusOf 0 = .ok (.aload_n 0, 1) := dk_42 (dk_at dksX4_radiusOf_0 0 rfl rfl)
theorem dX4_radiusOf_1 : decode cX4_radiusOf 1 = .ok (.iload_n 1, 1) := dk_27 (dk_at dksX4_radiusOf_0 1 rfl rfl)
theorem dX4_radiusOf_2 : decode cX4_radiusOf 2 = .ok (.iconst 1, 1) := dk_4 (dk_at dksX4_radiusOf_0 2 rfl rfl)
theorem dX4_radiusOf_3 : decode cX4_radiusOf 3 = .ok (.iconst 3, 1) := dk_6 (dk_at dksX4_radiusOf_0 3 rfl rfl)
theorem dX4_radiusOf_4 : decode cX4_radiusOf 4 = .ok (.invokestatic 69, 3) := dk_184 0 69 (dk_at dksX4_radiusOf_0 4 rfl rfl)
theorem dX4_radiusOf_7 : decode cX4_radiusOf 7 = .ok (.ifCond .eq 12, 3) := dk_153 0 12 (dk_at dksX4_radiusOf_0 7 rfl rfl)
theorem dX4_radiusOf_10 : decode cX4_radiusOf 10 = .ok (.iload_n 2, 1) := dk_28 (dk_at dksX4_radiusOf_0 10 rfl rfl)
theorem dX4_radiusOf_11 : decode cX4_radiusOf 11 = .ok (.iconst 0, 1) := dk_3 (dk_at dksX4_radiusOf_0 11 rfl rfl)
theorem dX4_radiusOf_12 : decode cX4_radiusOf 12 = .ok (.iconst 1, 1) := dk_4 (dk_at dksX4_radiusOf_0 12 rfl rfl)
theorem dX4_radiusOf_13 : decode cX4_radiusOf 13 = .ok (.invokestatic 69, 3) := dk_184 0 69 (dk_at dksX4_radiusOf_0 13 rfl rfl)
theorem dX4_radiusOf_16 : decode cX4_radiusOf 16 = .ok (.ifCond .ne 7, 3) := dk_154 0 7 (dk_at dksX4_radiusOf_0 16 rfl rfl)
theorem dX4_radiusOf_19 : decode cX4_radiusOf 19 = .ok (.iconst 1, 1) := dk_4 (dk_at dksX4_radiusOf_0 19 rfl rfl)
theorem dX4_radiusOf_20 : decode cX4_radiusOf 20 = .ok (.goto 15, 3) := dk_167 0 15 (dk_at dksX4_radiusOf_0 20 rfl rfl)
theorem dX4_radiusOf_23 : decode cX4_radiusOf 23 = .ok (.aload_n 0, 1) := dk_42 (dk_at dksX4_radiusOf_0 23 rfl rfl)
theorem dX4_radiusOf_24 : decode cX4_radiusOf 24 = .ok (.invokevirtual 233, 3) := dk_182 0 233 (dk_at dksX4_radiusOf_1 0 rfl rfl)
theorem dX4_radiusOf_27 : decode cX4_radiusOf 27 = .ok (.ifCond .ne 7, 3) := dk_154 0 7 (dk_at dksX4_radiusOf_1 3 rfl rfl)
theorem dX4_radiusOf_30 : decode cX4_radiusOf 30 = .ok (.iconst 2, 1) := dk_5 (dk_at dksX4_radiusOf_1 6 rfl rfl)
theorem dX4_radiusOf_31 : decode cX4_radiusOf 31 = .ok (.goto 4, 3) := dk_167 0 4 (dk_at dksX4_radiusOf_1 7 rfl rfl)
theorem dX4_radiusOf_34 : decode cX4_radiusOf 34 = .ok (.iconst 0, 1) := dk_3 (dk_at dksX4_radiusOf_1 10 rfl rfl)
theorem dX4_radiusOf_35 : decode cX4_radiusOf 35 = .ok (.invokevirtual 61, 3) := dk_182 0 61 (dk_at dksX4_radiusOf_1 11 rfl rfl)
theorem dX4_radiusOf_38 : decode cX4_radiusOf 38 = .ok (.ifCond .eq 5, 3) := dk_153 0 5 (dk_at dksX4_radiusOf_1 14 rfl rfl)
theorem dX4_radiusOf_41 : decode cX4_radiusOf 41 = .ok (.iconst 0, 1) := dk_3 (dk_at dksX4_radiusOf_1 17 rfl rfl)
theorem dX4_radiusOf_42 : decode cX4_radiusOf 42 = .ok (.ireturn, 1) := dk_172 (dk_at dksX4_radiusOf_1 18 rfl rfl)
theorem dX4_radiusOf_43 : decode cX4_radiusOf 43 = .ok (.aload_n 0, 1) := dk_42 (dk_at dksX4_radiusOf_1 19 rfl rfl)
theorem dX4_radiusOf_44 : decode cX4_radiusOf 44 = .ok (.iload_n 1, 1) := dk_27 (dk_at dksX4_radiusOf_1 20 rfl rfl)
theorem dX4_radiusOf_45 : decode cX4_radiusOf 45 = .ok (.invokevirtual 266, 3) := dk_182 1 10 (dk_at dksX4_radiusOf_1 21 rfl rfl)
theorem dX4_radiusOf_48 : decode cX4_radiusOf 48 = .ok (.aload_n 0, 1) := dk_42 (dk_at dksX4_radiusOf_2 0 rfl rfl)
theorem dX4_radiusOf_49 : decode cX4_radiusOf 49 = .ok (.getfield 260, 3) := dk_180 1 4 (dk_at dksX4_radiusOf_2 1 rfl rfl)
theorem dX4_radiusOf_52 : decode cX4_radiusOf 52 = .ok (.aload_n 0, 1) := dk_42 (dk_at dksX4_radiusOf_2 4 rfl rfl)
theorem dX4_radiusOf_53 : decode cX4_radiusOf 53 = .ok (.getfield 263, 3) := dk_180 1 7 (dk_at dksX4_radiusOf_2 5 rfl rfl)
theorem dX4_radiusOf_56 : decode cX4_radiusOf 56 = .ok (.iload_n 2, 1) := dk_28 (dk_at dksX4_radiusOf_2 8 rfl rfl)
theorem dX4_radiusOf_57 : decode cX4_radiusOf 57 = .ok (.invokestatic 156, 3) := dk_184 0 156 (dk_at dksX4_radiusOf_2 9 rfl rfl)
theorem dX4_radiusOf_60 : decode cX4_radiusOf 60 = .ok (.ireturn, 1) := dk_172 (dk_at dksX4_radiusOf_2 12 rfl rfl)
abbrev cX4_laysBound : ByteArray := prog_19_method_81_code
def yX4_laysBound : MethodName := ⟨RX4, "laysBound", "(I)V"⟩
def dkwX4_laysBound_8 : List UInt8 := [156, 0, 15, 42, 22, 5, 181, 1, 4, 42, 22, 7, 181, 1, 7, 132, 3, 1, 167, 255, 116, 177]
abbrev dktX4_laysBound_8 : List UInt8 := dkwX4_laysBound_8 ++ []
def dkwX4_laysBound_7 : List UInt8 := [29, 2, 130, 126, 47, 55, 7, 22, 5, 42, 180, 1, 7, 105, 42, 180, 1, 4, 22, 7, 105, 148]
abbrev dktX4_laysBound_7 : List UInt8 := dkwX4_laysBound_7 ++ dktX4_laysBound_8
def dkwX4_laysBound_6 : List UInt8 := [130, 126, 47, 55, 5, 21, 4, 153, 0, 12, 42, 180, 0, 38, 29, 47, 167, 0, 13, 42, 180, 0, 44, 28]
abbrev dktX4_laysBound_6 : List UInt8 := dkwX4_laysBound_6 ++ dktX4_laysBound_7
def dkwX4_laysBound_5 : List UInt8 := [3, 54, 4, 21, 4, 153, 0, 12, 42, 180, 0, 35, 29, 47, 167, 0, 13, 42, 180, 0, 41, 28, 29, 2]
abbrev dktX4_laysBound_5 : List UInt8 := dkwX4_laysBound_5 ++ dktX4_laysBound_6
def dkwX4_laysBound_4 : List UInt8 := [180, 0, 41, 28, 29, 2, 130, 126, 47, 42, 180, 0, 38, 29, 47, 105, 148, 155, 0, 7, 4, 167, 0, 4]
abbrev dktX4_laysBound_4 : List UInt8 := dkwX4_laysBound_4 ++ dktX4_laysBound_5
def dkwX4_laysBound_3 : List UInt8 := [27, 6, 160, 0, 136, 42, 180, 0, 35, 29, 47, 42, 180, 0, 44, 28, 29, 2, 130, 126, 47, 105, 42]
abbrev dktX4_laysBound_3 : List UInt8 := dkwX4_laysBound_3 ++ dktX4_laysBound_4
def dkwX4_laysBound_2 : List UInt8 := [180, 0, 38, 28, 47, 167, 0, 9, 42, 180, 0, 44, 28, 47, 181, 1, 7, 3, 62, 29, 28, 163, 0, 141]
abbrev dktX4_laysBound_2 : List UInt8 := dkwX4_laysBound_2 ++ dktX4_laysBound_3
def dkwX4_laysBound_1 : List UInt8 := [180, 0, 35, 28, 47, 167, 0, 9, 42, 180, 0, 41, 28, 47, 181, 1, 4, 42, 27, 4, 160, 0, 12, 42]
abbrev dktX4_laysBound_1 : List UInt8 := dkwX4_laysBound_1 ++ dktX4_laysBound_2
def dkwX4_laysBound_0 : List UInt8 := [42, 182, 0, 254, 42, 182, 1, 1, 4, 42, 182, 0, 65, 120, 4, 100, 61, 42, 27, 4, 160, 0, 12, 42]
abbrev dktX4_laysBound_0 : List UInt8 := dkwX4_laysBound_0 ++ dktX4_laysBound_1
theorem dksX4_laysBound_0 : cX4_laysBound.data.toList.drop 0 = dktX4_laysBound_0 := by decide +kernel
theorem dksX4_laysBound_1 : cX4_laysBound.data.toList.drop 24 = dktX4_laysBound_1 := dk_seg dksX4_laysBound_0 24 rfl rfl
theorem dksX4_laysBound_2 : cX4_laysBound.data.toList.drop 48 = dktX4_laysBound_2 := dk_seg dksX4_laysBound_1 24 rfl rfl
theorem dksX4_laysBound_3 : cX4_laysBound.data.toList.drop 72 = dktX4_laysBound_3 := dk_seg dksX4_laysBound_2 24 rfl rfl
theorem dksX4_laysBound_4 : cX4_laysBound.data.toList.drop 95 = dktX4_laysBound_4 := dk_seg dksX4_laysBound_3 23 rfl rfl
theorem dksX4_laysBound_5 : cX4_laysBound.data.toList.drop 119 = dktX4_laysBound_5 := dk_seg dksX4_laysBound_4 24 rfl rfl
theorem dksX4_laysBound_6 : cX4_laysBound.data.toList.drop 143 = dktX4_laysBound_6 := dk_seg dksX4_laysBound_5 24 rfl rfl
theorem dksX4_laysBound_7 : cX4_laysBound.data.toList.drop 167 = dktX4_laysBound_7 := dk_seg dksX4_laysBound_6 24 rfl rfl
theorem dksX4_laysBound_8 : cX4_laysBound.data.toList.drop 189 = dktX4_laysBound_8 := dk_seg dksX4_laysBound_7 22 rfl rfl
theorem dX4_laysBound_0 : decode cX4_laysBound 0 = .ok (.aload_n 0, 1) := dk_42 (dk_at dksX4_laysBound_0 0 rfl rfl)
theorem dX4_laysBound_1 : decode cX4_laysBound 1 = .ok (.invokevirtual 254, 3) := dk_182 0 254 (dk_at dksX4_laysBound_0 1 rfl rfl)
theorem dX4_laysBound_4 : decode cX4_laysBound 4 = .ok (.aload_n 0, 1) := dk_42 (dk_at dksX4_laysBound_0 4 rfl rfl)
theorem dX4_laysBound_5 : decode cX4_laysBound 5 = .ok (.invokevirtual 257, 3) := dk_182 1 1 (dk_at dksX4_laysBound_0 5 rfl rfl)
theorem dX4_laysBound_8 : decode cX4_laysBound 8 = .ok (.iconst 1, 1) := dk_4 (dk_at dksX4_laysBound_0 8 rfl rfl)
theorem dX4_laysBound_9 : decode cX4_laysBound 9 = .ok (.aload_n 0, 1) := dk_42 (dk_at dksX4_laysBound_0 9 rfl rfl)
theorem dX4_laysBound_10 : decode cX4_laysBound 10 = .ok (.invokevirtual 65, 3) := dk_182 0 65 (dk_at dksX4_laysBound_0 10 rfl rfl)
theorem dX4_laysBound_13 : decode cX4_laysBound 13 = .ok (.ishl, 1) := dk_120 (dk_at dksX4_laysBound_0 13 rfl rfl)
theorem dX4_laysBound_14 : decode cX4_laysBound 14 = .ok (.iconst 1, 1) := dk_4 (dk_at dksX4_laysBound_0 14 rfl rfl)
theorem dX4_laysBound_15 : decode cX4_laysBound 15 = .ok (.isub, 1) := dk_100 (dk_at dksX4_laysBound_0 15 rfl rfl)
theorem dX4_laysBound_16 : decode cX4_laysBound 16 = .ok (.istore_n 2, 1) := dk_61 (dk_at dksX4_laysBound_0 16 rfl rfl)
theorem dX4_laysBound_17 : decode cX4_laysBound 17 = .ok (.aload_n 0, 1) := dk_42 (dk_at dksX4_laysBound_0 17 rfl rfl)
theorem dX4_laysBound_18 : decode cX4_laysBound 18 = .ok (.iload_n 1, 1) := dk_27 (dk_at dksX4_laysBound_0 18 rfl rfl)
theorem dX4_laysBound_19 : decode cX4_laysBound 19 = .ok (.iconst 1, 1) := dk_4 (dk_at dksX4_laysBound_0 19 rfl rfl)
theorem dX4_laysBound_20 : decode cX4_laysBound 20 = .ok (.if_icmp .ne 12, 3) := dk_160 0 12 (dk_at dksX4_laysBound_0 20 rfl rfl)
theorem dX4_laysBound_23 : decode cX4_laysBound 23 = .ok (.aload_n 0, 1) := dk_42 (dk_at dksX4_laysBound_0 23 rfl rfl)
theorem dX4_laysBound_24 : decode cX4_laysBound 24 = .ok (.getfield 35, 3) := dk_180 0 35 (dk_at dksX4_laysBound_1 0 rfl rfl)
theorem dX4_laysBound_27 : decode cX4_laysBound 27 = .ok (.iload_n 2, 1) := dk_28 (dk_at dksX4_laysBound_1 3 rfl rfl)
theorem dX4_laysBound_28 : decode cX4_laysBound 28 = .ok (.laload, 1) := dk_47 (dk_at dksX4_laysBound_1 4 rfl rfl)
theorem dX4_laysBound_29 : decode cX4_laysBound 29 = .ok (.goto 9, 3) := dk_167 0 9 (dk_at dksX4_laysBound_1 5 rfl rfl)
theorem dX4_laysBound_32 : decode cX4_laysBound 32 = .ok (.aload_n 0, 1) := dk_42 (dk_at dksX4_laysBound_1 8 rfl rfl)
theorem dX4_laysBound_33 : decode cX4_laysBound 33 = .ok (.getfield 41, 3) := dk_180 0 41 (dk_at dksX4_laysBound_1 9 rfl rfl)
theorem dX4_laysBound_36 : decode cX4_laysBound 36 = .ok (.iload_n 2, 1) := dk_28 (dk_at dksX4_laysBound_1 12 rfl rfl)
theorem dX4_laysBound_37 : decode cX4_laysBound 37 = .ok (.laload, 1) := dk_47 (dk_at dksX4_laysBound_1 13 rfl rfl)
theorem dX4_laysBound_38 : decode cX4_laysBound 38 = .ok (.putfield 260, 3) := dk_181 1 4 (dk_at dksX4_laysBound_1 14 rfl rfl)
theorem dX4_laysBound_41 : decode cX4_laysBound 41 = .ok (.aload_n 0, 1) := dk_42 (dk_at dksX4_laysBound_1 17 rfl rfl)
theorem dX4_laysBound_42 : decode cX4_laysBound 42 = .ok (.iload_n 1, 1) := dk_27 (dk_at dksX4_laysBound_1 18 rfl rfl)
theorem dX4_laysBound_43 : decode cX4_laysBound 43 = .ok (.iconst 1, 1) := dk_4 (dk_at dksX4_laysBound_1 19 rfl rfl)
theorem dX4_laysBound_44 : decode cX4_laysBound 44 = .ok (.if_icmp .ne 12, 3) := dk_160 0 12 (dk_at dksX4_laysBound_1 20 rfl rfl)
theorem dX4_laysBound_47 : decode cX4_laysBound 47 = .ok (.aload_n 0, 1) := dk_42 (dk_at dksX4_laysBound_1 23 rfl rfl)
theorem dX4_laysBound_48 : decode cX4_laysBound 48 = .ok (.getfield 38, 3) := dk_180 0 38 (dk_at dksX4_laysBound_2 0 rfl rfl)
theorem dX4_laysBound_51 : decode cX4_laysBound 51 = .ok (.iload_n 2, 1) := dk_28 (dk_at dksX4_laysBound_2 3 rfl rfl)
theorem dX4_laysBound_52 : decode cX4_laysBound 52 = .ok (.laload, 1) := dk_47 (dk_at dksX4_laysBound_2 4 rfl rfl)
theorem dX4_laysBound_53 : decode cX4_laysBound 53 = .ok (.goto 9, 3) := dk_167 0 9 (dk_at dksX4_laysBound_2 5 rfl rfl)
theorem dX4_laysBound_56 : decode cX4_laysBound 56 = .ok (.aload_n 0, 1) := dk_42 (dk_at dksX4_laysBound_2 8 rfl rfl)
theorem dX4_laysBound_57 : decode cX4_laysBound 57 = .ok (.getfield 44, 3) := dk_180 0 44 (dk_at dksX4_laysBound_2 9 rfl rfl)
theorem dX4_laysBound_60 : decode cX4_laysBound 60 = .ok (.iload_n 2, 1) := dk_28 (dk_at dksX4_laysBound_2 12 rfl rfl)
theorem dX4_laysBound_61 : decode cX4_laysBound 61 = .ok (.laload, 1) := dk_47 (dk_at dksX4_laysBound_2 13 rfl rfl)
theorem dX4_laysBound_62 : decode cX4_laysBound 62 = .ok (.putfield 263, 3) := dk_181 1 7 (dk_at dksX4_laysBound_2 14 rfl rfl)
theorem dX4_laysBound_65 : decode cX4_laysBound 65 = .ok (.iconst 0, 1) := dk_3 (dk_at dksX4_laysBound_2 17 rfl rfl)
theorem dX4_laysBound_66 : decode cX4_laysBound 66 = .ok (.istore_n 3, 1) := dk_62 (dk_at dksX4_laysBound_2 18 rfl rfl)
theorem dX4_laysBound_67 : decode cX4_laysBound 67 = .ok (.iload_n 3, 1) := dk_29 (dk_at dksX4_laysBound_2 19 rfl rfl)
theorem dX4_laysBound_68 : decode cX4_laysBound 68 = .ok (.iload_n 2, 1) := dk_28 (dk_at dksX4_laysBound_2 20 rfl rfl)
theorem dX4_laysBound_69 : decode cX4_laysBound 69 = .ok (.if_icmp .gt 141, 3) := dk_163 0 141 (dk_at dksX4_laysBound_2 21 rfl rfl)
theorem dX4_laysBound_72 : decode cX4_laysBound 72 = .ok (.iload_n 1, 1) := dk_27 (dk_at dksX4_laysBound_3 0 rfl rfl)
theorem dX4_laysBound_73 : decode cX4_laysBound 73 = .ok (.iconst 3, 1) := dk_6 (dk_at dksX4_laysBound_3 1 rfl rfl)
theorem dX4_laysBound_74 : decode cX4_laysBound 74 = .ok (.if_icmp .ne 136, 3) := dk_160 0 136 (dk_at dksX4_laysBound_3 2 rfl rfl)
theorem dX4_laysBound_77 : decode cX4_laysBound 77 = .ok (.aload_n 0, 1) := dk_42 (dk_at dksX4_laysBound_3 5 rfl rfl)
theorem dX4_laysBound_78 : decode cX4_laysBound 78 = .ok (.getfield 35, 3) := dk_180 0 35 (dk_at dksX4_laysBound_3 6 rfl rfl)
theorem dX4_laysBound_81 : decode cX4_laysBound 81 = .ok (.iload_n 3, 1) := dk_29 (dk_at dksX4_laysBound_3 9 rfl rfl)
theorem dX4_laysBound_82 : decode cX4_laysBound 82 = .ok (.laload, 1) := dk_47 (dk_at dksX4_laysBound_3 10 rfl rfl)
theorem dX4_laysBound_83 : decode cX4_laysBound 83 = .ok (.aload_n 0, 1) := dk_42 (dk_at dksX4_laysBound_3 11 rfl rfl)
theorem dX4_laysBound_84 : decode cX4_laysBound 84 = .ok (.getfield 44, 3) := dk_180 0 44 (dk_at dksX4_laysBound_3 12 rfl rfl)
theorem dX4_laysBound_87 : decode cX4_laysBound 87 = .ok (.iload_n 2, 1) := dk_28 (dk_at dksX4_laysBound_3 15 rfl rfl)
theorem dX4_laysBound_88 : decode cX4_laysBound 88 = .ok (.iload_n 3, 1) := dk_29 (dk_at dksX4_laysBound_3 16 rfl rfl)
theorem dX4_laysBound_89 : decode cX4_laysBound 89 = .ok (.iconst (-1), 1) := dk_2 (dk_at dksX4_laysBound_3 17 rfl rfl)
theorem dX4_laysBound_90 : decode cX4_laysBound 90 = .ok (.ixor, 1) := dk_130 (dk_at dksX4_laysBound_3 18 rfl rfl)
theorem dX4_laysBound_91 : decode cX4_laysBound 91 = .ok (.iand, 1) := dk_126 (dk_at dksX4_laysBound_3 19 rfl rfl)
theorem dX4_laysBound_92 : decode cX4_laysBound 92 = .ok (.laload, 1) := dk_47 (dk_at dksX4_laysBound_3 20 rfl rfl)
theorem dX4_laysBound_93 : decode cX4_laysBound 93 = .ok (.lmul, 1) := dk_105 (dk_at dksX4_laysBound_3 21 rfl rfl)
theorem dX4_laysBound_94 : decode cX4_laysBound 94 = .ok (.aload_n 0, 1) := dk_42 (dk_at dksX4_laysBound_3 22 rfl rfl)
theorem dX4_laysBound_95 : decode cX4_laysBound 95 = .ok (.getfield 41, 3) := dk_180 0 41 (dk_at dksX4_laysBound_4 0 rfl rfl)
theorem dX4_laysBound_98 : decode cX4_laysBound 98 = .ok (.iload_n 2, 1) := dk_28 (dk_at dksX4_laysBound_4 3 rfl rfl)
theorem dX4_laysBound_99 : decode cX4_laysBound 99 = .ok (.iload_n 3, 1) := dk_29 (dk_at dksX4_laysBound_4 4 rfl rfl)
theorem dX4_laysBound_100 : decode cX4_laysBound 100 = .ok (.iconst (-1), 1) := dk_2 (dk_at dksX4_laysBound_4 5 rfl rfl)
theorem dX4_laysBound_101 : decode cX4_laysBound 101 = .ok (.ixor, 1) := dk_130 (dk_at dksX4_laysBound_4 6 rfl rfl)
theorem dX4_laysBound_102 : decode cX4_laysBound 102 = .ok (.iand, 1) := dk_126 (dk_at dksX4_laysBound_4 7 rfl rfl)
theorem dX4_laysBound_103 : decode cX4_laysBound 103 = .ok (.laload, 1) := dk_47 (dk_at dksX4_laysBound_4 8 rfl rfl)
theorem dX4_laysBound_104 : decode cX4_laysBound 104 = .ok (.aload_n 0, 1) := dk_42 (dk_at dksX4_laysBound_4 9 rfl rfl)
theorem dX4_laysBound_105 : decode cX4_laysBound 105 = .ok (.getfield 38, 3) := dk_180 0 38 (dk_at dksX4_laysBound_4 10 rfl rfl)
theorem dX4_laysBound_108 : decode cX4_laysBound 108 = .ok (.iload_n 3, 1) := dk_29 (dk_at dksX4_laysBound_4 13 rfl rfl)
theorem dX4_laysBound_109 : decode cX4_laysBound 109 = .ok (.laload, 1) := dk_47 (dk_at dksX4_laysBound_4 14 rfl rfl)
theorem dX4_laysBound_110 : decode cX4_laysBound 110 = .ok (.lmul, 1) := dk_105 (dk_at dksX4_laysBound_4 15 rfl rfl)
theorem dX4_laysBound_111 : decode cX4_laysBound 111 = .ok (.lcmp, 1) := dk_148 (dk_at dksX4_laysBound_4 16 rfl rfl)
theorem dX4_laysBound_112 : decode cX4_laysBound 112 = .ok (.ifCond .lt 7, 3) := dk_155 0 7 (dk_at dksX4_laysBound_4 17 rfl rfl)
theorem dX4_laysBound_115 : decode cX4_laysBound 115 = .ok (.iconst 1, 1) := dk_4 (dk_at dksX4_laysBound_4 20 rfl rfl)
theorem dX4_laysBound_116 : decode cX4_laysBound 116 = .ok (.goto 4, 3) := dk_167 0 4 (dk_at dksX4_laysBound_4 21 rfl rfl)
theorem dX4_laysBound_119 : decode cX4_laysBound 119 = .ok (.iconst 0, 1) := dk_3 (dk_at dksX4_laysBound_5 0 rfl rfl)
theorem dX4_laysBound_120 : decode cX4_laysBound 120 = .ok (.istore 4, 2) := dk_54 4 (dk_at dksX4_laysBound_5 1 rfl rfl)
theorem dX4_laysBound_122 : decode cX4_laysBound 122 = .ok (.iload 4, 2) := dk_21 4 (dk_at dksX4_laysBound_5 3 rfl rfl)
theorem dX4_laysBound_124 : decode cX4_laysBound 124 = .ok (.ifCond .eq 12, 3) := dk_153 0 12 (dk_at dksX4_laysBound_5 5 rfl rfl)
theorem dX4_laysBound_127 : decode cX4_laysBound 127 = .ok (.aload_n 0, 1) := dk_42 (dk_at dksX4_laysBound_5 8 rfl rfl)
theorem dX4_laysBound_128 : decode cX4_laysBound 128 = .ok (.getfield 35, 3) := dk_180 0 35 (dk_at dksX4_laysBound_5 9 rfl rfl)
theorem dX4_laysBound_131 : decode cX4_laysBound 131 = .ok (.iload_n 3, 1) := dk_29 (dk_at dksX4_laysBound_5 12 rfl rfl)
theorem dX4_laysBound_132 : decode cX4_laysBound 132 = .ok (.laload, 1) := dk_47 (dk_at dksX4_laysBound_5 13 rfl rfl)
theorem dX4_laysBound_133 : decode cX4_laysBound 133 = .ok (.goto 13, 3) := dk_167 0 13 (dk_at dksX4_laysBound_5 14 rfl rfl)
theorem dX4_laysBound_136 : decode cX4_laysBound 136 = .ok (.aload_n 0, 1) := dk_42 (dk_at dksX4_laysBound_5 17 rfl rfl)
theorem dX4_laysBound_137 : decode cX4_laysBound 137 = .ok (.getfield 41, 3) := dk_180 0 41 (dk_at dksX4_laysBound_5 18 rfl rfl)
theorem dX4_laysBound_140 : decode cX4_laysBound 140 = .ok (.iload_n 2, 1) := dk_28 (dk_at dksX4_laysBound_5 21 rfl rfl)
theorem dX4_laysBound_141 : decode cX4_laysBound 141 = .ok (.iload_n 3, 1) := dk_29 (dk_at dksX4_laysBound_5 22 rfl rfl)
theorem dX4_laysBound_142 : decode cX4_laysBound 142 = .ok (.iconst (-1), 1) := dk_2 (dk_at dksX4_laysBound_5 23 rfl rfl)
theorem dX4_laysBound_143 : decode cX4_laysBound 143 = .ok (.ixor, 1) := dk_130 (dk_at dksX4_laysBound_6 0 rfl rfl)
theorem dX4_laysBound_144 : decode cX4_laysBound 144 = .ok (.iand, 1) := dk_126 (dk_at dksX4_laysBound_6 1 rfl rfl)
theorem dX4_laysBound_145 : decode cX4_laysBound 145 = .ok (.laload, 1) := dk_47 (dk_at dksX4_laysBound_6 2 rfl rfl)
theorem dX4_laysBound_146 : decode cX4_laysBound 146 = .ok (.lstore 5, 2) := dk_55 5 (dk_at dksX4_laysBound_6 3 rfl rfl)
theorem dX4_laysBound_148 : decode cX4_laysBound 148 = .ok (.iload 4, 2) := dk_21 4 (dk_at dksX4_laysBound_6 5 rfl rfl)
theorem dX4_laysBound_150 : decode cX4_laysBound 150 = .ok (.ifCond .eq 12, 3) := dk_153 0 12 (dk_at dksX4_laysBound_6 7 rfl rfl)
theorem dX4_laysBound_153 : decode cX4_laysBound 153 = .ok (.aload_n 0, 1) := dk_42 (dk_at dksX4_laysBound_6 10 rfl rfl)
theorem dX4_laysBound_154 : decode cX4_laysBound 154 = .ok (.getfield 38, 3) := dk_180 0 38 (dk_at dksX4_laysBound_6 11 rfl rfl)
theorem dX4_laysBound_157 : decode cX4_laysBound 157 = .ok (.iload_n 3, 1) := dk_29 (dk_at dksX4_laysBound_6 14 rfl rfl)
theorem dX4_laysBound_158 : decode cX4_laysBound 158 = .ok (.laload, 1) := dk_47 (dk_at dksX4_laysBound_6 15 rfl rfl)
theorem dX4_laysBound_159 : decode cX4_laysBound 159 = .ok (.goto 13, 3) := dk_167 0 13 (dk_at dksX4_laysBound_6 16 rfl rfl)
theorem dX4_laysBound_162 : decode cX4_laysBound 162 = .ok (.aload_n 0, 1) := dk_42 (dk_at dksX4_laysBound_6 19 rfl rfl)
theorem dX4_laysBound_163 : decode cX4_laysBound 163 = .ok (.getfield 44, 3) := dk_180 0 44 (dk_at dksX4_laysBound_6 20 rfl rfl)
theorem dX4_laysBound_166 : decode cX4_laysBound 166 = .ok (.iload_n 2, 1) := dk_28 (dk_at dksX4_laysBound_6 23 rfl rfl)
theorem dX4_laysBound_167 : decode cX4_laysBound 167 = .ok (.iload_n 3, 1) := dk_29 (dk_at dksX4_laysBound_7 0 rfl rfl)
theorem dX4_laysBound_168 : decode cX4_laysBound 168 = .ok (.iconst (-1), 1) := dk_2 (dk_at dksX4_laysBound_7 1 rfl rfl)
theorem dX4_laysBound_169 : decode cX4_laysBound 169 = .ok (.ixor, 1) := dk_130 (dk_at dksX4_laysBound_7 2 rfl rfl)
theorem dX4_laysBound_170 : decode cX4_laysBound 170 = .ok (.iand, 1) := dk_126 (dk_at dksX4_laysBound_7 3 rfl rfl)
theorem dX4_laysBound_171 : decode cX4_laysBound 171 = .ok (.laload, 1) := dk_47 (dk_at dksX4_laysBound_7 4 rfl rfl)
theorem dX4_laysBound_172 : decode cX4_laysBound 172 = .ok (.lstore 7, 2) := dk_55 7 (dk_at dksX4_laysBound_7 5 rfl rfl)
theorem dX4_laysBound_174 : decode cX4_laysBound 174 = .ok (.lload 5, 2) := dk_22 5 (dk_at dksX4_laysBound_7 7 rfl rfl)
theorem dX4_laysBound_176 : decode cX4_laysBound 176 = .ok (.aload_n 0, 1) := dk_42 (dk_at dksX4_laysBound_7 9 rfl rfl)
theorem dX4_laysBound_177 : decode cX4_laysBound 177 = .ok (.getfield 263, 3) := dk_180 1 7 (dk_at dksX4_laysBound_7 10 rfl rfl)
theorem dX4_laysBound_180 : decode cX4_laysBound 180 = .ok (.lmul, 1) := dk_105 (dk_at dksX4_laysBound_7 13 rfl rfl)
theorem dX4_laysBound_181 : decode cX4_laysBound 181 = .ok (.aload_n 0, 1) := dk_42 (dk_at dksX4_laysBound_7 14 rfl rfl)
theorem dX4_laysBound_182 : decode cX4_laysBound 182 = .ok (.getfield 260, 3) := dk_180 1 4 (dk_at dksX4_laysBound_7 15 rfl rfl)
theorem dX4_laysBound_185 : decode cX4_laysBound 185 = .ok (.lload 7, 2) := dk_22 7 (dk_at dksX4_laysBound_7 18 rfl rfl)
theorem dX4_laysBound_187 : decode cX4_laysBound 187 = .ok (.lmul, 1) := dk_105 (dk_at dksX4_laysBound_7 20 rfl rfl)
theorem dX4_laysBound_188 : decode cX4_laysBound 188 = .ok (.lcmp, 1) := dk_148 (dk_at dksX4_laysBound_7 21 rfl rfl)
theorem dX4_laysBound_189 : decode cX4_laysBound 189 = .ok (.ifCond .ge 15, 3) := dk_156 0 15 (dk_at dksX4_laysBound_8 0 rfl rfl)
theorem dX4_laysBound_192 : decode cX4_laysBound 192 = .ok (.aload_n 0, 1) := dk_42 (dk_at dksX4_laysBound_8 3 rfl rfl)
theorem dX4_laysBound_193 : decode cX4_laysBound 193 = .ok (.lload 5, 2) := dk_22 5 (dk_at dksX4_laysBound_8 4 rfl rfl)
theorem dX4_laysBound_195 : decode cX4_laysBound 195 = .ok (.putfield 260, 3) := dk_181 1 4 (dk_at dksX4_laysBound_8 6 rfl rfl)
theorem dX4_laysBound_198 : decode cX4_laysBound 198 = .ok (.aload_n 0, 1) := dk_42 (dk_at dksX4_laysBound_8 9 rfl rfl)
theorem dX4_laysBound_199 : decode cX4_laysBound 199 = .ok (.lload 7, 2) := dk_22 7 (dk_at dksX4_laysBound_8 10 rfl rfl)
theorem dX4_laysBound_201 : decode cX4_laysBound 201 = .ok (.putfield 263, 3) := dk_181 1 7 (dk_at dksX4_laysBound_8 12 rfl rfl)
theorem dX4_laysBound_204 : decode cX4_laysBound 204 = .ok (.iinc 3 1, 3) := dk_132 3 1 (dk_at dksX4_laysBound_8 15 rfl rfl)
theorem dX4_laysBound_207 : decode cX4_laysBound 207 = .ok (.goto (-140), 3) := dk_167 255 116 (dk_at dksX4_laysBound_8 18 rfl rfl)
theorem dX4_laysBound_210 : decode cX4_laysBound 210 = .ok (.return_, 1) := dk_177 (dk_at dksX4_laysBound_8 21 rfl rfl)
abbrev cX4_laysRadii : ByteArray := prog_19_method_79_code
def yX4_laysRadii : MethodName := ⟨RX4, "laysRadii", "()V"⟩
def dkwX4_laysRadii_2 : List UInt8 := [167, 255, 218, 177]
abbrev dktX4_laysRadii_2 : List UInt8 := dkwX4_laysRadii_2 ++ []
def dkwX4_laysRadii_1 : List UInt8 := [180, 0, 35, 27, 42, 180, 0, 202, 80, 42, 180, 0, 38, 27, 42, 180, 0, 198, 80, 132, 1, 1]
abbrev dktX4_laysRadii_1 : List UInt8 := dkwX4_laysRadii_1 ++ dktX4_laysRadii_2
def dkwX4_laysRadii_0 : List UInt8 := [42, 3, 182, 0, 170, 3, 60, 27, 4, 42, 182, 0, 65, 120, 162, 0, 34, 42, 27, 182, 0, 236, 42]
abbrev dktX4_laysRadii_0 : List UInt8 := dkwX4_laysRadii_0 ++ dktX4_laysRadii_1
theorem dksX4_laysRadii_0 : cX4_laysRadii.data.toList.drop 0 = dktX4_laysRadii_0 := by decide +kernel
theorem dksX4_laysRadii_1 : cX4_laysRadii.data.toList.drop 23 = dktX4_laysRadii_1 := dk_seg dksX4_laysRadii_0 23 rfl rfl
theorem dksX4_laysRadii_2 : cX4_laysRadii.data.toList.drop 45 = dktX4_laysRadii_2 := dk_seg dksX4_laysRadii_1 22 rfl rfl
theorem dX4_laysRadii_0 : decode cX4_laysRadii 0 = .ok (.aload_n 0, 1) := dk_42 (dk_at dksX4_laysRadii_0 0 rfl rfl)
theorem dX4_laysRadii_1 : decode cX4_laysRadii 1 = .ok (.iconst 0, 1) := dk_3 (dk_at dksX4_laysRadii_0 1 rfl rfl)
theorem dX4_laysRadii_2 : decode cX4_laysRadii 2 = .ok (.invokevirtual 170, 3) := dk_182 0 170 (dk_at dksX4_laysRadii_0 2 rfl rfl)
theorem dX4_laysRadii_5 : decode cX4_laysRadii 5 = .ok (.iconst 0, 1) := dk_3 (dk_at dksX4_laysRadii_0 5 rfl rfl)
theorem dX4_laysRadii_6 : decode cX4_laysRadii 6 = .ok (.istore_n 1, 1) := dk_60 (dk_at dksX4_laysRadii_0 6 rfl rfl)
theorem dX4_laysRadii_7 : decode cX4_laysRadii 7 = .ok (.iload_n 1, 1) := dk_27 (dk_at dksX4_laysRadii_0 7 rfl rfl)
theorem dX4_laysRadii_8 : decode cX4_laysRadii 8 = .ok (.iconst 1, 1) := dk_4 (dk_at dksX4_laysRadii_0 8 rfl rfl)
theorem dX4_laysRadii_9 : decode cX4_laysRadii 9 = .ok (.aload_n 0, 1) := dk_42 (dk_at dksX4_laysRadii_0 9 rfl rfl)
theorem dX4_laysRadii_10 : decode cX4_laysRadii 10 = .ok (.invokevirtual 65, 3) := dk_182 0 65 (dk_at dksX4_laysRadii_0 10 rfl rfl)
theorem dX4_laysRadii_13 : decode cX4_laysRadii 13 = .ok (.ishl, 1) := dk_120 (dk_at dksX4_laysRadii_0 13 rfl rfl)
theorem dX4_laysRadii_14 : decode cX4_laysRadii 14 = .ok (.if_icmp .ge 34, 3) := dk_162 0 34 (dk_at dksX4_laysRadii_0 14 rfl rfl)
theorem dX4_laysRadii_17 : decode cX4_laysRadii 17 = .ok (.aload_n 0, 1) := dk_42 (dk_at dksX4_laysRadii_0 17 rfl rfl)
theorem dX4_laysRadii_18 : decode cX4_laysRadii 18 = .ok (.iload_n 1, 1) := dk_27 (dk_at dksX4_laysRadii_0 18 rfl rfl)
theorem dX4_laysRadii_19 : decode cX4_laysRadii 19 = .ok (.invokevirtual 236, 3) := dk_182 0 236 (dk_at dksX4_laysRadii_0 19 rfl rfl)
theorem dX4_laysRadii_22 : decode cX4_laysRadii 22 = .ok (.aload_n 0, 1) := dk_42 (dk_at dksX4_laysRadii_0 22 rfl rfl)
theorem dX4_laysRadii_23 : decode cX4_laysRadii 23 = .ok (.getfield 35, 3) := dk_180 0 35 (dk_at dksX4_laysRadii_1 0 rfl rfl)
theorem dX4_laysRadii_26 : decode cX4_laysRadii 26 = .ok (.iload_n 1, 1) := dk_27 (dk_at dksX4_laysRadii_1 3 rfl rfl)
theorem dX4_laysRadii_27 : decode cX4_laysRadii 27 = .ok (.aload_n 0, 1) := dk_42 (dk_at dksX4_laysRadii_1 4 rfl rfl)
theorem dX4_laysRadii_28 : decode cX4_laysRadii 28 = .ok (.getfield 202, 3) := dk_180 0 202 (dk_at dksX4_laysRadii_1 5 rfl rfl)
theorem dX4_laysRadii_31 : decode cX4_laysRadii 31 = .ok (.lastore, 1) := dk_80 (dk_at dksX4_laysRadii_1 8 rfl rfl)
theorem dX4_laysRadii_32 : decode cX4_laysRadii 32 = .ok (.aload_n 0, 1) := dk_42 (dk_at dksX4_laysRadii_1 9 rfl rfl)
theorem dX4_laysRadii_33 : decode cX4_laysRadii 33 = .ok (.getfield 38, 3) := dk_180 0 38 (dk_at dksX4_laysRadii_1 10 rfl rfl)
theorem dX4_laysRadii_36 : decode cX4_laysRadii 36 = .ok (.iload_n 1, 1) := dk_27 (dk_at dksX4_laysRadii_1 13 rfl rfl)
theorem dX4_laysRadii_37 : decode cX4_laysRadii 37 = .ok (.aload_n 0, 1) := dk_42 (dk_at dksX4_laysRadii_1 14 rfl rfl)
theorem dX4_laysRadii_38 : decode cX4_laysRadii 38 = .ok (.getfield 198, 3) := dk_180 0 198 (dk_at dksX4_laysRadii_1 15 rfl rfl)
theorem dX4_laysRadii_41 : decode cX4_laysRadii 41 = .ok (.lastore, 1) := dk_80 (dk_at dksX4_laysRadii_1 18 rfl rfl)
theorem dX4_laysRadii_42 : decode cX4_laysRadii 42 = .ok (.iinc 1 1, 3) := dk_132 1 1 (dk_at dksX4_laysRadii_1 19 rfl rfl)
theorem dX4_laysRadii_45 : decode cX4_laysRadii 45 = .ok (.goto (-38), 3) := dk_167 255 218 (dk_at dksX4_laysRadii_2 0 rfl rfl)
theorem dX4_laysRadii_48 : decode cX4_laysRadii 48 = .ok (.return_, 1) := dk_177 (dk_at dksX4_laysRadii_2 3 rfl rfl)
abbrev cX4_laysTwo : ByteArray := prog_19_method_80_code
def yX4_laysTwo : MethodName := ⟨RX4, "laysTwo", "()V"⟩
def dkwX4_laysTwo_6 : List UInt8 := [180, 0, 38, 29, 47, 80, 132, 2, 1, 167, 255, 127, 132, 1, 1, 167, 255, 102, 177]
abbrev dktX4_laysTwo_6 : List UInt8 := dkwX4_laysTwo_6 ++ []
def dkwX4_laysTwo_5 : List UInt8 := [47, 105, 148, 156, 0, 27, 42, 180, 0, 41, 27, 42, 180, 0, 35, 29, 47, 80, 42, 180, 0, 44, 27, 42]
abbrev dktX4_laysTwo_5 : List UInt8 := dkwX4_laysTwo_5 ++ dktX4_laysTwo_6
def dkwX4_laysTwo_4 : List UInt8 := [42, 180, 0, 35, 29, 47, 42, 180, 0, 44, 27, 47, 105, 42, 180, 0, 41, 27, 47, 42, 180, 0, 38, 29]
abbrev dktX4_laysTwo_4 : List UInt8 := dkwX4_laysTwo_4 ++ dktX4_laysTwo_5
def dkwX4_laysTwo_3 : List UInt8 := [155, 0, 7, 28, 167, 0, 8, 27, 28, 2, 130, 126, 62, 42, 180, 0, 44, 27, 47, 9, 148, 153, 0, 33]
abbrev dktX4_laysTwo_3 : List UInt8 := dkwX4_laysTwo_3 ++ dktX4_laysTwo_4
def dkwX4_laysTwo_2 : List UInt8 := [130, 126, 47, 105, 42, 180, 0, 35, 27, 28, 2, 130, 126, 47, 42, 180, 0, 38, 28, 47, 105, 148]
abbrev dktX4_laysTwo_2 : List UInt8 := dkwX4_laysTwo_2 ++ dktX4_laysTwo_3
def dkwX4_laysTwo_1 : List UInt8 := [163, 0, 130, 28, 27, 2, 130, 126, 154, 0, 116, 42, 180, 0, 35, 28, 47, 42, 180, 0, 38, 27, 28, 2]
abbrev dktX4_laysTwo_1 : List UInt8 := dkwX4_laysTwo_1 ++ dktX4_laysTwo_2
def dkwX4_laysTwo_0 : List UInt8 := [3, 60, 27, 4, 42, 182, 0, 65, 120, 162, 0, 150, 42, 180, 0, 44, 27, 9, 80, 3, 61, 28, 27]
abbrev dktX4_laysTwo_0 : List UInt8 := dkwX4_laysTwo_0 ++ dktX4_laysTwo_1
theorem dksX4_laysTwo_0 : cX4_laysTwo.data.toList.drop 0 = dktX4_laysTwo_0 := by decide +kernel
theorem dksX4_laysTwo_1 : cX4_laysTwo.data.toList.drop 23 = dktX4_laysTwo_1 := dk_seg dksX4_laysTwo_0 23 rfl rfl
theorem dksX4_laysTwo_2 : cX4_laysTwo.data.toList.drop 47 = dktX4_laysTwo_2 := dk_seg dksX4_laysTwo_1 24 rfl rfl
theorem dksX4_laysTwo_3 : cX4_laysTwo.data.toList.drop 69 = dktX4_laysTwo_3 := dk_seg dksX4_laysTwo_2 22 rfl rfl
theorem dksX4_laysTwo_4 : cX4_laysTwo.data.toList.drop 93 = dktX4_laysTwo_4 := dk_seg dksX4_laysTwo_3 24 rfl rfl
theorem dksX4_laysTwo_5 : cX4_laysTwo.data.toList.drop 117 = dktX4_laysTwo_5 := dk_seg dksX4_laysTwo_4 24 rfl rfl
theorem dksX4_laysTwo_6 : cX4_laysTwo.data.toList.drop 141 = dktX4_laysTwo_6 := dk_seg dksX4_laysTwo_5 24 rfl rfl
theorem dX4_laysTwo_0 : decode cX4_laysTwo 0 = .ok (.iconst 0, 1) := dk_3 (dk_at dksX4_laysTwo_0 0 rfl rfl)
theorem dX4_laysTwo_1 : decode cX4_laysTwo 1 = .ok (.istore_n 1, 1) := dk_60 (dk_at dksX4_laysTwo_0 1 rfl rfl)
theorem dX4_laysTwo_2 : decode cX4_laysTwo 2 = .ok (.iload_n 1, 1) := dk_27 (dk_at dksX4_laysTwo_0 2 rfl rfl)
theorem dX4_laysTwo_3 : decode cX4_laysTwo 3 = .ok (.iconst 1, 1) := dk_4 (dk_at dksX4_laysTwo_0 3 rfl rfl)
theorem dX4_laysTwo_4 : decode cX4_laysTwo 4 = .ok (.aload_n 0, 1) := dk_42 (dk_at dksX4_laysTwo_0 4 rfl rfl)
theorem dX4_laysTwo_5 : decode cX4_laysTwo 5 = .ok (.invokevirtual 65, 3) := dk_182 0 65 (dk_at dksX4_laysTwo_0 5 rfl rfl)
theorem dX4_laysTwo_8 : decode cX4_laysTwo 8 = .ok (.ishl, 1) := dk_120 (dk_at dksX4_laysTwo_0 8 rfl rfl)
theorem dX4_laysTwo_9 : decode cX4_laysTwo 9 = .ok (.if_icmp .ge 150, 3) := dk_162 0 150 (dk_at dksX4_laysTwo_0 9 rfl rfl)
theorem dX4_laysTwo_12 : decode cX4_laysTwo 12 = .ok (.aload_n 0, 1) := dk_42 (dk_at dksX4_laysTwo_0 12 rfl rfl)
theorem dX4_laysTwo_13 : decode cX4_laysTwo 13 = .ok (.getfield 44, 3) := dk_180 0 44 (dk_at dksX4_laysTwo_0 13 rfl rfl)
theorem dX4_laysTwo_16 : decode cX4_laysTwo 16 = .ok (.iload_n 1, 1) := dk_27 (dk_at dksX4_laysTwo_0 16 rfl rfl)
theorem dX4_laysTwo_17 : decode cX4_laysTwo 17 = .ok (.lconst 0, 1) := dk_9 (dk_at dksX4_laysTwo_0 17 rfl rfl)
theorem dX4_laysTwo_18 : decode cX4_laysTwo 18 = .ok (.lastore, 1) := dk_80 (dk_at dksX4_laysTwo_0 18 rfl rfl)
theorem dX4_laysTwo_19 : decode cX4_laysTwo 19 = .ok (.iconst 0, 1) := dk_3 (dk_at dksX4_laysTwo_0 19 rfl rfl)
theorem dX4_laysTwo_20 : decode cX4_laysTwo 20 = .ok (.istore_n 2, 1) := dk_61 (dk_at dksX4_laysTwo_0 20 rfl rfl)
theorem dX4_laysTwo_21 : decode cX4_laysTwo 21 = .ok (.iload_n 2, 1) := dk_28 (dk_at dksX4_laysTwo_0 21 rfl rfl)
theorem dX4_laysTwo_22 : decode cX4_laysTwo 22 = .ok (.iload_n 1, 1) := dk_27 (dk_at dksX4_laysTwo_0 22 rfl rfl)
theorem dX4_laysTwo_23 : decode cX4_laysTwo 23 = .ok (.if_icmp .gt 130, 3) := dk_163 0 130 (dk_at dksX4_laysTwo_1 0 rfl rfl)
theorem dX4_laysTwo_26 : decode cX4_laysTwo 26 = .ok (.iload_n 2, 1) := dk_28 (dk_at dksX4_laysTwo_1 3 rfl rfl)
theorem dX4_laysTwo_27 : decode cX4_laysTwo 27 = .ok (.iload_n 1, 1) := dk_27 (dk_at dksX4_laysTwo_1 4 rfl rfl)
theorem dX4_laysTwo_28 : decode cX4_laysTwo 28 = .ok (.iconst (-1), 1) := dk_2 (dk_at dksX4_laysTwo_1 5 rfl rfl)
theorem dX4_laysTwo_29 : decode cX4_laysTwo 29 = .ok (.ixor, 1) := dk_130 (dk_at dksX4_laysTwo_1 6 rfl rfl)
theorem dX4_laysTwo_30 : decode cX4_laysTwo 30 = .ok (.iand, 1) := dk_126 (dk_at dksX4_laysTwo_1 7 rfl rfl)
theorem dX4_laysTwo_31 : decode cX4_laysTwo 31 = .ok (.ifCond .ne 116, 3) := dk_154 0 116 (dk_at dksX4_laysTwo_1 8 rfl rfl)
theorem dX4_laysTwo_34 : decode cX4_laysTwo 34 = .ok (.aload_n 0, 1) := dk_42 (dk_at dksX4_laysTwo_1 11 rfl rfl)
theorem dX4_laysTwo_35 : decode cX4_laysTwo 35 = .ok (.getfield 35, 3) := dk_180 0 35 (dk_at dksX4_laysTwo_1 12 rfl rfl)
theorem dX4_laysTwo_38 : decode cX4_laysTwo 38 = .ok (.iload_n 2, 1) := dk_28 (dk_at dksX4_laysTwo_1 15 rfl rfl)
theorem dX4_laysTwo_39 : decode cX4_laysTwo 39 = .ok (.laload, 1) := dk_47 (dk_at dksX4_laysTwo_1 16 rfl rfl)
theorem dX4_laysTwo_40 : decode cX4_laysTwo 40 = .ok (.aload_n 0, 1) := dk_42 (dk_at dksX4_laysTwo_1 17 rfl rfl)
theorem dX4_laysTwo_41 : decode cX4_laysTwo 41 = .ok (.getfield 38, 3) := dk_180 0 38 (dk_at dksX4_laysTwo_1 18 rfl rfl)
theorem dX4_laysTwo_44 : decode cX4_laysTwo 44 = .ok (.iload_n 1, 1) := dk_27 (dk_at dksX4_laysTwo_1 21 rfl rfl)
theorem dX4_laysTwo_45 : decode cX4_laysTwo 45 = .ok (.iload_n 2, 1) := dk_28 (dk_at dksX4_laysTwo_1 22 rfl rfl)
theorem dX4_laysTwo_46 : decode cX4_laysTwo 46 = .ok (.iconst (-1), 1) := dk_2 (dk_at dksX4_laysTwo_1 23 rfl rfl)
theorem dX4_laysTwo_47 : decode cX4_laysTwo 47 = .ok (.ixor, 1) := dk_130 (dk_at dksX4_laysTwo_2 0 rfl rfl)
theorem dX4_laysTwo_48 : decode cX4_laysTwo 48 = .ok (.iand, 1) := dk_126 (dk_at dksX4_laysTwo_2 1 rfl rfl)
theorem dX4_laysTwo_49 : decode cX4_laysTwo 49 = .ok (.laload, 1) := dk_47 (dk_at dksX4_laysTwo_2 2 rfl rfl)
theorem dX4_laysTwo_50 : decode cX4_laysTwo 50 = .ok (.lmul, 1) := dk_105 (dk_at dksX4_laysTwo_2 3 rfl rfl)
theorem dX4_laysTwo_51 : decode cX4_laysTwo 51 = .ok (.aload_n 0, 1) := dk_42 (dk_at dksX4_laysTwo_2 4 rfl rfl)
theorem dX4_laysTwo_52 : decode cX4_laysTwo 52 = .ok (.getfield 35, 3) := dk_180 0 35 (dk_at dksX4_laysTwo_2 5 rfl rfl)
theorem dX4_laysTwo_55 : decode cX4_laysTwo 55 = .ok (.iload_n 1, 1) := dk_27 (dk_at dksX4_laysTwo_2 8 rfl rfl)
theorem dX4_laysTwo_56 : decode cX4_laysTwo 56 = .ok (.iload_n 2, 1) := dk_28 (dk_at dksX4_laysTwo_2 9 rfl rfl)
theorem dX4_laysTwo_57 : decode cX4_laysTwo 57 = .ok (.iconst (-1), 1) := dk_2 (dk_at dksX4_laysTwo_2 10 rfl rfl)
theorem dX4_laysTwo_58 : decode cX4_laysTwo 58 = .ok (.ixor, 1) := dk_130 (dk_at dksX4_laysTwo_2 11 rfl rfl)
theorem dX4_laysTwo_59 : decode cX4_laysTwo 59 = .ok (.iand, 1) := dk_126 (dk_at dksX4_laysTwo_2 12 rfl rfl)
theorem dX4_laysTwo_60 : decode cX4_laysTwo 60 = .ok (.laload, 1) := dk_47 (dk_at dksX4_laysTwo_2 13 rfl rfl)
theorem dX4_laysTwo_61 : decode cX4_laysTwo 61 = .ok (.aload_n 0, 1) := dk_42 (dk_at dksX4_laysTwo_2 14 rfl rfl)
theorem dX4_laysTwo_62 : decode cX4_laysTwo 62 = .ok (.getfield 38, 3) := dk_180 0 38 (dk_at dksX4_laysTwo_2 15 rfl rfl)
theorem dX4_laysTwo_65 : decode cX4_laysTwo 65 = .ok (.iload_n 2, 1) := dk_28 (dk_at dksX4_laysTwo_2 18 rfl rfl)
theorem dX4_laysTwo_66 : decode cX4_laysTwo 66 = .ok (.laload, 1) := dk_47 (dk_at dksX4_laysTwo_2 19 rfl rfl)
theorem dX4_laysTwo_67 : decode cX4_laysTwo 67 = .ok (.lmul, 1) := dk_105 (dk_at dksX4_laysTwo_2 20 rfl rfl)
theorem dX4_laysTwo_68 : decode cX4_laysTwo 68 = .ok (.lcmp, 1) := dk_148 (dk_at dksX4_laysTwo_2 21 rfl rfl)
theorem dX4_laysTwo_69 : decode cX4_laysTwo 69 = .ok (.ifCond .lt 7, 3) := dk_155 0 7 (dk_at dksX4_laysTwo_3 0 rfl rfl)
theorem dX4_laysTwo_72 : decode cX4_laysTwo 72 = .ok (.iload_n 2, 1) := dk_28 (dk_at dksX4_laysTwo_3 3 rfl rfl)
theorem dX4_laysTwo_73 : decode cX4_laysTwo 73 = .ok (.goto 8, 3) := dk_167 0 8 (dk_at dksX4_laysTwo_3 4 rfl rfl)
theorem dX4_laysTwo_76 : decode cX4_laysTwo 76 = .ok (.iload_n 1, 1) := dk_27 (dk_at dksX4_laysTwo_3 7 rfl rfl)
theorem dX4_laysTwo_77 : decode cX4_laysTwo 77 = .ok (.iload_n 2, 1) := dk_28 (dk_at dksX4_laysTwo_3 8 rfl rfl)
theorem dX4_laysTwo_78 : decode cX4_laysTwo 78 = .ok (.iconst (-1), 1) := dk_2 (dk_at dksX4_laysTwo_3 9 rfl rfl)
theorem dX4_laysTwo_79 : decode cX4_laysTwo 79 = .ok (.ixor, 1) := dk_130 (dk_at dksX4_laysTwo_3 10 rfl rfl)
theorem dX4_laysTwo_80 : decode cX4_laysTwo 80 = .ok (.iand, 1) := dk_126 (dk_at dksX4_laysTwo_3 11 rfl rfl)
theorem dX4_laysTwo_81 : decode cX4_laysTwo 81 = .ok (.istore_n 3, 1) := dk_62 (dk_at dksX4_laysTwo_3 12 rfl rfl)
theorem dX4_laysTwo_82 : decode cX4_laysTwo 82 = .ok (.aload_n 0, 1) := dk_42 (dk_at dksX4_laysTwo_3 13 rfl rfl)
theorem dX4_laysTwo_83 : decode cX4_laysTwo 83 = .ok (.getfield 44, 3) := dk_180 0 44 (dk_at dksX4_laysTwo_3 14 rfl rfl)
theorem dX4_laysTwo_86 : decode cX4_laysTwo 86 = .ok (.iload_n 1, 1) := dk_27 (dk_at dksX4_laysTwo_3 17 rfl rfl)
theorem dX4_laysTwo_87 : decode cX4_laysTwo 87 = .ok (.laload, 1) := dk_47 (dk_at dksX4_laysTwo_3 18 rfl rfl)
theorem dX4_laysTwo_88 : decode cX4_laysTwo 88 = .ok (.lconst 0, 1) := dk_9 (dk_at dksX4_laysTwo_3 19 rfl rfl)
theorem dX4_laysTwo_89 : decode cX4_laysTwo 89 = .ok (.lcmp, 1) := dk_148 (dk_at dksX4_laysTwo_3 20 rfl rfl)
theorem dX4_laysTwo_90 : decode cX4_laysTwo 90 = .ok (.ifCond .eq 33, 3) := dk_153 0 33 (dk_at dksX4_laysTwo_3 21 rfl rfl)
theorem dX4_laysTwo_93 : decode cX4_laysTwo 93 = .ok (.aload_n 0, 1) := dk_42 (dk_at dksX4_laysTwo_4 0 rfl rfl)
theorem dX4_laysTwo_94 : decode cX4_laysTwo 94 = .ok (.getfield 35, 3) := dk_180 0 35 (dk_at dksX4_laysTwo_4 1 rfl rfl)
theorem dX4_laysTwo_97 : decode cX4_laysTwo 97 = .ok (.iload_n 3, 1) := dk_29 (dk_at dksX4_laysTwo_4 4 rfl rfl)
theorem dX4_laysTwo_98 : decode cX4_laysTwo 98 = .ok (.laload, 1) := dk_47 (dk_at dksX4_laysTwo_4 5 rfl rfl)
theorem dX4_laysTwo_99 : decode cX4_laysTwo 99 = .ok (.aload_n 0, 1) := dk_42 (dk_at dksX4_laysTwo_4 6 rfl rfl)
theorem dX4_laysTwo_100 : decode cX4_laysTwo 100 = .ok (.getfield 44, 3) := dk_180 0 44 (dk_at dksX4_laysTwo_4 7 rfl rfl)
theorem dX4_laysTwo_103 : decode cX4_laysTwo 103 = .ok (.iload_n 1, 1) := dk_27 (dk_at dksX4_laysTwo_4 10 rfl rfl)
theorem dX4_laysTwo_104 : decode cX4_laysTwo 104 = .ok (.laload, 1) := dk_47 (dk_at dksX4_laysTwo_4 11 rfl rfl)
theorem dX4_laysTwo_105 : decode cX4_laysTwo 105 = .ok (.lmul, 1) := dk_105 (dk_at dksX4_laysTwo_4 12 rfl rfl)
theorem dX4_laysTwo_106 : decode cX4_laysTwo 106 = .ok (.aload_n 0, 1) := dk_42 (dk_at dksX4_laysTwo_4 13 rfl rfl)
theorem dX4_laysTwo_107 : decode cX4_laysTwo 107 = .ok (.getfield 41, 3) := dk_180 0 41 (dk_at dksX4_laysTwo_4 14 rfl rfl)
theorem dX4_laysTwo_110 : decode cX4_laysTwo 110 = .ok (.iload_n 1, 1) := dk_27 (dk_at dksX4_laysTwo_4 17 rfl rfl)
theorem dX4_laysTwo_111 : decode cX4_laysTwo 111 = .ok (.laload, 1) := dk_47 (dk_at dksX4_laysTwo_4 18 rfl rfl)
theorem dX4_laysTwo_112 : decode cX4_laysTwo 112 = .ok (.aload_n 0, 1) := dk_42 (dk_at dksX4_laysTwo_4 19 rfl rfl)
theorem dX4_laysTwo_113 : decode cX4_laysTwo 113 = .ok (.getfield 38, 3) := dk_180 0 38 (dk_at dksX4_laysTwo_4 20 rfl rfl)
theorem dX4_laysTwo_116 : decode cX4_laysTwo 116 = .ok (.iload_n 3, 1) := dk_29 (dk_at dksX4_laysTwo_4 23 rfl rfl)
theorem dX4_laysTwo_117 : decode cX4_laysTwo 117 = .ok (.laload, 1) := dk_47 (dk_at dksX4_laysTwo_5 0 rfl rfl)
theorem dX4_laysTwo_118 : decode cX4_laysTwo 118 = .ok (.lmul, 1) := dk_105 (dk_at dksX4_laysTwo_5 1 rfl rfl)
theorem dX4_laysTwo_119 : decode cX4_laysTwo 119 = .ok (.lcmp, 1) := dk_148 (dk_at dksX4_laysTwo_5 2 rfl rfl)
theorem dX4_laysTwo_120 : decode cX4_laysTwo 120 = .ok (.ifCond .ge 27, 3) := dk_156 0 27 (dk_at dksX4_laysTwo_5 3 rfl rfl)
theorem dX4_laysTwo_123 : decode cX4_laysTwo 123 = .ok (.aload_n 0, 1) := dk_42 (dk_at dksX4_laysTwo_5 6 rfl rfl)
theorem dX4_laysTwo_124 : decode cX4_laysTwo 124 = .ok (.getfield 41, 3) := dk_180 0 41 (dk_at dksX4_laysTwo_5 7 rfl rfl)
theorem dX4_laysTwo_127 : decode cX4_laysTwo 127 = .ok (.iload_n 1, 1) := dk_27 (dk_at dksX4_laysTwo_5 10 rfl rfl)
theorem dX4_laysTwo_128 : decode cX4_laysTwo 128 = .ok (.aload_n 0, 1) := dk_42 (dk_at dksX4_laysTwo_5 11 rfl rfl)
theorem dX4_laysTwo_129 : decode cX4_laysTwo 129 = .ok (.getfield 35, 3) := dk_180 0 35 (dk_at dksX4_laysTwo_5 12 rfl rfl)
theorem dX4_laysTwo_132 : decode cX4_laysTwo 132 = .ok (.iload_n 3, 1) := dk_29 (dk_at dksX4_laysTwo_5 15 rfl rfl)
theorem dX4_laysTwo_133 : decode cX4_laysTwo 133 = .ok (.laload, 1) := dk_47 (dk_at dksX4_laysTwo_5 16 rfl rfl)
theorem dX4_laysTwo_134 : decode cX4_laysTwo 134 = .ok (.lastore, 1) := dk_80 (dk_at dksX4_laysTwo_5 17 rfl rfl)
theorem dX4_laysTwo_135 : decode cX4_laysTwo 135 = .ok (.aload_n 0, 1) := dk_42 (dk_at dksX4_laysTwo_5 18 rfl rfl)
theorem dX4_laysTwo_136 : decode cX4_laysTwo 136 = .ok (.getfield 44, 3) := dk_180 0 44 (dk_at dksX4_laysTwo_5 19 rfl rfl)
theorem dX4_laysTwo_139 : decode cX4_laysTwo 139 = .ok (.iload_n 1, 1) := dk_27 (dk_at dksX4_laysTwo_5 22 rfl rfl)
theorem dX4_laysTwo_140 : decode cX4_laysTwo 140 = .ok (.aload_n 0, 1) := dk_42 (dk_at dksX4_laysTwo_5 23 rfl rfl)
theorem dX4_laysTwo_141 : decode cX4_laysTwo 141 = .ok (.getfield 38, 3) := dk_180 0 38 (dk_at dksX4_laysTwo_6 0 rfl rfl)
theorem dX4_laysTwo_144 : decode cX4_laysTwo 144 = .ok (.iload_n 3, 1) := dk_29 (dk_at dksX4_laysTwo_6 3 rfl rfl)
theorem dX4_laysTwo_145 : decode cX4_laysTwo 145 = .ok (.laload, 1) := dk_47 (dk_at dksX4_laysTwo_6 4 rfl rfl)
theorem dX4_laysTwo_146 : decode cX4_laysTwo 146 = .ok (.lastore, 1) := dk_80 (dk_at dksX4_laysTwo_6 5 rfl rfl)
theorem dX4_laysTwo_147 : decode cX4_laysTwo 147 = .ok (.iinc 2 1, 3) := dk_132 2 1 (dk_at dksX4_laysTwo_6 6 rfl rfl)
theorem dX4_laysTwo_150 : decode cX4_laysTwo 150 = .ok (.goto (-129), 3) := dk_167 255 127 (dk_at dksX4_laysTwo_6 9 rfl rfl)
theorem dX4_laysTwo_153 : decode cX4_laysTwo 153 = .ok (.iinc 1 1, 3) := dk_132 1 1 (dk_at dksX4_laysTwo_6 12 rfl rfl)
theorem dX4_laysTwo_156 : decode cX4_laysTwo 156 = .ok (.goto (-154), 3) := dk_167 255 102 (dk_at dksX4_laysTwo_6 15 rfl rfl)
theorem dX4_laysTwo_159 : decode cX4_laysTwo 159 = .ok (.return_, 1) := dk_177 (dk_at dksX4_laysTwo_6 18 rfl rfl)
abbrev cX4_group : ByteArray := prog_19_method_85_code
def yX4_group : MethodName := ⟨RX4, "group", "(II)I"⟩
def dkwX4_group_2 : List UInt8 := [27, 182, 1, 10, 42, 27, 28, 182, 1, 16, 172]
abbrev dktX4_group_2 : List UInt8 := dkwX4_group_2 ++ []
def dkwX4_group_1 : List UInt8 := [167, 0, 15, 42, 182, 0, 233, 154, 0, 7, 5, 167, 0, 4, 3, 182, 0, 61, 153, 0, 5, 3, 172, 42]
abbrev dktX4_group_1 : List UInt8 := dkwX4_group_1 ++ dktX4_group_2
def dkwX4_group_0 : List UInt8 := [42, 27, 4, 6, 184, 0, 69, 153, 0, 14, 28, 3, 27, 4, 100, 184, 0, 69, 154, 0, 7, 4]
abbrev dktX4_group_0 : List UInt8 := dkwX4_group_0 ++ dktX4_group_1
theorem dksX4_group_0 : cX4_group.data.toList.drop 0 = dktX4_group_0 := by decide +kernel
theorem dksX4_group_1 : cX4_group.data.toList.drop 22 = dktX4_group_1 := dk_seg dksX4_group_0 22 rfl rfl
theorem dksX4_group_2 : cX4_group.data.toList.drop 46 = dktX4_group_2 := dk_seg dksX4_group_1 24 rfl rfl
theorem dX4_group_0 : decode cX4_group 0 = .ok (.aload_n 0, 1) := dk_42 (dk_at dksX4_group_0 0 rfl rfl)
theorem dX4_group_1 : decode cX4_group 1 = .ok (.iload_n 1, 1) := dk_27 (dk_at dksX4_group_0 1 rfl rfl)
theorem dX4_group_2 : decode cX4_group 2 = .ok (.iconst 1, 1) := dk_4 (dk_at dksX4_group_0 2 rfl rfl)
theorem dX4_group_3 : decode cX4_group 3 = .ok (.iconst 3, 1) := dk_6 (dk_at dksX4_group_0 3 rfl rfl)
theorem dX4_group_4 : decode cX4_group 4 = .ok (.invokestatic 69, 3) := dk_184 0 69 (dk_at dksX4_group_0 4 rfl rfl)
theorem dX4_group_7 : decode cX4_group 7 = .ok (.ifCond .eq 14, 3) := dk_153 0 14 (dk_at dksX4_group_0 7 rfl rfl)
theorem dX4_group_10 : decode cX4_group 10 = .ok (.iload_n 2, 1) := dk_28 (dk_at dksX4_group_0 10 rfl rfl)
theorem dX4_group_11 : decode cX4_group 11 = .ok (.iconst 0, 1) := dk_3 (dk_at dksX4_group_0 11 rfl rfl)
theorem dX4_group_12 : decode cX4_group 12 = .ok (.iload_n 1, 1) := dk_27 (dk_at dksX4_group_0 12 rfl rfl)
theorem dX4_group_13 : decode cX4_group 13 = .ok (.iconst 1, 1) := dk_4 (dk_at dksX4_group_0 13 rfl rfl)
theorem dX4_group_14 : decode cX4_group 14 = .ok (.isub, 1) := dk_100 (dk_at dksX4_group_0 14 rfl rfl)
theorem dX4_group_15 : decode cX4_group 15 = .ok (.invokestatic 69, 3) := dk_184 0 69 (dk_at dksX4_group_0 15 rfl rfl)
theorem dX4_group_18 : decode cX4_group 18 = .ok (.ifCond .ne 7, 3) := dk_154 0 7 (dk_at dksX4_group_0 18 rfl rfl)
theorem dX4_group_21 : decode cX4_group 21 = .ok (.iconst 1, 1) := dk_4 (dk_at dksX4_group_0 21 rfl rfl)
theorem dX4_group_22 : decode cX4_group 22 = .ok (.goto 15, 3) := dk_167 0 15 (dk_at dksX4_group_1 0 rfl rfl)
theorem dX4_group_25 : decode cX4_group 25 = .ok (.aload_n 0, 1) := dk_42 (dk_at dksX4_group_1 3 rfl rfl)
theorem dX4_group_26 : decode cX4_group 26 = .ok (.invokevirtual 233, 3) := dk_182 0 233 (dk_at dksX4_group_1 4 rfl rfl)
theorem dX4_group_29 : decode cX4_group 29 = .ok (.ifCond .ne 7, 3) := dk_154 0 7 (dk_at dksX4_group_1 7 rfl rfl)
theorem dX4_group_32 : decode cX4_group 32 = .ok (.iconst 2, 1) := dk_5 (dk_at dksX4_group_1 10 rfl rfl)
theorem dX4_group_33 : decode cX4_group 33 = .ok (.goto 4, 3) := dk_167 0 4 (dk_at dksX4_group_1 11 rfl rfl)
theorem dX4_group_36 : decode cX4_group 36 = .ok (.iconst 0, 1) := dk_3 (dk_at dksX4_group_1 14 rfl rfl)
theorem dX4_group_37 : decode cX4_group 37 = .ok (.invokevirtual 61, 3) := dk_182 0 61 (dk_at dksX4_group_1 15 rfl rfl)
theorem dX4_group_40 : decode cX4_group 40 = .ok (.ifCond .eq 5, 3) := dk_153 0 5 (dk_at dksX4_group_1 18 rfl rfl)
theorem dX4_group_43 : decode cX4_group 43 = .ok (.iconst 0, 1) := dk_3 (dk_at dksX4_group_1 21 rfl rfl)
theorem dX4_group_44 : decode cX4_group 44 = .ok (.ireturn, 1) := dk_172 (dk_at dksX4_group_1 22 rfl rfl)
theorem dX4_group_45 : decode cX4_group 45 = .ok (.aload_n 0, 1) := dk_42 (dk_at dksX4_group_1 23 rfl rfl)
theorem dX4_group_46 : decode cX4_group 46 = .ok (.iload_n 1, 1) := dk_27 (dk_at dksX4_group_2 0 rfl rfl)
theorem dX4_group_47 : decode cX4_group 47 = .ok (.invokevirtual 266, 3) := dk_182 1 10 (dk_at dksX4_group_2 1 rfl rfl)
theorem dX4_group_50 : decode cX4_group 50 = .ok (.aload_n 0, 1) := dk_42 (dk_at dksX4_group_2 4 rfl rfl)
theorem dX4_group_51 : decode cX4_group 51 = .ok (.iload_n 1, 1) := dk_27 (dk_at dksX4_group_2 5 rfl rfl)
theorem dX4_group_52 : decode cX4_group 52 = .ok (.iload_n 2, 1) := dk_28 (dk_at dksX4_group_2 6 rfl rfl)
theorem dX4_group_53 : decode cX4_group 53 = .ok (.invokevirtual 272, 3) := dk_182 1 16 (dk_at dksX4_group_2 7 rfl rfl)
theorem dX4_group_56 : decode cX4_group 56 = .ok (.ireturn, 1) := dk_172 (dk_at dksX4_group_2 10 rfl rfl)
abbrev cX4_groupTold : ByteArray := prog_19_method_84_code
def yX4_groupTold : MethodName := ⟨RX4, "groupTold", "(II)I"⟩
def dkwX4_groupTold_4 : List UInt8 := [21, 5, 2, 130, 126, 62, 132, 4, 1, 167, 255, 164, 29, 172]
abbrev dktX4_groupTold_4 : List UInt8 := dkwX4_groupTold_4 ++ []
def dkwX4_groupTold_3 : List UInt8 := [167, 0, 5, 21, 5, 54, 5, 132, 6, 1, 167, 255, 200, 21, 4, 28, 160, 0, 6, 21, 5, 172, 29]
abbrev dktX4_groupTold_3 : List UInt8 := dkwX4_groupTold_3 ++ dktX4_groupTold_4
def dkwX4_groupTold_2 : List UInt8 := [153, 0, 27, 42, 29, 21, 6, 2, 130, 126, 27, 4, 100, 21, 4, 100, 182, 1, 13, 153, 0, 8, 21, 6]
abbrev dktX4_groupTold_2 : List UInt8 := dkwX4_groupTold_2 ++ dktX4_groupTold_3
def dkwX4_groupTold_1 : List UInt8 := [54, 6, 21, 6, 29, 163, 0, 56, 21, 6, 29, 2, 130, 126, 154, 0, 37, 42, 21, 6, 4, 182, 1, 13]
abbrev dktX4_groupTold_1 : List UInt8 := dkwX4_groupTold_1 ++ dktX4_groupTold_2
def dkwX4_groupTold_0 : List UInt8 := [4, 42, 182, 0, 65, 120, 4, 100, 62, 3, 54, 4, 21, 4, 27, 4, 100, 162, 0, 90, 3, 54, 5, 3]
abbrev dktX4_groupTold_0 : List UInt8 := dkwX4_groupTold_0 ++ dktX4_groupTold_1
theorem dksX4_groupTold_0 : cX4_groupTold.data.toList.drop 0 = dktX4_groupTold_0 := by decide +kernel
theorem dksX4_groupTold_1 : cX4_groupTold.data.toList.drop 24 = dktX4_groupTold_1 := dk_seg dksX4_groupTold_0 24 rfl rfl
theorem dksX4_groupTold_2 : cX4_groupTold.data.toList.drop 48 = dktX4_groupTold_2 := dk_seg dksX4_groupTold_1 24 rfl rfl
theorem dksX4_groupTold_3 : cX4_groupTold.data.toList.drop 72 = dktX4_groupTold_3 := dk_seg dksX4_groupTold_2 24 rfl rfl
theorem dksX4_groupTold_4 : cX4_groupTold.data.toList.drop 95 = dktX4_groupTold_4 := dk_seg dksX4_groupTold_3 23 rfl rfl
theorem dX4_groupTold_0 : decode cX4_groupTold 0 = .ok (.iconst 1, 1) := dk_4 (dk_at dksX4_groupTold_0 0 rfl rfl)
theorem dX4_groupTold_1 : decode cX4_groupTold 1 = .ok (.aload_n 0, 1) := dk_42 (dk_at dksX4_groupTold_0 1 rfl rfl)
theorem dX4_groupTold_2 : decode cX4_groupTold 2 = .ok (.invokevirtual 65, 3) := dk_182 0 65 (dk_at dksX4_groupTold_0 2 rfl rfl)
theorem dX4_groupTold_5 : decode cX4_groupTold 5 = .ok (.ishl, 1) := dk_120 (dk_at dksX4_groupTold_0 5 rfl rfl)
theorem dX4_groupTold_6 : decode cX4_groupTold 6 = .ok (.iconst 1, 1) := dk_4 (dk_at dksX4_groupTold_0 6 rfl rfl)
theorem dX4_groupTold_7 : decode cX4_groupTold 7 = .ok (.isub, 1) := dk_100 (dk_at dksX4_groupTold_0 7 rfl rfl)
theorem dX4_groupTold_8 : decode cX4_groupTold 8 = .ok (.istore_n 3, 1) := dk_62 (dk_at dksX4_groupTold_0 8 rfl rfl)
theorem dX4_groupTold_9 : decode cX4_groupTold 9 = .ok (.iconst 0, 1) := dk_3 (dk_at dksX4_groupTold_0 9 rfl rfl)
theorem dX4_groupTold_10 : decode cX4_groupTold 10 = .ok (.istore 4, 2) := dk_54 4 (dk_at dksX4_groupTold_0 10 rfl rfl)
theorem dX4_groupTold_12 : decode cX4_groupTold 12 = .ok (.iload 4, 2) := dk_21 4 (dk_at dksX4_groupTold_0 12 rfl rfl)
theorem dX4_groupTold_14 : decode cX4_groupTold 14 = .ok (.iload_n 1, 1) := dk_27 (dk_at dksX4_groupTold_0 14 rfl rfl)
theorem dX4_groupTold_15 : decode cX4_groupTold 15 = .ok (.iconst 1, 1) := dk_4 (dk_at dksX4_groupTold_0 15 rfl rfl)
theorem dX4_groupTold_16 : decode cX4_groupTold 16 = .ok (.isub, 1) := dk_100 (dk_at dksX4_groupTold_0 16 rfl rfl)
theorem dX4_groupTold_17 : decode cX4_groupTold 17 = .ok (.if_icmp .ge 90, 3) := dk_162 0 90 (dk_at dksX4_groupTold_0 17 rfl rfl)
theorem dX4_groupTold_20 : decode cX4_groupTold 20 = .ok (.iconst 0, 1) := dk_3 (dk_at dksX4_groupTold_0 20 rfl rfl)
theorem dX4_groupTold_21 : decode cX4_groupTold 21 = .ok (.istore 5, 2) := dk_54 5 (dk_at dksX4_groupTold_0 21 rfl rfl)
theorem dX4_groupTold_23 : decode cX4_groupTold 23 = .ok (.iconst 0, 1) := dk_3 (dk_at dksX4_groupTold_0 23 rfl rfl)
theorem dX4_groupTold_24 : decode cX4_groupTold 24 = .ok (.istore 6, 2) := dk_54 6 (dk_at dksX4_groupTold_1 0 rfl rfl)
theorem dX4_groupTold_26 : decode cX4_groupTold 26 = .ok (.iload 6, 2) := dk_21 6 (dk_at dksX4_groupTold_1 2 rfl rfl)
theorem dX4_groupTold_28 : decode cX4_groupTold 28 = .ok (.iload_n 3, 1) := dk_29 (dk_at dksX4_groupTold_1 4 rfl rfl)
theorem dX4_groupTold_29 : decode cX4_groupTold 29 = .ok (.if_icmp .gt 56, 3) := dk_163 0 56 (dk_at dksX4_groupTold_1 5 rfl rfl)
theorem dX4_groupTold_32 : decode cX4_groupTold 32 = .ok (.iload 6, 2) := dk_21 6 (dk_at dksX4_groupTold_1 8 rfl rfl)
theorem dX4_groupTold_34 : decode cX4_groupTold 34 = .ok (.iload_n 3, 1) := dk_29 (dk_at dksX4_groupTold_1 10 rfl rfl)
theorem dX4_groupTold_35 : decode cX4_groupTold 35 = .ok (.iconst (-1), 1) := dk_2 (dk_at dksX4_groupTold_1 11 rfl rfl)
theorem dX4_groupTold_36 : decode cX4_groupTold 36 = .ok (.ixor, 1) := dk_130 (dk_at dksX4_groupTold_1 12 rfl rfl)
theorem dX4_groupTold_37 : decode cX4_groupTold 37 = .ok (.iand, 1) := dk_126 (dk_at dksX4_groupTold_1 13 rfl rfl)
theorem dX4_groupTold_38 : decode cX4_groupTold 38 = .ok (.ifCond .ne 37, 3) := dk_154 0 37 (dk_at dksX4_groupTold_1 14 rfl rfl)
theorem dX4_groupTold_41 : decode cX4_groupTold 41 = .ok (.aload_n 0, 1) := dk_42 (dk_at dksX4_groupTold_1 17 rfl rfl)
theorem dX4_groupTold_42 : decode cX4_groupTold 42 = .ok (.iload 6, 2) := dk_21 6 (dk_at dksX4_groupTold_1 18 rfl rfl)
theorem dX4_groupTold_44 : decode cX4_groupTold 44 = .ok (.iconst 1, 1) := dk_4 (dk_at dksX4_groupTold_1 20 rfl rfl)
theorem dX4_groupTold_45 : decode cX4_groupTold 45 = .ok (.invokevirtual 269, 3) := dk_182 1 13 (dk_at dksX4_groupTold_1 21 rfl rfl)
theorem dX4_groupTold_48 : decode cX4_groupTold 48 = .ok (.ifCond .eq 27, 3) := dk_153 0 27 (dk_at dksX4_groupTold_2 0 rfl rfl)
theorem dX4_groupTold_51 : decode cX4_groupTold 51 = .ok (.aload_n 0, 1) := dk_42 (dk_at dksX4_groupTold_2 3 rfl rfl)
theorem dX4_groupTold_52 : decode cX4_groupTold 52 = .ok (.iload_n 3, 1) := dk_29 (dk_at dksX4_groupTold_2 4 rfl rfl)
theorem dX4_groupTold_53 : decode cX4_groupTold 53 = .ok (.iload 6, 2) := dk_21 6 (dk_at dksX4_groupTold_2 5 rfl rfl)
theorem dX4_groupTold_55 : decode cX4_groupTold 55 = .ok (.iconst (-1), 1) := dk_2 (dk_at dksX4_groupTold_2 7 rfl rfl)
theorem dX4_groupTold_56 : decode cX4_groupTold 56 = .ok (.ixor, 1) := dk_130 (dk_at dksX4_groupTold_2 8 rfl rfl)
theorem dX4_groupTold_57 : decode cX4_groupTold 57 = .ok (.iand, 1) := dk_126 (dk_at dksX4_groupTold_2 9 rfl rfl)
theorem dX4_groupTold_58 : decode cX4_groupTold 58 = .ok (.iload_n 1, 1) := dk_27 (dk_at dksX4_groupTold_2 10 rfl rfl)
theorem dX4_groupTold_59 : decode cX4_groupTold 59 = .ok (.iconst 1, 1) := dk_4 (dk_at dksX4_groupTold_2 11 rfl rfl)
theorem dX4_groupTold_60 : decode cX4_groupTold 60 = .ok (.isub, 1) := dk_100 (dk_at dksX4_groupTold_2 12 rfl rfl)
theorem dX4_groupTold_61 : decode cX4_groupTold 61 = .ok (.iload 4, 2) := dk_21 4 (dk_at dksX4_groupTold_2 13 rfl rfl)
theorem dX4_groupTold_63 : decode cX4_groupTold 63 = .ok (.isub, 1) := dk_100 (dk_at dksX4_groupTold_2 15 rfl rfl)
theorem dX4_groupTold_64 : decode cX4_groupTold 64 = .ok (.invokevirtual 269, 3) := dk_182 1 13 (dk_at dksX4_groupTold_2 16 rfl rfl)
theorem dX4_groupTold_67 : decode cX4_groupTold 67 = .ok (.ifCond .eq 8, 3) := dk_153 0 8 (dk_at dksX4_groupTold_2 19 rfl rfl)
theorem dX4_groupTold_70 : decode cX4_groupTold 70 = .ok (.iload 6, 2) := dk_21 6 (dk_at dksX4_groupTold_2 22 rfl rfl)
theorem dX4_groupTold_72 : decode cX4_groupTold 72 = .ok (.goto 5, 3) := dk_167 0 5 (dk_at dksX4_groupTold_3 0 rfl rfl)
theorem dX4_groupTold_75 : decode cX4_groupTold 75 = .ok (.iload 5, 2) := dk_21 5 (dk_at dksX4_groupTold_3 3 rfl rfl)
theorem dX4_groupTold_77 : decode cX4_groupTold 77 = .ok (.istore 5, 2) := dk_54 5 (dk_at dksX4_groupTold_3 5 rfl rfl)
theorem dX4_groupTold_79 : decode cX4_groupTold 79 = .ok (.iinc 6 1, 3) := dk_132 6 1 (dk_at dksX4_groupTold_3 7 rfl rfl)
theorem dX4_groupTold_82 : decode cX4_groupTold 82 = .ok (.goto (-56), 3) := dk_167 255 200 (dk_at dksX4_groupTold_3 10 rfl rfl)
theorem dX4_groupTold_85 : decode cX4_groupTold 85 = .ok (.iload 4, 2) := dk_21 4 (dk_at dksX4_groupTold_3 13 rfl rfl)
theorem dX4_groupTold_87 : decode cX4_groupTold 87 = .ok (.iload_n 2, 1) := dk_28 (dk_at dksX4_groupTold_3 15 rfl rfl)
theorem dX4_groupTold_88 : decode cX4_groupTold 88 = .ok (.if_icmp .ne 6, 3) := dk_160 0 6 (dk_at dksX4_groupTold_3 16 rfl rfl)
theorem dX4_groupTold_91 : decode cX4_groupTold 91 = .ok (.iload 5, 2) := dk_21 5 (dk_at dksX4_groupTold_3 19 rfl rfl)
theorem dX4_groupTold_93 : decode cX4_groupTold 93 = .ok (.ireturn, 1) := dk_172 (dk_at dksX4_groupTold_3 21 rfl rfl)
theorem dX4_groupTold_94 : decode cX4_groupTold 94 = .ok (.iload_n 3, 1) := dk_29 (dk_at dksX4_groupTold_3 22 rfl rfl)
theorem dX4_groupTold_95 : decode cX4_groupTold 95 = .ok (.iload 5, 2) := dk_21 5 (dk_at dksX4_groupTold_4 0 rfl rfl)
theorem dX4_groupTold_97 : decode cX4_groupTold 97 = .ok (.iconst (-1), 1) := dk_2 (dk_at dksX4_groupTold_4 2 rfl rfl)
theorem dX4_groupTold_98 : decode cX4_groupTold 98 = .ok (.ixor, 1) := dk_130 (dk_at dksX4_groupTold_4 3 rfl rfl)
theorem dX4_groupTold_99 : decode cX4_groupTold 99 = .ok (.iand, 1) := dk_126 (dk_at dksX4_groupTold_4 4 rfl rfl)
theorem dX4_groupTold_100 : decode cX4_groupTold 100 = .ok (.istore_n 3, 1) := dk_62 (dk_at dksX4_groupTold_4 5 rfl rfl)
theorem dX4_groupTold_101 : decode cX4_groupTold 101 = .ok (.iinc 4 1, 3) := dk_132 4 1 (dk_at dksX4_groupTold_4 6 rfl rfl)
theorem dX4_groupTold_104 : decode cX4_groupTold 104 = .ok (.goto (-92), 3) := dk_167 255 164 (dk_at dksX4_groupTold_4 9 rfl rfl)
theorem dX4_groupTold_107 : decode cX4_groupTold 107 = .ok (.iload_n 3, 1) := dk_29 (dk_at dksX4_groupTold_4 12 rfl rfl)
theorem dX4_groupTold_108 : decode cX4_groupTold 108 = .ok (.ireturn, 1) := dk_172 (dk_at dksX4_groupTold_4 13 rfl rfl)
abbrev cX4_isEnough : ByteArray := prog_19_method_83_code
def yX4_isEnough : MethodName := ⟨RX4, "isEnough", "(II)Z"⟩
def dkwX4_isEnough_3 : List UInt8 := [172]
abbrev dktX4_isEnough_3 : List UInt8 := dkwX4_isEnough_3 ++ []
def dkwX4_isEnough_2 : List UInt8 := [180, 1, 7, 105, 42, 180, 1, 4, 42, 180, 0, 44, 27, 47, 105, 148, 157, 0, 7, 4, 167, 0, 4, 3]
abbrev dktX4_isEnough_2 : List UInt8 := dkwX4_isEnough_2 ++ dktX4_isEnough_3
def dkwX4_isEnough_1 : List UInt8 := [27, 47, 105, 148, 157, 0, 7, 4, 167, 0, 38, 3, 167, 0, 34, 42, 180, 0, 41, 27, 47, 42]
abbrev dktX4_isEnough_1 : List UInt8 := dkwX4_isEnough_1 ++ dktX4_isEnough_2
def dkwX4_isEnough_0 : List UInt8 := [28, 4, 160, 0, 37, 42, 180, 0, 35, 27, 47, 42, 180, 1, 7, 105, 42, 180, 1, 4, 42, 180, 0, 38]
abbrev dktX4_isEnough_0 : List UInt8 := dkwX4_isEnough_0 ++ dktX4_isEnough_1
theorem dksX4_isEnough_0 : cX4_isEnough.data.toList.drop 0 = dktX4_isEnough_0 := by decide +kernel
theorem dksX4_isEnough_1 : cX4_isEnough.data.toList.drop 24 = dktX4_isEnough_1 := dk_seg dksX4_isEnough_0 24 rfl rfl
theorem dksX4_isEnough_2 : cX4_isEnough.data.toList.drop 46 = dktX4_isEnough_2 := dk_seg dksX4_isEnough_1 22 rfl rfl
theorem dksX4_isEnough_3 : cX4_isEnough.data.toList.drop 70 = dktX4_isEnough_3 := dk_seg dksX4_isEnough_2 24 rfl rfl
theorem dX4_isEnough_0 : decode cX4_isEnough 0 = .ok (.iload_n 2, 1) := dk_28 (dk_at dksX4_isEnough_0 0 rfl rfl)
theorem dX4_isEnough_1 : decode cX4_isEnough 1 = .ok (.iconst 1, 1) := dk_4 (dk_at dksX4_isEnough_0 1 rfl rfl)
theorem dX4_isEnough_2 : decode cX4_isEnough 2 = .ok (.if_icmp .ne 37, 3) := dk_160 0 37 (dk_at dksX4_isEnough_0 2 rfl rfl)
theorem dX4_isEnough_5 : decode cX4_isEnough 5 = .ok (.aload_n 0, 1) := dk_42 (dk_at dksX4_isEnough_0 5 rfl rfl)
theorem dX4_isEnough_6 : decode cX4_isEnough 6 = .ok (.getfield 35, 3) := dk_180 0 35 (dk_at dksX4_isEnough_0 6 rfl rfl)
theorem dX4_isEnough_9 : decode cX4_isEnough 9 = .ok (.iload_n 1, 1) := dk_27 (dk_at dksX4_isEnough_0 9 rfl rfl)
theorem dX4_isEnough_10 : decode cX4_isEnough 10 = .ok (.laload, 1) := dk_47 (dk_at dksX4_isEnough_0 10 rfl rfl)
theorem dX4_isEnough_11 : decode cX4_isEnough 11 = .ok (.aload_n 0, 1) := dk_42 (dk_at dksX4_isEnough_0 11 rfl rfl)
theorem dX4_isEnough_12 : decode cX4_isEnough 12 = .ok (.getfield 263, 3) := dk_180 1 7 (dk_at dksX4_isEnough_0 12 rfl rfl)
theorem dX4_isEnough_15 : decode cX4_isEnough 15 = .ok (.lmul, 1) := dk_105 (dk_at dksX4_isEnough_0 15 rfl rfl)
theorem dX4_isEnough_16 : decode cX4_isEnough 16 = .ok (.aload_n 0, 1) := dk_42 (dk_at dksX4_isEnough_0 16 rfl rfl)
theorem dX4_isEnough_17 : decode cX4_isEnough 17 = .ok (.getfield 260, 3) := dk_180 1 4 (dk_at dksX4_isEnough_0 17 rfl rfl)
theorem dX4_isEnough_20 : decode cX4_isEnough 20 = .ok (.aload_n 0, 1) := dk_42 (dk_at dksX4_isEnough_0 20 rfl rfl)
theorem dX4_isEnough_21 : decode cX4_isEnough 21 = .ok (.getfield 38, 3) := dk_180 0 38 (dk_at dksX4_isEnough_0 21 rfl rfl)
theorem dX4_isEnough_24 : decode cX4_isEnough 24 = .ok (.iload_n 1, 1) := dk_27 (dk_at dksX4_isEnough_1 0 rfl rfl)
theorem dX4_isEnough_25 : decode cX4_isEnough 25 = .ok (.laload, 1) := dk_47 (dk_at dksX4_isEnough_1 1 rfl rfl)
theorem dX4_isEnough_26 : decode cX4_isEnough 26 = .ok (.lmul, 1) := dk_105 (dk_at dksX4_isEnough_1 2 rfl rfl)
theorem dX4_isEnough_27 : decode cX4_isEnough 27 = .ok (.lcmp, 1) := dk_148 (dk_at dksX4_isEnough_1 3 rfl rfl)
theorem dX4_isEnough_28 : decode cX4_isEnough 28 = .ok (.ifCond .gt 7, 3) := dk_157 0 7 (dk_at dksX4_isEnough_1 4 rfl rfl)
theorem dX4_isEnough_31 : decode cX4_isEnough 31 = .ok (.iconst 1, 1) := dk_4 (dk_at dksX4_isEnough_1 7 rfl rfl)
theorem dX4_isEnough_32 : decode cX4_isEnough 32 = .ok (.goto 38, 3) := dk_167 0 38 (dk_at dksX4_isEnough_1 8 rfl rfl)
theorem dX4_isEnough_35 : decode cX4_isEnough 35 = .ok (.iconst 0, 1) := dk_3 (dk_at dksX4_isEnough_1 11 rfl rfl)
theorem dX4_isEnough_36 : decode cX4_isEnough 36 = .ok (.goto 34, 3) := dk_167 0 34 (dk_at dksX4_isEnough_1 12 rfl rfl)
theorem dX4_isEnough_39 : decode cX4_isEnough 39 = .ok (.aload_n 0, 1) := dk_42 (dk_at dksX4_isEnough_1 15 rfl rfl)
theorem dX4_isEnough_40 : decode cX4_isEnough 40 = .ok (.getfield 41, 3) := dk_180 0 41 (dk_at dksX4_isEnough_1 16 rfl rfl)
theorem dX4_isEnough_43 : decode cX4_isEnough 43 = .ok (.iload_n 1, 1) := dk_27 (dk_at dksX4_isEnough_1 19 rfl rfl)
theorem dX4_isEnough_44 : decode cX4_isEnough 44 = .ok (.laload, 1) := dk_47 (dk_at dksX4_isEnough_1 20 rfl rfl)
theorem dX4_isEnough_45 : decode cX4_isEnough 45 = .ok (.aload_n 0, 1) := dk_42 (dk_at dksX4_isEnough_1 21 rfl rfl)
theorem dX4_isEnough_46 : decode cX4_isEnough 46 = .ok (.getfield 263, 3) := dk_180 1 7 (dk_at dksX4_isEnough_2 0 rfl rfl)
theorem dX4_isEnough_49 : decode cX4_isEnough 49 = .ok (.lmul, 1) := dk_105 (dk_at dksX4_isEnough_2 3 rfl rfl)
theorem dX4_isEnough_50 : decode cX4_isEnough 50 = .ok (.aload_n 0, 1) := dk_42 (dk_at dksX4_isEnough_2 4 rfl rfl)
theorem dX4_isEnough_51 : decode cX4_isEnough 51 = .ok (.getfield 260, 3) := dk_180 1 4 (dk_at dksX4_isEnough_2 5 rfl rfl)
theorem dX4_isEnough_54 : decode cX4_isEnough 54 = .ok (.aload_n 0, 1) := dk_42 (dk_at dksX4_isEnough_2 8 rfl rfl)
theorem dX4_isEnough_55 : decode cX4_isEnough 55 = .ok (.getfield 44, 3) := dk_180 0 44 (dk_at dksX4_isEnough_2 9 rfl rfl)
theorem dX4_isEnough_58 : decode cX4_isEnough 58 = .ok (.iload_n 1, 1) := dk_27 (dk_at dksX4_isEnough_2 12 rfl rfl)
theorem dX4_isEnough_59 : decode cX4_isEnough 59 = .ok (.laload, 1) := dk_47 (dk_at dksX4_isEnough_2 13 rfl rfl)
theorem dX4_isEnough_60 : decode cX4_isEnough 60 = .ok (.lmul, 1) := dk_105 (dk_at dksX4_isEnough_2 14 rfl rfl)
theorem dX4_isEnough_61 : decode cX4_isEnough 61 = .ok (.lcmp, 1) := dk_148 (dk_at dksX4_isEnough_2 15 rfl rfl)
theorem dX4_isEnough_62 : decode cX4_isEnough 62 = .ok (.ifCond .gt 7, 3) := dk_157 0 7 (dk_at dksX4_isEnough_2 16 rfl rfl)
theorem dX4_isEnough_65 : decode cX4_isEnough 65 = .ok (.iconst 1, 1) := dk_4 (dk_at dksX4_isEnough_2 19 rfl rfl)
theorem dX4_isEnough_66 : decode cX4_isEnough 66 = .ok (.goto 4, 3) := dk_167 0 4 (dk_at dksX4_isEnough_2 20 rfl rfl)
theorem dX4_isEnough_69 : decode cX4_isEnough 69 = .ok (.iconst 0, 1) := dk_3 (dk_at dksX4_isEnough_2 23 rfl rfl)
theorem dX4_isEnough_70 : decode cX4_isEnough 70 = .ok (.ireturn, 1) := dk_172 (dk_at dksX4_isEnough_3 0 rfl rfl)
abbrev cX4_covering : ByteArray := prog_19_method_86_code
def yX4_covering : MethodName := ⟨RX4, "covering", "(II)I"⟩
def dkwX4_covering_7 : List UInt8 := [180, 0, 47, 4, 42, 182, 0, 65, 120, 4, 100, 46, 172]
abbrev dktX4_covering_7 : List UInt8 := dkwX4_covering_7 ++ []
def dkwX4_covering_6 : List UInt8 := [29, 21, 4, 2, 130, 126, 46, 4, 96, 79, 132, 4, 1, 167, 255, 173, 132, 3, 1, 167, 255, 146, 42]
abbrev dktX4_covering_6 : List UInt8 := dkwX4_covering_6 ++ dktX4_covering_7
def dkwX4_covering_5 : List UInt8 := [2, 130, 126, 46, 4, 96, 42, 180, 0, 47, 29, 46, 162, 0, 22, 42, 180, 0, 47, 29, 42, 180, 0, 47]
abbrev dktX4_covering_5 : List UInt8 := dkwX4_covering_5 ++ dktX4_covering_6
def dkwX4_covering_4 : List UInt8 := [28, 133, 105, 27, 133, 42, 180, 0, 38, 21, 4, 47, 105, 148, 157, 0, 44, 42, 180, 0, 47, 29, 21, 4]
abbrev dktX4_covering_4 : List UInt8 := dkwX4_covering_4 ++ dktX4_covering_5
def dkwX4_covering_3 : List UInt8 := [54, 4, 21, 4, 29, 163, 0, 83, 21, 4, 29, 2, 130, 126, 154, 0, 68, 42, 180, 0, 35, 21, 4, 47]
abbrev dktX4_covering_3 : List UInt8 := dkwX4_covering_3 ++ dktX4_covering_4
def dkwX4_covering_2 : List UInt8 := [3, 3, 79, 4, 62, 29, 4, 42, 182, 0, 65, 120, 162, 0, 106, 42, 180, 0, 47, 29, 16, 9, 79, 4]
abbrev dktX4_covering_2 : List UInt8 := dkwX4_covering_2 ++ dktX4_covering_3
def dkwX4_covering_1 : List UInt8 := [154, 0, 7, 5, 167, 0, 4, 3, 182, 0, 61, 153, 0, 5, 3, 172, 42, 182, 0, 254, 42, 180, 0, 47]
abbrev dktX4_covering_1 : List UInt8 := dkwX4_covering_1 ++ dktX4_covering_2
def dkwX4_covering_0 : List UInt8 := [42, 27, 155, 0, 14, 28, 4, 17, 3, 232, 184, 0, 69, 154, 0, 7, 4, 167, 0, 15, 42, 182, 0, 233]
abbrev dktX4_covering_0 : List UInt8 := dkwX4_covering_0 ++ dktX4_covering_1
theorem dksX4_covering_0 : cX4_covering.data.toList.drop 0 = dktX4_covering_0 := by decide +kernel
theorem dksX4_covering_1 : cX4_covering.data.toList.drop 24 = dktX4_covering_1 := dk_seg dksX4_covering_0 24 rfl rfl
theorem dksX4_covering_2 : cX4_covering.data.toList.drop 48 = dktX4_covering_2 := dk_seg dksX4_covering_1 24 rfl rfl
theorem dksX4_covering_3 : cX4_covering.data.toList.drop 72 = dktX4_covering_3 := dk_seg dksX4_covering_2 24 rfl rfl
theorem dksX4_covering_4 : cX4_covering.data.toList.drop 96 = dktX4_covering_4 := dk_seg dksX4_covering_3 24 rfl rfl
theorem dksX4_covering_5 : cX4_covering.data.toList.drop 120 = dktX4_covering_5 := dk_seg dksX4_covering_4 24 rfl rfl
theorem dksX4_covering_6 : cX4_covering.data.toList.drop 144 = dktX4_covering_6 := dk_seg dksX4_covering_5 24 rfl rfl
theorem dksX4_covering_7 : cX4_covering.data.toList.drop 167 = dktX4_covering_7 := dk_seg dksX4_covering_6 23 rfl rfl
theorem dX4_covering_0 : decode cX4_covering 0 = .ok (.aload_n 0, 1) := dk_42 (dk_at dksX4_covering_0 0 rfl rfl)
theorem dX4_covering_1 : decode cX4_covering 1 = .ok (.iload_n 1, 1) := dk_27 (dk_at dksX4_covering_0 1 rfl rfl)
theorem dX4_covering_2 : decode cX4_covering 2 = .ok (.ifCond .lt 14, 3) := dk_155 0 14 (dk_at dksX4_covering_0 2 rfl rfl)
theorem dX4_covering_5 : decode cX4_covering 5 = .ok (.iload_n 2, 1) := dk_28 (dk_at dksX4_covering_0 5 rfl rfl)
theorem dX4_covering_6 : decode cX4_covering 6 = .ok (.iconst 1, 1) := dk_4 (dk_at dksX4_covering_0 6 rfl rfl)
theorem dX4_covering_7 : decode cX4_covering 7 = .ok (.sipush 1000, 3) := dk_17 3 232 (dk_at dksX4_covering_0 7 rfl rfl)
theorem dX4_covering_10 : decode cX4_covering 10 = .ok (.invokestatic 69, 3) := dk_184 0 69 (dk_at dksX4_covering_0 10 rfl rfl)
theorem dX4_covering_13 : decode cX4_covering 13 = .ok (.ifCond .ne 7, 3) := dk_154 0 7 (dk_at dksX4_covering_0 13 rfl rfl)
theorem dX4_covering_16 : decode cX4_covering 16 = .ok (.iconst 1, 1) := dk_4 (dk_at dksX4_covering_0 16 rfl rfl)
theorem dX4_covering_17 : decode cX4_covering 17 = .ok (.goto 15, 3) := dk_167 0 15 (dk_at dksX4_covering_0 17 rfl rfl)
theorem dX4_covering_20 : decode cX4_covering 20 = .ok (.aload_n 0, 1) := dk_42 (dk_at dksX4_covering_0 20 rfl rfl)
theorem dX4_covering_21 : decode cX4_covering 21 = .ok (.invokevirtual 233, 3) := dk_182 0 233 (dk_at dksX4_covering_0 21 rfl rfl)
theorem dX4_covering_24 : decode cX4_covering 24 = .ok (.ifCond .ne 7, 3) := dk_154 0 7 (dk_at dksX4_covering_1 0 rfl rfl)
theorem dX4_covering_27 : decode cX4_covering 27 = .ok (.iconst 2, 1) := dk_5 (dk_at dksX4_covering_1 3 rfl rfl)
theorem dX4_covering_28 : decode cX4_covering 28 = .ok (.goto 4, 3) := dk_167 0 4 (dk_at dksX4_covering_1 4 rfl rfl)
theorem dX4_covering_31 : decode cX4_covering 31 = .ok (.iconst 0, 1) := dk_3 (dk_at dksX4_covering_1 7 rfl rfl)
theorem dX4_covering_32 : decode cX4_covering 32 = .ok (.invokevirtual 61, 3) := dk_182 0 61 (dk_at dksX4_covering_1 8 rfl rfl)
theorem dX4_covering_35 : decode cX4_covering 35 = .ok (.ifCond .eq 5, 3) := dk_153 0 5 (dk_at dksX4_covering_1 11 rfl rfl)
theorem dX4_covering_38 : decode cX4_covering 38 = .ok (.iconst 0, 1) := dk_3 (dk_at dksX4_covering_1 14 rfl rfl)
theorem dX4_covering_39 : decode cX4_covering 39 = .ok (.ireturn, 1) := dk_172 (dk_at dksX4_covering_1 15 rfl rfl)
theorem dX4_covering_40 : decode cX4_covering 40 = .ok (.aload_n 0, 1) := dk_42 (dk_at dksX4_covering_1 16 rfl rfl)
theorem dX4_covering_41 : decode cX4_covering 41 = .ok (.invokevirtual 254, 3) := dk_182 0 254 (dk_at dksX4_covering_1 17 rfl rfl)
theorem dX4_covering_44 : decode cX4_covering 44 = .ok (.aload_n 0, 1) := dk_42 (dk_at dksX4_covering_1 20 rfl rfl)
theorem dX4_covering_45 : decode cX4_covering 45 = .ok (.getfield 47, 3) := dk_180 0 47 (dk_at dksX4_covering_1 21 rfl rfl)
theorem dX4_covering_48 : decode cX4_covering 48 = .ok (.iconst 0, 1) := dk_3 (dk_at dksX4_covering_2 0 rfl rfl)
theorem dX4_covering_49 : decode cX4_covering 49 = .ok (.iconst 0, 1) := dk_3 (dk_at dksX4_covering_2 1 rfl rfl)
theorem dX4_covering_50 : decode cX4_covering 50 = .ok (.iastore, 1) := dk_79 (dk_at dksX4_covering_2 2 rfl rfl)
theorem dX4_covering_51 : decode cX4_covering 51 = .ok (.iconst 1, 1) := dk_4 (dk_at dksX4_covering_2 3 rfl rfl)
theorem dX4_covering_52 : decode cX4_covering 52 = .ok (.istore_n 3, 1) := dk_62 (dk_at dksX4_covering_2 4 rfl rfl)
theorem dX4_covering_53 : decode cX4_covering 53 = .ok (.iload_n 3, 1) := dk_29 (dk_at dksX4_covering_2 5 rfl rfl)
theorem dX4_covering_54 : decode cX4_covering 54 = .ok (.iconst 1, 1) := dk_4 (dk_at dksX4_covering_2 6 rfl rfl)
theorem dX4_covering_55 : decode cX4_covering 55 = .ok (.aload_n 0, 1) := dk_42 (dk_at dksX4_covering_2 7 rfl rfl)
theorem dX4_covering_56 : decode cX4_covering 56 = .ok (.invokevirtual 65, 3) := dk_182 0 65 (dk_at dksX4_covering_2 8 rfl rfl)
theorem dX4_covering_59 : decode cX4_covering 59 = .ok (.ishl, 1) := dk_120 (dk_at dksX4_covering_2 11 rfl rfl)
theorem dX4_covering_60 : decode cX4_covering 60 = .ok (.if_icmp .ge 106, 3) := dk_162 0 106 (dk_at dksX4_covering_2 12 rfl rfl)
theorem dX4_covering_63 : decode cX4_covering 63 = .ok (.aload_n 0, 1) := dk_42 (dk_at dksX4_covering_2 15 rfl rfl)
theorem dX4_covering_64 : decode cX4_covering 64 = .ok (.getfield 47, 3) := dk_180 0 47 (dk_at dksX4_covering_2 16 rfl rfl)
theorem dX4_covering_67 : decode cX4_covering 67 = .ok (.iload_n 3, 1) := dk_29 (dk_at dksX4_covering_2 19 rfl rfl)
theorem dX4_covering_68 : decode cX4_covering 68 = .ok (.bipush 9, 2) := dk_16 9 (dk_at dksX4_covering_2 20 rfl rfl)
theorem dX4_covering_70 : decode cX4_covering 70 = .ok (.iastore, 1) := dk_79 (dk_at dksX4_covering_2 22 rfl rfl)
theorem dX4_covering_71 : decode cX4_covering 71 = .ok (.iconst 1, 1) := dk_4 (dk_at dksX4_covering_2 23 rfl rfl)
theorem dX4_covering_72 : decode cX4_covering 72 = .ok (.istore 4, 2) := dk_54 4 (dk_at dksX4_covering_3 0 rfl rfl)
theorem dX4_covering_74 : decode cX4_covering 74 = .ok (.iload 4, 2) := dk_21 4 (dk_at dksX4_covering_3 2 rfl rfl)
theorem dX4_covering_76 : decode cX4_covering 76 = .ok (.iload_n 3, 1) := dk_29 (dk_at dksX4_covering_3 4 rfl rfl)
theorem dX4_covering_77 : decode cX4_covering 77 = .ok (.if_icmp .gt 83, 3) := dk_163 0 83 (dk_at dksX4_covering_3 5 rfl rfl)
theorem dX4_covering_80 : decode cX4_covering 80 = .ok (.iload 4, 2) := dk_21 4 (dk_at dksX4_covering_3 8 rfl rfl)
theorem dX4_covering_82 : decode cX4_covering 82 = .ok (.iload_n 3, 1) := dk_29 (dk_at dksX4_covering_3 10 rfl rfl)
theorem dX4_covering_83 : decode cX4_covering 83 = .ok (.iconst (-1), 1) := dk_2 (dk_at dksX4_covering_3 11 rfl rfl)
theorem dX4_covering_84 : decode cX4_covering 84 = .ok (.ixor, 1) := dk_130 (dk_at dksX4_covering_3 12 rfl rfl)
theorem dX4_covering_85 : decode cX4_covering 85 = .ok (.iand, 1) := dk_126 (dk_at dksX4_covering_3 13 rfl rfl)
theorem dX4_covering_86 : decode cX4_covering 86 = .ok (.ifCond .ne 68, 3) := dk_154 0 68 (dk_at dksX4_covering_3 14 rfl rfl)
theorem dX4_covering_89 : decode cX4_covering 89 = .ok (.aload_n 0, 1) := dk_42 (dk_at dksX4_covering_3 17 rfl rfl)
theorem dX4_covering_90 : decode cX4_covering 90 = .ok (.getfield 35, 3) := dk_180 0 35 (dk_at dksX4_covering_3 18 rfl rfl)
theorem dX4_covering_93 : decode cX4_covering 93 = .ok (.iload 4, 2) := dk_21 4 (dk_at dksX4_covering_3 21 rfl rfl)
theorem dX4_covering_95 : decode cX4_covering 95 = .ok (.laload, 1) := dk_47 (dk_at dksX4_covering_3 23 rfl rfl)
theorem dX4_covering_96 : decode cX4_covering 96 = .ok (.iload_n 2, 1) := dk_28 (dk_at dksX4_covering_4 0 rfl rfl)
theorem dX4_covering_97 : decode cX4_covering 97 = .ok (.i2l, 1) := dk_133 (dk_at dksX4_covering_4 1 rfl rfl)
theorem dX4_covering_98 : decode cX4_covering 98 = .ok (.lmul, 1) := dk_105 (dk_at dksX4_covering_4 2 rfl rfl)
theorem dX4_covering_99 : decode cX4_covering 99 = .ok (.iload_n 1, 1) := dk_27 (dk_at dksX4_covering_4 3 rfl rfl)
theorem dX4_covering_100 : decode cX4_covering 100 = .ok (.i2l, 1) := dk_133 (dk_at dksX4_covering_4 4 rfl rfl)
theorem dX4_covering_101 : decode cX4_covering 101 = .ok (.aload_n 0, 1) := dk_42 (dk_at dksX4_covering_4 5 rfl rfl)
theorem dX4_covering_102 : decode cX4_covering 102 = .ok (.getfield 38, 3) := dk_180 0 38 (dk_at dksX4_covering_4 6 rfl rfl)
theorem dX4_covering_105 : decode cX4_covering 105 = .ok (.iload 4, 2) := dk_21 4 (dk_at dksX4_covering_4 9 rfl rfl)
theorem dX4_covering_107 : decode cX4_covering 107 = .ok (.laload, 1) := dk_47 (dk_at dksX4_covering_4 11 rfl rfl)
theorem dX4_covering_108 : decode cX4_covering 108 = .ok (.lmul, 1) := dk_105 (dk_at dksX4_covering_4 12 rfl rfl)
theorem dX4_covering_109 : decode cX4_covering 109 = .ok (.lcmp, 1) := dk_148 (dk_at dksX4_covering_4 13 rfl rfl)
theorem dX4_covering_110 : decode cX4_covering 110 = .ok (.ifCond .gt 44, 3) := dk_157 0 44 (dk_at dksX4_covering_4 14 rfl rfl)
theorem dX4_covering_113 : decode cX4_covering 113 = .ok (.aload_n 0, 1) := dk_42 (dk_at dksX4_covering_4 17 rfl rfl)
theorem dX4_covering_114 : decode cX4_covering 114 = .ok (.getfield 47, 3) := dk_180 0 47 (dk_at dksX4_covering_4 18 rfl rfl)
theorem dX4_covering_117 : decode cX4_covering 117 = .ok (.iload_n 3, 1) := dk_29 (dk_at dksX4_covering_4 21 rfl rfl)
theorem dX4_covering_118 : decode cX4_covering 118 = .ok (.iload 4, 2) := dk_21 4 (dk_at dksX4_covering_4 22 rfl rfl)
theorem dX4_covering_120 : decode cX4_covering 120 = .ok (.iconst (-1), 1) := dk_2 (dk_at dksX4_covering_5 0 rfl rfl)
theorem dX4_covering_121 : decode cX4_covering 121 = .ok (.ixor, 1) := dk_130 (dk_at dksX4_covering_5 1 rfl rfl)
theorem dX4_covering_122 : decode cX4_covering 122 = .ok (.iand, 1) := dk_126 (dk_at dksX4_covering_5 2 rfl rfl)
theorem dX4_covering_123 : decode cX4_covering 123 = .ok (.iaload, 1) := dk_46 (dk_at dksX4_covering_5 3 rfl rfl)
theorem dX4_covering_124 : decode cX4_covering 124 = .ok (.iconst 1, 1) := dk_4 (dk_at dksX4_covering_5 4 rfl rfl)
theorem dX4_covering_125 : decode cX4_covering 125 = .ok (.iadd, 1) := dk_96 (dk_at dksX4_covering_5 5 rfl rfl)
theorem dX4_covering_126 : decode cX4_covering 126 = .ok (.aload_n 0, 1) := dk_42 (dk_at dksX4_covering_5 6 rfl rfl)
theorem dX4_covering_127 : decode cX4_covering 127 = .ok (.getfield 47, 3) := dk_180 0 47 (dk_at dksX4_covering_5 7 rfl rfl)
theorem dX4_covering_130 : decode cX4_covering 130 = .ok (.iload_n 3, 1) := dk_29 (dk_at dksX4_covering_5 10 rfl rfl)
theorem dX4_covering_131 : decode cX4_covering 131 = .ok (.iaload, 1) := dk_46 (dk_at dksX4_covering_5 11 rfl rfl)
theorem dX4_covering_132 : decode cX4_covering 132 = .ok (.if_icmp .ge 22, 3) := dk_162 0 22 (dk_at dksX4_covering_5 12 rfl rfl)
theorem dX4_covering_135 : decode cX4_covering 135 = .ok (.aload_n 0, 1) := dk_42 (dk_at dksX4_covering_5 15 rfl rfl)
theorem dX4_covering_136 : decode cX4_covering 136 = .ok (.getfield 47, 3) := dk_180 0 47 (dk_at dksX4_covering_5 16 rfl rfl)
theorem dX4_covering_139 : decode cX4_covering 139 = .ok (.iload_n 3, 1) := dk_29 (dk_at dksX4_covering_5 19 rfl rfl)
theorem dX4_covering_140 : decode cX4_covering 140 = .ok (.aload_n 0, 1) := dk_42 (dk_at dksX4_covering_5 20 rfl rfl)
theorem dX4_covering_141 : decode cX4_covering 141 = .ok (.getfield 47, 3) := dk_180 0 47 (dk_at dksX4_covering_5 21 rfl rfl)
theorem dX4_covering_144 : decode cX4_covering 144 = .ok (.iload_n 3, 1) := dk_29 (dk_at dksX4_covering_6 0 rfl rfl)
theorem dX4_covering_145 : decode cX4_covering 145 = .ok (.iload 4, 2) := dk_21 4 (dk_at dksX4_covering_6 1 rfl rfl)
theorem dX4_covering_147 : decode cX4_covering 147 = .ok (.iconst (-1), 1) := dk_2 (dk_at dksX4_covering_6 3 rfl rfl)
theorem dX4_covering_148 : decode cX4_covering 148 = .ok (.ixor, 1) := dk_130 (dk_at dksX4_covering_6 4 rfl rfl)
theorem dX4_covering_149 : decode cX4_covering 149 = .ok (.iand, 1) := dk_126 (dk_at dksX4_covering_6 5 rfl rfl)
theorem dX4_covering_150 : decode cX4_covering 150 = .ok (.iaload, 1) := dk_46 (dk_at dksX4_covering_6 6 rfl rfl)
theorem dX4_covering_151 : decode cX4_covering 151 = .ok (.iconst 1, 1) := dk_4 (dk_at dksX4_covering_6 7 rfl rfl)
theorem dX4_covering_152 : decode cX4_covering 152 = .ok (.iadd, 1) := dk_96 (dk_at dksX4_covering_6 8 rfl rfl)
theorem dX4_covering_153 : decode cX4_covering 153 = .ok (.iastore, 1) := dk_79 (dk_at dksX4_covering_6 9 rfl rfl)
theorem dX4_covering_154 : decode cX4_covering 154 = .ok (.iinc 4 1, 3) := dk_132 4 1 (dk_at dksX4_covering_6 10 rfl rfl)
theorem dX4_covering_157 : decode cX4_covering 157 = .ok (.goto (-83), 3) := dk_167 255 173 (dk_at dksX4_covering_6 13 rfl rfl)
theorem dX4_covering_160 : decode cX4_covering 160 = .ok (.iinc 3 1, 3) := dk_132 3 1 (dk_at dksX4_covering_6 16 rfl rfl)
theorem dX4_covering_163 : decode cX4_covering 163 = .ok (.goto (-110), 3) := dk_167 255 146 (dk_at dksX4_covering_6 19 rfl rfl)
theorem dX4_covering_166 : decode cX4_covering 166 = .ok (.aload_n 0, 1) := dk_42 (dk_at dksX4_covering_6 22 rfl rfl)
theorem dX4_covering_167 : decode cX4_covering 167 = .ok (.getfield 47, 3) := dk_180 0 47 (dk_at dksX4_covering_7 0 rfl rfl)
theorem dX4_covering_170 : decode cX4_covering 170 = .ok (.iconst 1, 1) := dk_4 (dk_at dksX4_covering_7 3 rfl rfl)
theorem dX4_covering_171 : decode cX4_covering 171 = .ok (.aload_n 0, 1) := dk_42 (dk_at dksX4_covering_7 4 rfl rfl)
theorem dX4_covering_172 : decode cX4_covering 172 = .ok (.invokevirtual 65, 3) := dk_182 0 65 (dk_at dksX4_covering_7 5 rfl rfl)
theorem dX4_covering_175 : decode cX4_covering 175 = .ok (.ishl, 1) := dk_120 (dk_at dksX4_covering_7 8 rfl rfl)
theorem dX4_covering_176 : decode cX4_covering 176 = .ok (.iconst 1, 1) := dk_4 (dk_at dksX4_covering_7 9 rfl rfl)
theorem dX4_covering_177 : decode cX4_covering 177 = .ok (.isub, 1) := dk_100 (dk_at dksX4_covering_7 10 rfl rfl)
theorem dX4_covering_178 : decode cX4_covering 178 = .ok (.iaload, 1) := dk_46 (dk_at dksX4_covering_7 11 rfl rfl)
theorem dX4_covering_179 : decode cX4_covering 179 = .ok (.ireturn, 1) := dk_172 (dk_at dksX4_covering_7 12 rfl rfl)
abbrev cX4_covered : ByteArray := prog_19_method_87_code
def yX4_covered : MethodName := ⟨RX4, "covered", "(III)I"⟩
def dkwX4_covered_6 : List UInt8 := [21, 5, 172]
abbrev dktX4_covered_6 : List UInt8 := dkwX4_covered_6 ++ []
def dkwX4_covered_5 : List UInt8 := [29, 133, 148, 157, 0, 10, 4, 21, 6, 120, 167, 0, 4, 3, 128, 54, 5, 132, 6, 1, 167, 255, 206]
abbrev dktX4_covered_5 : List UInt8 := dkwX4_covered_5 ++ dktX4_covered_6
def dkwX4_covered_4 : List UInt8 := [162, 0, 47, 21, 5, 42, 180, 0, 25, 21, 6, 46, 133, 42, 21, 6, 27, 28, 133, 10, 182, 0, 153, 105]
abbrev dktX4_covered_4 : List UInt8 := dkwX4_covered_4 ++ dktX4_covered_5
def dkwX4_covered_3 : List UInt8 := [153, 0, 5, 3, 172, 42, 3, 182, 0, 170, 3, 54, 5, 3, 54, 6, 21, 6, 42, 182, 0, 65]
abbrev dktX4_covered_3 : List UInt8 := dkwX4_covered_3 ++ dktX4_covered_4
def dkwX4_covered_2 : List UInt8 := [21, 4, 154, 0, 7, 5, 167, 0, 15, 42, 182, 0, 122, 154, 0, 7, 6, 167, 0, 4, 3, 182, 0, 61]
abbrev dktX4_covered_2 : List UInt8 := dkwX4_covered_2 ++ dktX4_covered_3
def dkwX4_covered_1 : List UInt8 := [155, 0, 7, 4, 167, 0, 4, 3, 54, 4, 42, 42, 27, 182, 0, 106, 154, 0, 7, 4, 167, 0, 24]
abbrev dktX4_covered_1 : List UInt8 := dkwX4_covered_1 ++ dktX4_covered_2
def dkwX4_covered_0 : List UInt8 := [42, 27, 182, 0, 106, 153, 0, 25, 28, 3, 42, 27, 5, 182, 0, 79, 184, 0, 69, 153, 0, 11, 29]
abbrev dktX4_covered_0 : List UInt8 := dkwX4_covered_0 ++ dktX4_covered_1
theorem dksX4_covered_0 : cX4_covered.data.toList.drop 0 = dktX4_covered_0 := by decide +kernel
theorem dksX4_covered_1 : cX4_covered.data.toList.drop 23 = dktX4_covered_1 := dk_seg dksX4_covered_0 23 rfl rfl
theorem dksX4_covered_2 : cX4_covered.data.toList.drop 46 = dktX4_covered_2 := dk_seg dksX4_covered_1 23 rfl rfl
theorem dksX4_covered_3 : cX4_covered.data.toList.drop 70 = dktX4_covered_3 := dk_seg dksX4_covered_2 24 rfl rfl
theorem dksX4_covered_4 : cX4_covered.data.toList.drop 92 = dktX4_covered_4 := dk_seg dksX4_covered_3 22 rfl rfl
theorem dksX4_covered_5 : cX4_covered.data.toList.drop 116 = dktX4_covered_5 := dk_seg dksX4_covered_4 24 rfl rfl
theorem dksX4_covered_6 : cX4_covered.data.toList.drop 139 = dktX4_covered_6 := dk_seg dksX4_covered_5 23 rfl rfl
theorem dX4_covered_0 : decode cX4_covered 0 = .ok (.aload_n 0, 1) := dk_42 (dk_at dksX4_covered_0 0 rfl rfl)
theorem dX4_covered_1 : decode cX4_covered 1 = .ok (.iload_n 1, 1) := dk_27 (dk_at dksX4_covered_0 1 rfl rfl)
theorem dX4_covered_2 : decode cX4_covered 2 = .ok (.invokevirtual 106, 3) := dk_182 0 106 (dk_at dksX4_covered_0 2 rfl rfl)
theorem dX4_covered_5 : decode cX4_covered 5 = .ok (.ifCond .eq 25, 3) := dk_153 0 25 (dk_at dksX4_covered_0 5 rfl rfl)
theorem dX4_covered_8 : decode cX4_covered 8 = .ok (.iload_n 2, 1) := dk_28 (dk_at dksX4_covered_0 8 rfl rfl)
theorem dX4_covered_9 : decode cX4_covered 9 = .ok (.iconst 0, 1) := dk_3 (dk_at dksX4_covered_0 9 rfl rfl)
theorem dX4_covered_10 : decode cX4_covered 10 = .ok (.aload_n 0, 1) := dk_42 (dk_at dksX4_covered_0 10 rfl rfl)
theorem dX4_covered_11 : decode cX4_covered 11 = .ok (.iload_n 1, 1) := dk_27 (dk_at dksX4_covered_0 11 rfl rfl)
theorem dX4_covered_12 : decode cX4_covered 12 = .ok (.iconst 2, 1) := dk_5 (dk_at dksX4_covered_0 12 rfl rfl)
theorem dX4_covered_13 : decode cX4_covered 13 = .ok (.invokevirtual 79, 3) := dk_182 0 79 (dk_at dksX4_covered_0 13 rfl rfl)
theorem dX4_covered_16 : decode cX4_covered 16 = .ok (.invokestatic 69, 3) := dk_184 0 69 (dk_at dksX4_covered_0 16 rfl rfl)
theorem dX4_covered_19 : decode cX4_covered 19 = .ok (.ifCond .eq 11, 3) := dk_153 0 11 (dk_at dksX4_covered_0 19 rfl rfl)
theorem dX4_covered_22 : decode cX4_covered 22 = .ok (.iload_n 3, 1) := dk_29 (dk_at dksX4_covered_0 22 rfl rfl)
theorem dX4_covered_23 : decode cX4_covered 23 = .ok (.ifCond .lt 7, 3) := dk_155 0 7 (dk_at dksX4_covered_1 0 rfl rfl)
theorem dX4_covered_26 : decode cX4_covered 26 = .ok (.iconst 1, 1) := dk_4 (dk_at dksX4_covered_1 3 rfl rfl)
theorem dX4_covered_27 : decode cX4_covered 27 = .ok (.goto 4, 3) := dk_167 0 4 (dk_at dksX4_covered_1 4 rfl rfl)
theorem dX4_covered_30 : decode cX4_covered 30 = .ok (.iconst 0, 1) := dk_3 (dk_at dksX4_covered_1 7 rfl rfl)
theorem dX4_covered_31 : decode cX4_covered 31 = .ok (.istore 4, 2) := dk_54 4 (dk_at dksX4_covered_1 8 rfl rfl)
theorem dX4_covered_33 : decode cX4_covered 33 = .ok (.aload_n 0, 1) := dk_42 (dk_at dksX4_covered_1 10 rfl rfl)
theorem dX4_covered_34 : decode cX4_covered 34 = .ok (.aload_n 0, 1) := dk_42 (dk_at dksX4_covered_1 11 rfl rfl)
theorem dX4_covered_35 : decode cX4_covered 35 = .ok (.iload_n 1, 1) := dk_27 (dk_at dksX4_covered_1 12 rfl rfl)
theorem dX4_covered_36 : decode cX4_covered 36 = .ok (.invokevirtual 106, 3) := dk_182 0 106 (dk_at dksX4_covered_1 13 rfl rfl)
theorem dX4_covered_39 : decode cX4_covered 39 = .ok (.ifCond .ne 7, 3) := dk_154 0 7 (dk_at dksX4_covered_1 16 rfl rfl)
theorem dX4_covered_42 : decode cX4_covered 42 = .ok (.iconst 1, 1) := dk_4 (dk_at dksX4_covered_1 19 rfl rfl)
theorem dX4_covered_43 : decode cX4_covered 43 = .ok (.goto 24, 3) := dk_167 0 24 (dk_at dksX4_covered_1 20 rfl rfl)
theorem dX4_covered_46 : decode cX4_covered 46 = .ok (.iload 4, 2) := dk_21 4 (dk_at dksX4_covered_2 0 rfl rfl)
theorem dX4_covered_48 : decode cX4_covered 48 = .ok (.ifCond .ne 7, 3) := dk_154 0 7 (dk_at dksX4_covered_2 2 rfl rfl)
theorem dX4_covered_51 : decode cX4_covered 51 = .ok (.iconst 2, 1) := dk_5 (dk_at dksX4_covered_2 5 rfl rfl)
theorem dX4_covered_52 : decode cX4_covered 52 = .ok (.goto 15, 3) := dk_167 0 15 (dk_at dksX4_covered_2 6 rfl rfl)
theorem dX4_covered_55 : decode cX4_covered 55 = .ok (.aload_n 0, 1) := dk_42 (dk_at dksX4_covered_2 9 rfl rfl)
theorem dX4_covered_56 : decode cX4_covered 56 = .ok (.invokevirtual 122, 3) := dk_182 0 122 (dk_at dksX4_covered_2 10 rfl rfl)
theorem dX4_covered_59 : decode cX4_covered 59 = .ok (.ifCond .ne 7, 3) := dk_154 0 7 (dk_at dksX4_covered_2 13 rfl rfl)
theorem dX4_covered_62 : decode cX4_covered 62 = .ok (.iconst 3, 1) := dk_6 (dk_at dksX4_covered_2 16 rfl rfl)
theorem dX4_covered_63 : decode cX4_covered 63 = .ok (.goto 4, 3) := dk_167 0 4 (dk_at dksX4_covered_2 17 rfl rfl)
theorem dX4_covered_66 : decode cX4_covered 66 = .ok (.iconst 0, 1) := dk_3 (dk_at dksX4_covered_2 20 rfl rfl)
theorem dX4_covered_67 : decode cX4_covered 67 = .ok (.invokevirtual 61, 3) := dk_182 0 61 (dk_at dksX4_covered_2 21 rfl rfl)
theorem dX4_covered_70 : decode cX4_covered 70 = .ok (.ifCond .eq 5, 3) := dk_153 0 5 (dk_at dksX4_covered_3 0 rfl rfl)
theorem dX4_covered_73 : decode cX4_covered 73 = .ok (.iconst 0, 1) := dk_3 (dk_at dksX4_covered_3 3 rfl rfl)
theorem dX4_covered_74 : decode cX4_covered 74 = .ok (.ireturn, 1) := dk_172 (dk_at dksX4_covered_3 4 rfl rfl)
theorem dX4_covered_75 : decode cX4_covered 75 = .ok (.aload_n 0, 1) := dk_42 (dk_at dksX4_covered_3 5 rfl rfl)
theorem dX4_covered_76 : decode cX4_covered 76 = .ok (.iconst 0, 1) := dk_3 (dk_at dksX4_covered_3 6 rfl rfl)
theorem dX4_covered_77 : decode cX4_covered 77 = .ok (.invokevirtual 170, 3) := dk_182 0 170 (dk_at dksX4_covered_3 7 rfl rfl)
theorem dX4_covered_80 : decode cX4_covered 80 = .ok (.iconst 0, 1) := dk_3 (dk_at dksX4_covered_3 10 rfl rfl)
theorem dX4_covered_81 : decode cX4_covered 81 = .ok (.istore 5, 2) := dk_54 5 (dk_at dksX4_covered_3 11 rfl rfl)
theorem dX4_covered_83 : decode cX4_covered 83 = .ok (.iconst 0, 1) := dk_3 (dk_at dksX4_covered_3 13 rfl rfl)
theorem dX4_covered_84 : decode cX4_covered 84 = .ok (.istore 6, 2) := dk_54 6 (dk_at dksX4_covered_3 14 rfl rfl)
theorem dX4_covered_86 : decode cX4_covered 86 = .ok (.iload 6, 2) := dk_21 6 (dk_at dksX4_covered_3 16 rfl rfl)
theorem dX4_covered_88 : decode cX4_covered 88 = .ok (.aload_n 0, 1) := dk_42 (dk_at dksX4_covered_3 18 rfl rfl)
theorem dX4_covered_89 : decode cX4_covered 89 = .ok (.invokevirtual 65, 3) := dk_182 0 65 (dk_at dksX4_covered_3 19 rfl rfl)
theorem dX4_covered_92 : decode cX4_covered 92 = .ok (.if_icmp .ge 47, 3) := dk_162 0 47 (dk_at dksX4_covered_4 0 rfl rfl)
theorem dX4_covered_95 : decode cX4_covered 95 = .ok (.iload 5, 2) := dk_21 5 (dk_at dksX4_covered_4 3 rfl rfl)
theorem dX4_covered_97 : decode cX4_covered 97 = .ok (.aload_n 0, 1) := dk_42 (dk_at dksX4_covered_4 5 rfl rfl)
theorem dX4_covered_98 : decode cX4_covered 98 = .ok (.getfield 25, 3) := dk_180 0 25 (dk_at dksX4_covered_4 6 rfl rfl)
theorem dX4_covered_101 : decode cX4_covered 101 = .ok (.iload 6, 2) := dk_21 6 (dk_at dksX4_covered_4 9 rfl rfl)
theorem dX4_covered_103 : decode cX4_covered 103 = .ok (.iaload, 1) := dk_46 (dk_at dksX4_covered_4 11 rfl rfl)
theorem dX4_covered_104 : decode cX4_covered 104 = .ok (.i2l, 1) := dk_133 (dk_at dksX4_covered_4 12 rfl rfl)
theorem dX4_covered_105 : decode cX4_covered 105 = .ok (.aload_n 0, 1) := dk_42 (dk_at dksX4_covered_4 13 rfl rfl)
theorem dX4_covered_106 : decode cX4_covered 106 = .ok (.iload 6, 2) := dk_21 6 (dk_at dksX4_covered_4 14 rfl rfl)
theorem dX4_covered_108 : decode cX4_covered 108 = .ok (.iload_n 1, 1) := dk_27 (dk_at dksX4_covered_4 16 rfl rfl)
theorem dX4_covered_109 : decode cX4_covered 109 = .ok (.iload_n 2, 1) := dk_28 (dk_at dksX4_covered_4 17 rfl rfl)
theorem dX4_covered_110 : decode cX4_covered 110 = .ok (.i2l, 1) := dk_133 (dk_at dksX4_covered_4 18 rfl rfl)
theorem dX4_covered_111 : decode cX4_covered 111 = .ok (.lconst 1, 1) := dk_10 (dk_at dksX4_covered_4 19 rfl rfl)
theorem dX4_covered_112 : decode cX4_covered 112 = .ok (.invokevirtual 153, 3) := dk_182 0 153 (dk_at dksX4_covered_4 20 rfl rfl)
theorem dX4_covered_115 : decode cX4_covered 115 = .ok (.lmul, 1) := dk_105 (dk_at dksX4_covered_4 23 rfl rfl)
theorem dX4_covered_116 : decode cX4_covered 116 = .ok (.iload_n 3, 1) := dk_29 (dk_at dksX4_covered_5 0 rfl rfl)
theorem dX4_covered_117 : decode cX4_covered 117 = .ok (.i2l, 1) := dk_133 (dk_at dksX4_covered_5 1 rfl rfl)
theorem dX4_covered_118 : decode cX4_covered 118 = .ok (.lcmp, 1) := dk_148 (dk_at dksX4_covered_5 2 rfl rfl)
theorem dX4_covered_119 : decode cX4_covered 119 = .ok (.ifCond .gt 10, 3) := dk_157 0 10 (dk_at dksX4_covered_5 3 rfl rfl)
theorem dX4_covered_122 : decode cX4_covered 122 = .ok (.iconst 1, 1) := dk_4 (dk_at dksX4_covered_5 6 rfl rfl)
theorem dX4_covered_123 : decode cX4_covered 123 = .ok (.iload 6, 2) := dk_21 6 (dk_at dksX4_covered_5 7 rfl rfl)
theorem dX4_covered_125 : decode cX4_covered 125 = .ok (.ishl, 1) := dk_120 (dk_at dksX4_covered_5 9 rfl rfl)
theorem dX4_covered_126 : decode cX4_covered 126 = .ok (.goto 4, 3) := dk_167 0 4 (dk_at dksX4_covered_5 10 rfl rfl)
theorem dX4_covered_129 : decode cX4_covered 129 = .ok (.iconst 0, 1) := dk_3 (dk_at dksX4_covered_5 13 rfl rfl)
theorem dX4_covered_130 : decode cX4_covered 130 = .ok (.ior, 1) := dk_128 (dk_at dksX4_covered_5 14 rfl rfl)
theorem dX4_covered_131 : decode cX4_covered 131 = .ok (.istore 5, 2) := dk_54 5 (dk_at dksX4_covered_5 15 rfl rfl)
theorem dX4_covered_133 : decode cX4_covered 133 = .ok (.iinc 6 1, 3) := dk_132 6 1 (dk_at dksX4_covered_5 17 rfl rfl)
theorem dX4_covered_136 : decode cX4_covered 136 = .ok (.goto (-50), 3) := dk_167 255 206 (dk_at dksX4_covered_5 20 rfl rfl)
theorem dX4_covered_139 : decode cX4_covered 139 = .ok (.iload 5, 2) := dk_21 5 (dk_at dksX4_covered_6 0 rfl rfl)
theorem dX4_covered_141 : decode cX4_covered 141 = .ok (.ireturn, 1) := dk_172 (dk_at dksX4_covered_6 2 rfl rfl)
abbrev cX4_changedRadius : ByteArray := prog_19_method_88_code
def yX4_changedRadius : MethodName := ⟨RX4, "changedRadius", "(II)I"⟩
def dkwX4_changedRadius_3 : List UInt8 := [184, 0, 156, 172]
abbrev dktX4_changedRadius_3 : List UInt8 := dkwX4_changedRadius_3 ++ []
def dkwX4_changedRadius_2 : List UInt8 := [182, 0, 170, 42, 4, 42, 182, 0, 65, 120, 4, 100, 182, 0, 236, 42, 180, 0, 202, 42, 180, 0, 198, 28]
abbrev dktX4_changedRadius_2 : List UInt8 := dkwX4_changedRadius_2 ++ dktX4_changedRadius_3
def dkwX4_changedRadius_1 : List UInt8 := [42, 182, 0, 233, 154, 0, 7, 5, 167, 0, 4, 3, 182, 0, 61, 153, 0, 5, 3, 172, 42, 27]
abbrev dktX4_changedRadius_1 : List UInt8 := dkwX4_changedRadius_1 ++ dktX4_changedRadius_2
def dkwX4_changedRadius_0 : List UInt8 := [42, 27, 3, 16, 10, 184, 0, 69, 153, 0, 12, 28, 3, 4, 184, 0, 69, 154, 0, 7, 4, 167, 0, 15]
abbrev dktX4_changedRadius_0 : List UInt8 := dkwX4_changedRadius_0 ++ dktX4_changedRadius_1
theorem dksX4_changedRadius_0 : cX4_changedRadius.data.toList.drop 0 = dktX4_changedRadius_0 := by decide +kernel
theorem dksX4_changedRadius_1 : cX4_changedRadius.data.toList.drop 24 = dktX4_changedRadius_1 := dk_seg dksX4_changedRadius_0 24 rfl rfl
theorem dksX4_changedRadius_2 : cX4_changedRadius.data.toList.drop 46 = dktX4_changedRadius_2 := dk_seg dksX4_changedRadius_1 22 rfl rfl
theorem dksX4_changedRadius_3 : cX4_changedRadius.data.toList.drop 70 = dktX4_changedRadius_3 := dk_seg dksX4_changedRadius_2 24 rfl rfl
theorem dX4_changedRadius_0 : decode cX4_changedRadius 0 = .ok (.aload_n 0, 1) := dk_42 (dk_at dksX4_changedRadius_0 0 rfl rfl)
theorem dX4_changedRadius_1 : decode cX4_changedRadius 1 = .ok (.iload_n 1, 1) := dk_27 (dk_at dksX4_changedRadius_0 1 rfl rfl)
theorem dX4_changedRadius_2 : decode cX4_changedRadius 2 = .ok (.iconst 0, 1) := dk_3 (dk_at dksX4_changedRadius_0 2 rfl rfl)
theorem dX4_changedRadius_3 : decode cX4_changedRadius 3 = .ok (.bipush 10, 2) := dk_16 10 (dk_at dksX4_changedRadius_0 3 rfl rfl)
theorem dX4_changedRadius_5 : decode cX4_changedRadius 5 = .ok (.invokestatic 69, 3) := dk_184 0 69 (dk_at dksX4_changedRadius_0 5 rfl rfl)
theorem dX4_changedRadius_8 : decode cX4_changedRadius 8 = .ok (.ifCond .eq 12, 3) := dk_153 0 12 (dk_at dksX4_changedRadius_0 8 rfl rfl)
theorem dX4_changedRadius_11 : decode cX4_changedRadius 11 = .ok (.iload_n 2, 1) := dk_28 (dk_at dksX4_changedRadius_0 11 rfl rfl)
theorem dX4_changedRadius_12 : decode cX4_changedRadius 12 = .ok (.iconst 0, 1) := dk_3 (dk_at dksX4_changedRadius_0 12 rfl rfl)
theorem dX4_changedRadius_13 : decode cX4_changedRadius 13 = .ok (.iconst 1, 1) := dk_4 (dk_at dksX4_changedRadius_0 13 rfl rfl)
theorem dX4_changedRadius_14 : decode cX4_changedRadius 14 = .ok (.invokestatic 69, 3) := dk_184 0 69 (dk_at dksX4_changedRadius_0 14 rfl rfl)
theorem dX4_changedRadius_17 : decode cX4_changedRadius 17 = .ok (.ifCond .ne 7, 3) := dk_154 0 7 (dk_at dksX4_changedRadius_0 17 rfl rfl)
theorem dX4_changedRadius_20 : decode cX4_changedRadius 20 = .ok (.iconst 1, 1) := dk_4 (dk_at dksX4_changedRadius_0 20 rfl rfl)
theorem dX4_changedRadius_21 : decode cX4_changedRadius 21 = .ok (.goto 15, 3) := dk_167 0 15 (dk_at dksX4_changedRadius_0 21 rfl rfl)
theorem dX4_changedRadius_24 : decode cX4_changedRadius 24 = .ok (.aload_n 0, 1) := dk_42 (dk_at dksX4_changedRadius_1 0 rfl rfl)
theorem dX4_changedRadius_25 : decode cX4_changedRadius 25 = .ok (.invokevirtual 233, 3) := dk_182 0 233 (dk_at dksX4_changedRadius_1 1 rfl rfl)
theorem dX4_changedRadius_28 : decode cX4_changedRadius 28 = .ok (.ifCond .ne 7, 3) := dk_154 0 7 (dk_at dksX4_changedRadius_1 4 rfl rfl)
theorem dX4_changedRadius_31 : decode cX4_changedRadius 31 = .ok (.iconst 2, 1) := dk_5 (dk_at dksX4_changedRadius_1 7 rfl rfl)
theorem dX4_changedRadius_32 : decode cX4_changedRadius 32 = .ok (.goto 4, 3) := dk_167 0 4 (dk_at dksX4_changedRadius_1 8 rfl rfl)
theorem dX4_changedRadius_35 : decode cX4_changedRadius 35 = .ok (.iconst 0, 1) := dk_3 (dk_at dksX4_changedRadius_1 11 rfl rfl)
theorem dX4_changedRadius_36 : decode cX4_changedRadius 36 = .ok (.invokevirtual 61, 3) := dk_182 0 61 (dk_at dksX4_changedRadius_1 12 rfl rfl)
theorem dX4_changedRadius_39 : decode cX4_changedRadius 39 = .ok (.ifCond .eq 5, 3) := dk_153 0 5 (dk_at dksX4_changedRadius_1 15 rfl rfl)
theorem dX4_changedRadius_42 : decode cX4_changedRadius 42 = .ok (.iconst 0, 1) := dk_3 (dk_at dksX4_changedRadius_1 18 rfl rfl)
theorem dX4_changedRadius_43 : decode cX4_changedRadius 43 = .ok (.ireturn, 1) := dk_172 (dk_at dksX4_changedRadius_1 19 rfl rfl)
theorem dX4_changedRadius_44 : decode cX4_changedRadius 44 = .ok (.aload_n 0, 1) := dk_42 (dk_at dksX4_changedRadius_1 20 rfl rfl)
theorem dX4_changedRadius_45 : decode cX4_changedRadius 45 = .ok (.iload_n 1, 1) := dk_27 (dk_at dksX4_changedRadius_1 21 rfl rfl)
theorem dX4_changedRadius_46 : decode cX4_changedRadius 46 = .ok (.invokevirtual 170, 3) := dk_182 0 170 (dk_at dksX4_changedRadius_2 0 rfl rfl)
theorem dX4_changedRadius_49 : decode cX4_changedRadius 49 = .ok (.aload_n 0, 1) := dk_42 (dk_at dksX4_changedRadius_2 3 rfl rfl)
theorem dX4_changedRadius_50 : decode cX4_changedRadius 50 = .ok (.iconst 1, 1) := dk_4 (dk_at dksX4_changedRadius_2 4 rfl rfl)
theorem dX4_changedRadius_51 : decode cX4_changedRadius 51 = .ok (.aload_n 0, 1) := dk_42 (dk_at dksX4_changedRadius_2 5 rfl rfl)
theorem dX4_changedRadius_52 : decode cX4_changedRadius 52 = .ok (.invokevirtual 65, 3) := dk_182 0 65 (dk_at dksX4_changedRadius_2 6 rfl rfl)
theorem dX4_changedRadius_55 : decode cX4_changedRadius 55 = .ok (.ishl, 1) := dk_120 (dk_at dksX4_changedRadius_2 9 rfl rfl)
theorem dX4_changedRadius_56 : decode cX4_changedRadius 56 = .ok (.iconst 1, 1) := dk_4 (dk_at dksX4_changedRadius_2 10 rfl rfl)
theorem dX4_changedRadius_57 : decode cX4_changedRadius 57 = .ok (.isub, 1) := dk_100 (dk_at dksX4_changedRadius_2 11 rfl rfl)
theorem dX4_changedRadius_58 : decode cX4_changedRadius 58 = .ok (.invokevirtual 236, 3) := dk_182 0 236 (dk_at dksX4_changedRadius_2 12 rfl rfl)
theorem dX4_changedRadius_61 : decode cX4_changedRadius 61 = .ok (.aload_n 0, 1) := dk_42 (dk_at dksX4_changedRadius_2 15 rfl rfl)
theorem dX4_changedRadius_62 : decode cX4_changedRadius 62 = .ok (.getfield 202, 3) := dk_180 0 202 (dk_at dksX4_changedRadius_2 16 rfl rfl)
theorem dX4_changedRadius_65 : decode cX4_changedRadius 65 = .ok (.aload_n 0, 1) := dk_42 (dk_at dksX4_changedRadius_2 19 rfl rfl)
theorem dX4_changedRadius_66 : decode cX4_changedRadius 66 = .ok (.getfield 198, 3) := dk_180 0 198 (dk_at dksX4_changedRadius_2 20 rfl rfl)
theorem dX4_changedRadius_69 : decode cX4_changedRadius 69 = .ok (.iload_n 2, 1) := dk_28 (dk_at dksX4_changedRadius_2 23 rfl rfl)
theorem dX4_changedRadius_70 : decode cX4_changedRadius 70 = .ok (.invokestatic 156, 3) := dk_184 0 156 (dk_at dksX4_changedRadius_3 0 rfl rfl)
theorem dX4_changedRadius_73 : decode cX4_changedRadius 73 = .ok (.ireturn, 1) := dk_172 (dk_at dksX4_changedRadius_3 3 rfl rfl)
abbrev cX4_radiusWithout : ByteArray := prog_19_method_89_code
def yX4_radiusWithout : MethodName := ⟨RX4, "radiusWithout", "(II)I"⟩
def dkwX4_radiusWithout_5 : List UInt8 := [180, 0, 7, 21, 4, 42, 180, 0, 16, 21, 4, 46, 79, 132, 4, 1, 167, 255, 232, 29, 172]
abbrev dktX4_radiusWithout_5 : List UInt8 := dkwX4_radiusWithout_5 ++ []
def dkwX4_radiusWithout_4 : List UInt8 := [180, 0, 202, 42, 180, 0, 198, 28, 184, 0, 156, 62, 3, 54, 4, 21, 4, 16, 73, 162, 0, 23, 42]
abbrev dktX4_radiusWithout_4 : List UInt8 := dkwX4_radiusWithout_4 ++ dktX4_radiusWithout_5
def dkwX4_radiusWithout_3 : List UInt8 := [182, 0, 233, 153, 0, 33, 42, 3, 182, 0, 170, 42, 4, 42, 182, 0, 65, 120, 4, 100, 182, 0, 236, 42]
abbrev dktX4_radiusWithout_3 : List UInt8 := dkwX4_radiusWithout_3 ++ dktX4_radiusWithout_4
def dkwX4_radiusWithout_2 : List UInt8 := [29, 42, 180, 0, 7, 29, 46, 79, 132, 3, 1, 167, 255, 235, 42, 27, 182, 0, 109, 87, 2, 62, 42]
abbrev dktX4_radiusWithout_2 : List UInt8 := dkwX4_radiusWithout_2 ++ dktX4_radiusWithout_3
def dkwX4_radiusWithout_1 : List UInt8 := [167, 0, 4, 3, 182, 0, 61, 153, 0, 5, 3, 172, 3, 62, 29, 16, 73, 162, 0, 21, 42, 180, 0, 16]
abbrev dktX4_radiusWithout_1 : List UInt8 := dkwX4_radiusWithout_1 ++ dktX4_radiusWithout_2
def dkwX4_radiusWithout_0 : List UInt8 := [42, 42, 27, 182, 0, 106, 154, 0, 7, 4, 167, 0, 17, 28, 3, 4, 184, 0, 69, 154, 0, 7, 5]
abbrev dktX4_radiusWithout_0 : List UInt8 := dkwX4_radiusWithout_0 ++ dktX4_radiusWithout_1
theorem dksX4_radiusWithout_0 : cX4_radiusWithout.data.toList.drop 0 = dktX4_radiusWithout_0 := by decide +kernel
theorem dksX4_radiusWithout_1 : cX4_radiusWithout.data.toList.drop 23 = dktX4_radiusWithout_1 := dk_seg dksX4_radiusWithout_0 23 rfl rfl
theorem dksX4_radiusWithout_2 : cX4_radiusWithout.data.toList.drop 47 = dktX4_radiusWithout_2 := dk_seg dksX4_radiusWithout_1 24 rfl rfl
theorem dksX4_radiusWithout_3 : cX4_radiusWithout.data.toList.drop 70 = dktX4_radiusWithout_3 := dk_seg dksX4_radiusWithout_2 23 rfl rfl
theorem dksX4_radiusWithout_4 : cX4_radiusWithout.data.toList.drop 94 = dktX4_radiusWithout_4 := dk_seg dksX4_radiusWithout_3 24 rfl rfl
theorem dksX4_radiusWithout_5 : cX4_radiusWithout.data.toList.drop 117 = dktX4_radiusWithout_5 := dk_seg dksX4_radiusWithout_4 23 rfl rfl
theorem dX4_radiusWithout_0 : decode cX4_radiusWithout 0 = .ok (.aload_n 0, 1) := dk_42 (dk_at dksX4_radiusWithout_0 0 rfl rfl)
theorem dX4_radiusWithout_1 : decode cX4_radiusWithout 1 = .ok (.aload_n 0, 1) := dk_42 (dk_at dksX4_radiusWithout_0 1 rfl rfl)
theorem dX4_radiusWithout_2 : decode cX4_radiusWithout 2 = .ok (.iload_n 1, 1) := dk_27 (dk_at dksX4_radiusWithout_0 2 rfl rfl)
theorem dX4_radiusWithout_3 : decode cX4_radiusWithout 3 = .ok (.invokevirtual 106, 3) := dk_182 0 106 (dk_at dksX4_radiusWithout_0 3 rfl rfl)
theorem dX4_radiusWithout_6 : decode cX4_radiusWithout 6 = .ok (.ifCond .ne 7, 3) := dk_154 0 7 (dk_at dksX4_radiusWithout_0 6 rfl rfl)
theorem dX4_radiusWithout_9 : decode cX4_radiusWithout 9 = .ok (.iconst 1, 1) := dk_4 (dk_at dksX4_radiusWithout_0 9 rfl rfl)
theorem dX4_radiusWithout_10 : decode cX4_radiusWithout 10 = .ok (.goto 17, 3) := dk_167 0 17 (dk_at dksX4_radiusWithout_0 10 rfl rfl)
theorem dX4_radiusWithout_13 : decode cX4_radiusWithout 13 = .ok (.iload_n 2, 1) := dk_28 (dk_at dksX4_radiusWithout_0 13 rfl rfl)
theorem dX4_radiusWithout_14 : decode cX4_radiusWithout 14 = .ok (.iconst 0, 1) := dk_3 (dk_at dksX4_radiusWithout_0 14 rfl rfl)
theorem dX4_radiusWithout_15 : decode cX4_radiusWithout 15 = .ok (.iconst 1, 1) := dk_4 (dk_at dksX4_radiusWithout_0 15 rfl rfl)
theorem dX4_radiusWithout_16 : decode cX4_radiusWithout 16 = .ok (.invokestatic 69, 3) := dk_184 0 69 (dk_at dksX4_radiusWithout_0 16 rfl rfl)
theorem dX4_radiusWithout_19 : decode cX4_radiusWithout 19 = .ok (.ifCond .ne 7, 3) := dk_154 0 7 (dk_at dksX4_radiusWithout_0 19 rfl rfl)
theorem dX4_radiusWithout_22 : decode cX4_radiusWithout 22 = .ok (.iconst 2, 1) := dk_5 (dk_at dksX4_radiusWithout_0 22 rfl rfl)
theorem dX4_radiusWithout_23 : decode cX4_radiusWithout 23 = .ok (.goto 4, 3) := dk_167 0 4 (dk_at dksX4_radiusWithout_1 0 rfl rfl)
theorem dX4_radiusWithout_26 : decode cX4_radiusWithout 26 = .ok (.iconst 0, 1) := dk_3 (dk_at dksX4_radiusWithout_1 3 rfl rfl)
theorem dX4_radiusWithout_27 : decode cX4_radiusWithout 27 = .ok (.invokevirtual 61, 3) := dk_182 0 61 (dk_at dksX4_radiusWithout_1 4 rfl rfl)
theorem dX4_radiusWithout_30 : decode cX4_radiusWithout 30 = .ok (.ifCond .eq 5, 3) := dk_153 0 5 (dk_at dksX4_radiusWithout_1 7 rfl rfl)
theorem dX4_radiusWithout_33 : decode cX4_radiusWithout 33 = .ok (.iconst 0, 1) := dk_3 (dk_at dksX4_radiusWithout_1 10 rfl rfl)
theorem dX4_radiusWithout_34 : decode cX4_radiusWithout 34 = .ok (.ireturn, 1) := dk_172 (dk_at dksX4_radiusWithout_1 11 rfl rfl)
theorem dX4_radiusWithout_35 : decode cX4_radiusWithout 35 = .ok (.iconst 0, 1) := dk_3 (dk_at dksX4_radiusWithout_1 12 rfl rfl)
theorem dX4_radiusWithout_36 : decode cX4_radiusWithout 36 = .ok (.istore_n 3, 1) := dk_62 (dk_at dksX4_radiusWithout_1 13 rfl rfl)
theorem dX4_radiusWithout_37 : decode cX4_radiusWithout 37 = .ok (.iload_n 3, 1) := dk_29 (dk_at dksX4_radiusWithout_1 14 rfl rfl)
theorem dX4_radiusWithout_38 : decode cX4_radiusWithout 38 = .ok (.bipush 73, 2) := dk_16 73 (dk_at dksX4_radiusWithout_1 15 rfl rfl)
theorem dX4_radiusWithout_40 : decode cX4_radiusWithout 40 = .ok (.if_icmp .ge 21, 3) := dk_162 0 21 (dk_at dksX4_radiusWithout_1 17 rfl rfl)
theorem dX4_radiusWithout_43 : decode cX4_radiusWithout 43 = .ok (.aload_n 0, 1) := dk_42 (dk_at dksX4_radiusWithout_1 20 rfl rfl)
theorem dX4_radiusWithout_44 : decode cX4_radiusWithout 44 = .ok (.getfield 16, 3) := dk_180 0 16 (dk_at dksX4_radiusWithout_1 21 rfl rfl)
theorem dX4_radiusWithout_47 : decode cX4_radiusWithout 47 = .ok (.iload_n 3, 1) := dk_29 (dk_at dksX4_radiusWithout_2 0 rfl rfl)
theorem dX4_radiusWithout_48 : decode cX4_radiusWithout 48 = .ok (.aload_n 0, 1) := dk_42 (dk_at dksX4_radiusWithout_2 1 rfl rfl)
theorem dX4_radiusWithout_49 : decode cX4_radiusWithout 49 = .ok (.getfield 7, 3) := dk_180 0 7 (dk_at dksX4_radiusWithout_2 2 rfl rfl)
theorem dX4_radiusWithout_52 : decode cX4_radiusWithout 52 = .ok (.iload_n 3, 1) := dk_29 (dk_at dksX4_radiusWithout_2 5 rfl rfl)
theorem dX4_radiusWithout_53 : decode cX4_radiusWithout 53 = .ok (.iaload, 1) := dk_46 (dk_at dksX4_radiusWithout_2 6 rfl rfl)
theorem dX4_radiusWithout_54 : decode cX4_radiusWithout 54 = .ok (.iastore, 1) := dk_79 (dk_at dksX4_radiusWithout_2 7 rfl rfl)
theorem dX4_radiusWithout_55 : decode cX4_radiusWithout 55 = .ok (.iinc 3 1, 3) := dk_132 3 1 (dk_at dksX4_radiusWithout_2 8 rfl rfl)
theorem dX4_radiusWithout_58 : decode cX4_radiusWithout 58 = .ok (.goto (-21), 3) := dk_167 255 235 (dk_at dksX4_radiusWithout_2 11 rfl rfl)
theorem dX4_radiusWithout_61 : decode cX4_radiusWithout 61 = .ok (.aload_n 0, 1) := dk_42 (dk_at dksX4_radiusWithout_2 14 rfl rfl)
theorem dX4_radiusWithout_62 : decode cX4_radiusWithout 62 = .ok (.iload_n 1, 1) := dk_27 (dk_at dksX4_radiusWithout_2 15 rfl rfl)
theorem dX4_radiusWithout_63 : decode cX4_radiusWithout 63 = .ok (.invokevirtual 109, 3) := dk_182 0 109 (dk_at dksX4_radiusWithout_2 16 rfl rfl)
theorem dX4_radiusWithout_66 : decode cX4_radiusWithout 66 = .ok (.pop, 1) := dk_87 (dk_at dksX4_radiusWithout_2 19 rfl rfl)
theorem dX4_radiusWithout_67 : decode cX4_radiusWithout 67 = .ok (.iconst (-1), 1) := dk_2 (dk_at dksX4_radiusWithout_2 20 rfl rfl)
theorem dX4_radiusWithout_68 : decode cX4_radiusWithout 68 = .ok (.istore_n 3, 1) := dk_62 (dk_at dksX4_radiusWithout_2 21 rfl rfl)
theorem dX4_radiusWithout_69 : decode cX4_radiusWithout 69 = .ok (.aload_n 0, 1) := dk_42 (dk_at dksX4_radiusWithout_2 22 rfl rfl)
theorem dX4_radiusWithout_70 : decode cX4_radiusWithout 70 = .ok (.invokevirtual 233, 3) := dk_182 0 233 (dk_at dksX4_radiusWithout_3 0 rfl rfl)
theorem dX4_radiusWithout_73 : decode cX4_radiusWithout 73 = .ok (.ifCond .eq 33, 3) := dk_153 0 33 (dk_at dksX4_radiusWithout_3 3 rfl rfl)
theorem dX4_radiusWithout_76 : decode cX4_radiusWithout 76 = .ok (.aload_n 0, 1) := dk_42 (dk_at dksX4_radiusWithout_3 6 rfl rfl)
theorem dX4_radiusWithout_77 : decode cX4_radiusWithout 77 = .ok (.iconst 0, 1) := dk_3 (dk_at dksX4_radiusWithout_3 7 rfl rfl)
theorem dX4_radiusWithout_78 : decode cX4_radiusWithout 78 = .ok (.invokevirtual 170, 3) := dk_182 0 170 (dk_at dksX4_radiusWithout_3 8 rfl rfl)
theorem dX4_radiusWithout_81 : decode cX4_radiusWithout 81 = .ok (.aload_n 0, 1) := dk_42 (dk_at dksX4_radiusWithout_3 11 rfl rfl)
theorem dX4_radiusWithout_82 : decode cX4_radiusWithout 82 = .ok (.iconst 1, 1) := dk_4 (dk_at dksX4_radiusWithout_3 12 rfl rfl)
theorem dX4_radiusWithout_83 : decode cX4_radiusWithout 83 = .ok (.aload_n 0, 1) := dk_42 (dk_at dksX4_radiusWithout_3 13 rfl rfl)
theorem dX4_radiusWithout_84 : decode cX4_radiusWithout 84 = .ok (.invokevirtual 65, 3) := dk_182 0 65 (dk_at dksX4_radiusWithout_3 14 rfl rfl)
theorem dX4_radiusWithout_87 : decode cX4_radiusWithout 87 = .ok (.ishl, 1) := dk_120 (dk_at dksX4_radiusWithout_3 17 rfl rfl)
theorem dX4_radiusWithout_88 : decode cX4_radiusWithout 88 = .ok (.iconst 1, 1) := dk_4 (dk_at dksX4_radiusWithout_3 18 rfl rfl)
theorem dX4_radiusWithout_89 : decode cX4_radiusWithout 89 = .ok (.isub, 1) := dk_100 (dk_at dksX4_radiusWithout_3 19 rfl rfl)
theorem dX4_radiusWithout_90 : decode cX4_radiusWithout 90 = .ok (.invokevirtual 236, 3) := dk_182 0 236 (dk_at dksX4_radiusWithout_3 20 rfl rfl)
theorem dX4_radiusWithout_93 : decode cX4_radiusWithout 93 = .ok (.aload_n 0, 1) := dk_42 (dk_at dksX4_radiusWithout_3 23 rfl rfl)
theorem dX4_radiusWithout_94 : decode cX4_radiusWithout 94 = .ok (.getfield 202, 3) := dk_180 0 202 (dk_at dksX4_radiusWithout_4 0 rfl rfl)
theorem dX4_radiusWithout_97 : decode cX4_radiusWithout 97 = .ok (.aload_n 0, 1) := dk_42 (dk_at dksX4_radiusWithout_4 3 rfl rfl)
theorem dX4_radiusWithout_98 : decode cX4_radiusWithout 98 = .ok (.getfield 198, 3) := dk_180 0 198 (dk_at dksX4_radiusWithout_4 4 rfl rfl)
theorem dX4_radiusWithout_101 : decode cX4_radiusWithout 101 = .ok (.iload_n 2, 1) := dk_28 (dk_at dksX4_radiusWithout_4 7 rfl rfl)
theorem dX4_radiusWithout_102 : decode cX4_radiusWithout 102 = .ok (.invokestatic 156, 3) := dk_184 0 156 (dk_at dksX4_radiusWithout_4 8 rfl rfl)
theorem dX4_radiusWithout_105 : decode cX4_radiusWithout 105 = .ok (.istore_n 3, 1) := dk_62 (dk_at dksX4_radiusWithout_4 11 rfl rfl)
theorem dX4_radiusWithout_106 : decode cX4_radiusWithout 106 = .ok (.iconst 0, 1) := dk_3 (dk_at dksX4_radiusWithout_4 12 rfl rfl)
theorem dX4_radiusWithout_107 : decode cX4_radiusWithout 107 = .ok (.istore 4, 2) := dk_54 4 (dk_at dksX4_radiusWithout_4 13 rfl rfl)
theorem dX4_radiusWithout_109 : decode cX4_radiusWithout 109 = .ok (.iload 4, 2) := dk_21 4 (dk_at dksX4_radiusWithout_4 15 rfl rfl)
theorem dX4_radiusWithout_111 : decode cX4_radiusWithout 111 = .ok (.bipush 73, 2) := dk_16 73 (dk_at dksX4_radiusWithout_4 17 rfl rfl)
theorem dX4_radiusWithout_113 : decode cX4_radiusWithout 113 = .ok (.if_icmp .ge 23, 3) := dk_162 0 23 (dk_at dksX4_radiusWithout_4 19 rfl rfl)
theorem dX4_radiusWithout_116 : decode cX4_radiusWithout 116 = .ok (.aload_n 0, 1) := dk_42 (dk_at dksX4_radiusWithout_4 22 rfl rfl)
theorem dX4_radiusWithout_117 : decode cX4_radiusWithout 117 = .ok (.getfield 7, 3) := dk_180 0 7 (dk_at dksX4_radiusWithout_5 0 rfl rfl)
theorem dX4_radiusWithout_120 : decode cX4_radiusWithout 120 = .ok (.iload 4, 2) := dk_21 4 (dk_at dksX4_radiusWithout_5 3 rfl rfl)
theorem dX4_radiusWithout_122 : decode cX4_radiusWithout 122 = .ok (.aload_n 0, 1) := dk_42 (dk_at dksX4_radiusWithout_5 5 rfl rfl)
theorem dX4_radiusWithout_123 : decode cX4_radiusWithout 123 = .ok (.getfield 16, 3) := dk_180 0 16 (dk_at dksX4_radiusWithout_5 6 rfl rfl)
theorem dX4_radiusWithout_126 : decode cX4_radiusWithout 126 = .ok (.iload 4, 2) := dk_21 4 (dk_at dksX4_radiusWithout_5 9 rfl rfl)
theorem dX4_radiusWithout_128 : decode cX4_radiusWithout 128 = .ok (.iaload, 1) := dk_46 (dk_at dksX4_radiusWithout_5 11 rfl rfl)
theorem dX4_radiusWithout_129 : decode cX4_radiusWithout 129 = .ok (.iastore, 1) := dk_79 (dk_at dksX4_radiusWithout_5 12 rfl rfl)
theorem dX4_radiusWithout_130 : decode cX4_radiusWithout 130 = .ok (.iinc 4 1, 3) := dk_132 4 1 (dk_at dksX4_radiusWithout_5 13 rfl rfl)
theorem dX4_radiusWithout_133 : decode cX4_radiusWithout 133 = .ok (.goto (-24), 3) := dk_167 255 232 (dk_at dksX4_radiusWithout_5 16 rfl rfl)
theorem dX4_radiusWithout_136 : decode cX4_radiusWithout 136 = .ok (.iload_n 3, 1) := dk_29 (dk_at dksX4_radiusWithout_5 19 rfl rfl)
theorem dX4_radiusWithout_137 : decode cX4_radiusWithout 137 = .ok (.ireturn, 1) := dk_172 (dk_at dksX4_radiusWithout_5 20 rfl rfl)
abbrev cX4_type : ByteArray := prog_19_method_90_code
def yX4_type : MethodName := ⟨RX4, "type", "(I)I"⟩
def dkwX4_type_2 : List UInt8 := [27, 79, 42, 89, 180, 1, 19, 4, 96, 181, 1, 19, 42, 180, 1, 19, 172]
abbrev dktX4_type_2 : List UInt8 := dkwX4_type_2 ++ []
def dkwX4_type_1 : List UInt8 := [160, 0, 7, 5, 167, 0, 4, 3, 182, 0, 61, 153, 0, 5, 3, 172, 42, 180, 0, 19, 42, 180, 1, 19]
abbrev dktX4_type_1 : List UInt8 := dkwX4_type_1 ++ dktX4_type_2
def dkwX4_type_0 : List UInt8 := [42, 27, 16, 32, 16, 126, 184, 0, 69, 154, 0, 7, 4, 167, 0, 17, 42, 180, 1, 19, 16, 120]
abbrev dktX4_type_0 : List UInt8 := dkwX4_type_0 ++ dktX4_type_1
theorem dksX4_type_0 : cX4_type.data.toList.drop 0 = dktX4_type_0 := by decide +kernel
theorem dksX4_type_1 : cX4_type.data.toList.drop 22 = dktX4_type_1 := dk_seg dksX4_type_0 22 rfl rfl
theorem dksX4_type_2 : cX4_type.data.toList.drop 46 = dktX4_type_2 := dk_seg dksX4_type_1 24 rfl rfl
theorem dX4_type_0 : decode cX4_type 0 = .ok (.aload_n 0, 1) := dk_42 (dk_at dksX4_type_0 0 rfl rfl)
theorem dX4_type_1 : decode cX4_type 1 = .ok (.iload_n 1, 1) := dk_27 (dk_at dksX4_type_0 1 rfl rfl)
theorem dX4_type_2 : decode cX4_type 2 = .ok (.bipush 32, 2) := dk_16 32 (dk_at dksX4_type_0 2 rfl rfl)
theorem dX4_type_4 : decode cX4_type 4 = .ok (.bipush 126, 2) := dk_16 126 (dk_at dksX4_type_0 4 rfl rfl)
theorem dX4_type_6 : decode cX4_type 6 = .ok (.invokestatic 69, 3) := dk_184 0 69 (dk_at dksX4_type_0 6 rfl rfl)
theorem dX4_type_9 : decode cX4_type 9 = .ok (.ifCond .ne 7, 3) := dk_154 0 7 (dk_at dksX4_type_0 9 rfl rfl)
theorem dX4_type_12 : decode cX4_type 12 = .ok (.iconst 1, 1) := dk_4 (dk_at dksX4_type_0 12 rfl rfl)
theorem dX4_type_13 : decode cX4_type 13 = .ok (.goto 17, 3) := dk_167 0 17 (dk_at dksX4_type_0 13 rfl rfl)
theorem dX4_type_16 : decode cX4_type 16 = .ok (.aload_n 0, 1) := dk_42 (dk_at dksX4_type_0 16 rfl rfl)
theorem dX4_type_17 : decode cX4_type 17 = .ok (.getfield 275, 3) := dk_180 1 19 (dk_at dksX4_type_0 17 rfl rfl)
theorem dX4_type_20 : decode cX4_type 20 = .ok (.bipush 120, 2) := dk_16 120 (dk_at dksX4_type_0 20 rfl rfl)
theorem dX4_type_22 : decode cX4_type 22 = .ok (.if_icmp .ne 7, 3) := dk_160 0 7 (dk_at dksX4_type_1 0 rfl rfl)
theorem dX4_type_25 : decode cX4_type 25 = .ok (.iconst 2, 1) := dk_5 (dk_at dksX4_type_1 3 rfl rfl)
theorem dX4_type_26 : decode cX4_type 26 = .ok (.goto 4, 3) := dk_167 0 4 (dk_at dksX4_type_1 4 rfl rfl)
theorem dX4_type_29 : decode cX4_type 29 = .ok (.iconst 0, 1) := dk_3 (dk_at dksX4_type_1 7 rfl rfl)
theorem dX4_type_30 : decode cX4_type 30 = .ok (.invokevirtual 61, 3) := dk_182 0 61 (dk_at dksX4_type_1 8 rfl rfl)
theorem dX4_type_33 : decode cX4_type 33 = .ok (.ifCond .eq 5, 3) := dk_153 0 5 (dk_at dksX4_type_1 11 rfl rfl)
theorem dX4_type_36 : decode cX4_type 36 = .ok (.iconst 0, 1) := dk_3 (dk_at dksX4_type_1 14 rfl rfl)
theorem dX4_type_37 : decode cX4_type 37 = .ok (.ireturn, 1) := dk_172 (dk_at dksX4_type_1 15 rfl rfl)
theorem dX4_type_38 : decode cX4_type 38 = .ok (.aload_n 0, 1) := dk_42 (dk_at dksX4_type_1 16 rfl rfl)
theorem dX4_type_39 : decode cX4_type 39 = .ok (.getfield 19, 3) := dk_180 0 19 (dk_at dksX4_type_1 17 rfl rfl)
theorem dX4_type_42 : decode cX4_type 42 = .ok (.aload_n 0, 1) := dk_42 (dk_at dksX4_type_1 20 rfl rfl)
theorem dX4_type_43 : decode cX4_type 43 = .ok (.getfield 275, 3) := dk_180 1 19 (dk_at dksX4_type_1 21 rfl rfl)
theorem dX4_type_46 : decode cX4_type 46 = .ok (.iload_n 1, 1) := dk_27 (dk_at dksX4_type_2 0 rfl rfl)
theorem dX4_type_47 : decode cX4_type 47 = .ok (.iastore, 1) := dk_79 (dk_at dksX4_type_2 1 rfl rfl)
theorem dX4_type_48 : decode cX4_type 48 = .ok (.aload_n 0, 1) := dk_42 (dk_at dksX4_type_2 2 rfl rfl)
theorem dX4_type_49 : decode cX4_type 49 = .ok (.dup, 1) := dk_89 (dk_at dksX4_type_2 3 rfl rfl)
theorem dX4_type_50 : decode cX4_type 50 = .ok (.getfield 275, 3) := dk_180 1 19 (dk_at dksX4_type_2 4 rfl rfl)
theorem dX4_type_53 : decode cX4_type 53 = .ok (.iconst 1, 1) := dk_4 (dk_at dksX4_type_2 7 rfl rfl)
theorem dX4_type_54 : decode cX4_type 54 = .ok (.iadd, 1) := dk_96 (dk_at dksX4_type_2 8 rfl rfl)
theorem dX4_type_55 : decode cX4_type 55 = .ok (.putfield 275, 3) := dk_181 1 19 (dk_at dksX4_type_2 9 rfl rfl)
theorem dX4_type_58 : decode cX4_type 58 = .ok (.aload_n 0, 1) := dk_42 (dk_at dksX4_type_2 12 rfl rfl)
theorem dX4_type_59 : decode cX4_type 59 = .ok (.getfield 275, 3) := dk_180 1 19 (dk_at dksX4_type_2 13 rfl rfl)
theorem dX4_type_62 : decode cX4_type 62 = .ok (.ireturn, 1) := dk_172 (dk_at dksX4_type_2 16 rfl rfl)
abbrev cX4_clearText : ByteArray := prog_19_method_91_code
def yX4_clearText : MethodName := ⟨RX4, "clearText", "()I"⟩
def dkwX4_clearText_0 : List UInt8 := [42, 3, 181, 0, 54, 42, 180, 1, 19, 60, 42, 3, 181, 1, 19, 27, 172]
abbrev dktX4_clearText_0 : List UInt8 := dkwX4_clearText_0 ++ []
theorem dksX4_clearText_0 : cX4_clearText.data.toList.drop 0 = dktX4_clearText_0 := by decide +kernel
theorem dX4_clearText_0 : decode cX4_clearText 0 = .ok (.aload_n 0, 1) := dk_42 (dk_at dksX4_clearText_0 0 rfl rfl)
theorem dX4_clearText_1 : decode cX4_clearText 1 = .ok (.iconst 0, 1) := dk_3 (dk_at dksX4_clearText_0 1 rfl rfl)
theorem dX4_clearText_2 : decode cX4_clearText 2 = .ok (.putfield 54, 3) := dk_181 0 54 (dk_at dksX4_clearText_0 2 rfl rfl)
theorem dX4_clearText_5 : decode cX4_clearText 5 = .ok (.aload_n 0, 1) := dk_42 (dk_at dksX4_clearText_0 5 rfl rfl)
theorem dX4_clearText_6 : decode cX4_clearText 6 = .ok (.getfield 275, 3) := dk_180 1 19 (dk_at dksX4_clearText_0 6 rfl rfl)
theorem dX4_clearText_9 : decode cX4_clearText 9 = .ok (.istore_n 1, 1) := dk_60 (dk_at dksX4_clearText_0 9 rfl rfl)
theorem dX4_clearText_10 : decode cX4_clearText 10 = .ok (.aload_n 0, 1) := dk_42 (dk_at dksX4_clearText_0 10 rfl rfl)
theorem dX4_clearText_11 : decode cX4_clearText 11 = .ok (.iconst 0, 1) := dk_3 (dk_at dksX4_clearText_0 11 rfl rfl)
theorem dX4_clearText_12 : decode cX4_clearText 12 = .ok (.putfield 275, 3) := dk_181 1 19 (dk_at dksX4_clearText_0 12 rfl rfl)
theorem dX4_clearText_15 : decode cX4_clearText 15 = .ok (.iload_n 1, 1) := dk_27 (dk_at dksX4_clearText_0 15 rfl rfl)
theorem dX4_clearText_16 : decode cX4_clearText 16 = .ok (.ireturn, 1) := dk_172 (dk_at dksX4_clearText_0 16 rfl rfl)
abbrev cX4_fault : ByteArray := prog_19_method_99_code
def yX4_fault : MethodName := ⟨RX4, "fault", "()I"⟩
def dkwX4_fault_0 : List UInt8 := [42, 3, 181, 0, 54, 42, 3, 182, 1, 50, 172]
abbrev dktX4_fault_0 : List UInt8 := dkwX4_fault_0 ++ []
theorem dksX4_fault_0 : cX4_fault.data.toList.drop 0 = dktX4_fault_0 := by decide +kernel
theorem dX4_fault_0 : decode cX4_fault 0 = .ok (.aload_n 0, 1) := dk_42 (dk_at dksX4_fault_0 0 rfl rfl)
theorem dX4_fault_1 : decode cX4_fault 1 = .ok (.iconst 0, 1) := dk_3 (dk_at dksX4_fault_0 1 rfl rfl)
theorem dX4_fault_2 : decode cX4_fault 2 = .ok (.putfield 54, 3) := dk_181 0 54 (dk_at dksX4_fault_0 2 rfl rfl)
theorem dX4_fault_5 : decode cX4_fault 5 = .ok (.aload_n 0, 1) := dk_42 (dk_at dksX4_fault_0 5 rfl rfl)
theorem dX4_fault_6 : decode cX4_fault 6 = .ok (.iconst 0, 1) := dk_3 (dk_at dksX4_fault_0 6 rfl rfl)
theorem dX4_fault_7 : decode cX4_fault 7 = .ok (.invokevirtual 306, 3) := dk_182 1 50 (dk_at dksX4_fault_0 7 rfl rfl)
theorem dX4_fault_10 : decode cX4_fault 10 = .ok (.ireturn, 1) := dk_172 (dk_at dksX4_fault_0 10 rfl rfl)
abbrev cX4_goes : ByteArray := prog_19_method_97_code
def yX4_goes : MethodName := ⟨RX4, "goes", "(Z)I"⟩
def dkwX4_goes_9 : List UInt8 := [172]
abbrev dktX4_goes_9 : List UInt8 := dkwX4_goes_9 ++ []
def dkwX4_goes_8 : List UInt8 := [153, 0, 7, 4, 167, 0, 4, 3, 96, 181, 1, 37, 42, 182, 1, 25, 61, 167, 255, 70, 42, 180, 1, 28]
abbrev dktX4_goes_8 : List UInt8 := dkwX4_goes_8 ++ dktX4_goes_9
def dkwX4_goes_7 : List UInt8 := [180, 1, 37, 42, 29, 153, 0, 7, 28, 167, 0, 4, 3, 21, 4, 21, 5, 21, 6, 182, 1, 46]
abbrev dktX4_goes_7 : List UInt8 := dkwX4_goes_7 ++ dktX4_goes_8
def dkwX4_goes_6 : List UInt8 := [16, 58, 182, 1, 43, 42, 182, 1, 40, 54, 6, 42, 16, 59, 182, 1, 43, 27, 153, 0, 39, 42, 89]
abbrev dktX4_goes_6 : List UInt8 := dkwX4_goes_6 ++ dktX4_goes_7
def dkwX4_goes_5 : List UInt8 := [54, 6, 28, 16, 120, 159, 0, 7, 29, 154, 0, 26, 42, 28, 16, 120, 160, 0, 8, 16, 45, 167, 0, 5]
abbrev dktX4_goes_5 : List UInt8 := dkwX4_goes_5 ++ dktX4_goes_6
def dkwX4_goes_4 : List UInt8 := [167, 0, 14, 29, 153, 0, 8, 16, 61, 167, 0, 5, 16, 45, 182, 1, 43, 42, 182, 1, 40, 54, 5, 3]
abbrev dktX4_goes_4 : List UInt8 := dkwX4_goes_4 ++ dktX4_goes_5
def dkwX4_goes_3 : List UInt8 := [4, 167, 0, 4, 3, 96, 181, 1, 22, 42, 182, 1, 40, 54, 4, 42, 28, 16, 120, 160, 0, 8, 16, 58]
abbrev dktX4_goes_3 : List UInt8 := dkwX4_goes_3 ++ dktX4_goes_4
def dkwX4_goes_2 : List UInt8 := [159, 0, 9, 28, 16, 120, 160, 0, 7, 4, 167, 0, 4, 3, 62, 42, 89, 180, 1, 22, 29, 153, 0, 7]
abbrev dktX4_goes_2 : List UInt8 := dkwX4_goes_2 ++ dktX4_goes_3
def dkwX4_goes_1 : List UInt8 := [42, 180, 1, 19, 162, 0, 181, 42, 180, 1, 28, 2, 160, 0, 173, 28, 16, 119, 159, 0, 15, 28, 16, 118]
abbrev dktX4_goes_1 : List UInt8 := dkwX4_goes_1 ++ dktX4_goes_2
def dkwX4_goes_0 : List UInt8 := [42, 3, 181, 1, 22, 42, 2, 181, 1, 28, 42, 3, 181, 1, 37, 42, 182, 1, 25, 61, 42, 180, 1, 22]
abbrev dktX4_goes_0 : List UInt8 := dkwX4_goes_0 ++ dktX4_goes_1
theorem dksX4_goes_0 : cX4_goes.data.toList.drop 0 = dktX4_goes_0 := by decide +kernel
theorem dksX4_goes_1 : cX4_goes.data.toList.drop 24 = dktX4_goes_1 := dk_seg dksX4_goes_0 24 rfl rfl
theorem dksX4_goes_2 : cX4_goes.data.toList.drop 48 = dktX4_goes_2 := dk_seg dksX4_goes_1 24 rfl rfl
theorem dksX4_goes_3 : cX4_goes.data.toList.drop 72 = dktX4_goes_3 := dk_seg dksX4_goes_2 24 rfl rfl
theorem dksX4_goes_4 : cX4_goes.data.toList.drop 96 = dktX4_goes_4 := dk_seg dksX4_goes_3 24 rfl rfl
theorem dksX4_goes_5 : cX4_goes.data.toList.drop 120 = dktX4_goes_5 := dk_seg dksX4_goes_4 24 rfl rfl
theorem dksX4_goes_6 : cX4_goes.data.toList.drop 144 = dktX4_goes_6 := dk_seg dksX4_goes_5 24 rfl rfl
theorem dksX4_goes_7 : cX4_goes.data.toList.drop 167 = dktX4_goes_7 := dk_seg dksX4_goes_6 23 rfl rfl
theorem dksX4_goes_8 : cX4_goes.data.toList.drop 189 = dktX4_goes_8 := dk_seg dksX4_goes_7 22 rfl rfl
theorem dksX4_goes_9 : cX4_goes.data.toList.drop 213 = dktX4_goes_9 := dk_seg dksX4_goes_8 24 rfl rfl
theorem dX4_goes_0 : decode cX4_goes 0 = .ok (.aload_n 0, 1) := dk_42 (dk_at dksX4_goes_0 0 rfl rfl)
theorem dX4_goes_1 : decode cX4_goes 1 = .ok (.iconst 0, 1) := dk_3 (dk_at dksX4_goes_0 1 rfl rfl)
theorem dX4_goes_2 : decode cX4_goes 2 = .ok (.putfield 278, 3) := dk_181 1 22 (dk_at dksX4_goes_0 2 rfl rfl)
theorem dX4_goes_5 : decode cX4_goes 5 = .ok (.aload_n 0, 1) := dk_42 (dk_at dksX4_goes_0 5 rfl rfl)
theorem dX4_goes_6 : decode cX4_goes 6 = .ok (.iconst (-1), 1) := dk_2 (dk_at dksX4_goes_0 6 rfl rfl)
theorem dX4_goes_7 : decode cX4_goes 7 = .ok (.putfield 284, 3) := dk_181 1 28 (dk_at dksX4_goes_0 7 rfl rfl)
theorem dX4_goes_10 : decode cX4_goes 10 = .ok (.aload_n 0, 1) := dk_42 (dk_at dksX4_goes_0 10 rfl rfl)
theorem dX4_goes_11 : decode cX4_goes 11 = .ok (.iconst 0, 1) := dk_3 (dk_at dksX4_goes_0 11 rfl rfl)
theorem dX4_goes_12 : decode cX4_goes 12 = .ok (.putfield 293, 3) := dk_181 1 37 (dk_at dksX4_goes_0 12 rfl rfl)
theorem dX4_goes_15 : decode cX4_goes 15 = .ok (.aload_n 0, 1) := dk_42 (dk_at dksX4_goes_0 15 rfl rfl)
theorem dX4_goes_16 : decode cX4_goes 16 = .ok (.invokevirtual 281, 3) := dk_182 1 25 (dk_at dksX4_goes_0 16 rfl rfl)
theorem dX4_goes_19 : decode cX4_goes 19 = .ok (.istore_n 2, 1) := dk_61 (dk_at dksX4_goes_0 19 rfl rfl)
theorem dX4_goes_20 : decode cX4_goes 20 = .ok (.aload_n 0, 1) := dk_42 (dk_at dksX4_goes_0 20 rfl rfl)
theorem dX4_goes_21 : decode cX4_goes 21 = .ok (.getfield 278, 3) := dk_180 1 22 (dk_at dksX4_goes_0 21 rfl rfl)
theorem dX4_goes_24 : decode cX4_goes 24 = .ok (.aload_n 0, 1) := dk_42 (dk_at dksX4_goes_1 0 rfl rfl)
theorem dX4_goes_25 : decode cX4_goes 25 = .ok (.getfield 275, 3) := dk_180 1 19 (dk_at dksX4_goes_1 1 rfl rfl)
theorem dX4_goes_28 : decode cX4_goes 28 = .ok (.if_icmp .ge 181, 3) := dk_162 0 181 (dk_at dksX4_goes_1 4 rfl rfl)
theorem dX4_goes_31 : decode cX4_goes 31 = .ok (.aload_n 0, 1) := dk_42 (dk_at dksX4_goes_1 7 rfl rfl)
theorem dX4_goes_32 : decode cX4_goes 32 = .ok (.getfield 284, 3) := dk_180 1 28 (dk_at dksX4_goes_1 8 rfl rfl)
theorem dX4_goes_35 : decode cX4_goes 35 = .ok (.iconst (-1), 1) := dk_2 (dk_at dksX4_goes_1 11 rfl rfl)
theorem dX4_goes_36 : decode cX4_goes 36 = .ok (.if_icmp .ne 173, 3) := dk_160 0 173 (dk_at dksX4_goes_1 12 rfl rfl)
theorem dX4_goes_39 : decode cX4_goes 39 = .ok (.iload_n 2, 1) := dk_28 (dk_at dksX4_goes_1 15 rfl rfl)
theorem dX4_goes_40 : decode cX4_goes 40 = .ok (.bipush 119, 2) := dk_16 119 (dk_at dksX4_goes_1 16 rfl rfl)
theorem dX4_goes_42 : decode cX4_goes 42 = .ok (.if_icmp .eq 15, 3) := dk_159 0 15 (dk_at dksX4_goes_1 18 rfl rfl)
theorem dX4_goes_45 : decode cX4_goes 45 = .ok (.iload_n 2, 1) := dk_28 (dk_at dksX4_goes_1 21 rfl rfl)
theorem dX4_goes_46 : decode cX4_goes 46 = .ok (.bipush 118, 2) := dk_16 118 (dk_at dksX4_goes_1 22 rfl rfl)
theorem dX4_goes_48 : decode cX4_goes 48 = .ok (.if_icmp .eq 9, 3) := dk_159 0 9 (dk_at dksX4_goes_2 0 rfl rfl)
theorem dX4_goes_51 : decode cX4_goes 51 = .ok (.iload_n 2, 1) := dk_28 (dk_at dksX4_goes_2 3 rfl rfl)
theorem dX4_goes_52 : decode cX4_goes 52 = .ok (.bipush 120, 2) := dk_16 120 (dk_at dksX4_goes_2 4 rfl rfl)
theorem dX4_goes_54 : decode cX4_goes 54 = .ok (.if_icmp .ne 7, 3) := dk_160 0 7 (dk_at dksX4_goes_2 6 rfl rfl)
theorem dX4_goes_57 : decode cX4_goes 57 = .ok (.iconst 1, 1) := dk_4 (dk_at dksX4_goes_2 9 rfl rfl)
theorem dX4_goes_58 : decode cX4_goes 58 = .ok (.goto 4, 3) := dk_167 0 4 (dk_at dksX4_goes_2 10 rfl rfl)
theorem dX4_goes_61 : decode cX4_goes 61 = .ok (.iconst 0, 1) := dk_3 (dk_at dksX4_goes_2 13 rfl rfl)
theorem dX4_goes_62 : decode cX4_goes 62 = .ok (.istore_n 3, 1) := dk_62 (dk_at dksX4_goes_2 14 rfl rfl)
theorem dX4_goes_63 : decode cX4_goes 63 = .ok (.aload_n 0, 1) := dk_42 (dk_at dksX4_goes_2 15 rfl rfl)
theorem dX4_goes_64 : decode cX4_goes 64 = .ok (.dup, 1) := dk_89 (dk_at dksX4_goes_2 16 rfl rfl)
theorem dX4_goes_65 : decode cX4_goes 65 = .ok (.getfield 278, 3) := dk_180 1 22 (dk_at dksX4_goes_2 17 rfl rfl)
theorem dX4_goes_68 : decode cX4_goes 68 = .ok (.iload_n 3, 1) := dk_29 (dk_at dksX4_goes_2 20 rfl rfl)
theorem dX4_goes_69 : decode cX4_goes 69 = .ok (.ifCond .eq 7, 3) := dk_153 0 7 (dk_at dksX4_goes_2 21 rfl rfl)
theorem dX4_goes_72 : decode cX4_goes 72 = .ok (.iconst 1, 1) := dk_4 (dk_at dksX4_goes_3 0 rfl rfl)
theorem dX4_goes_73 : decode cX4_goes 73 = .ok (.goto 4, 3) := dk_167 0 4 (dk_at dksX4_goes_3 1 rfl rfl)
theorem dX4_goes_76 : decode cX4_goes 76 = .ok (.iconst 0, 1) := dk_3 (dk_at dksX4_goes_3 4 rfl rfl)
theorem dX4_goes_77 : decode cX4_goes 77 = .ok (.iadd, 1) := dk_96 (dk_at dksX4_goes_3 5 rfl rfl)
theorem dX4_goes_78 : decode cX4_goes 78 = .ok (.putfield 278, 3) := dk_181 1 22 (dk_at dksX4_goes_3 6 rfl rfl)
theorem dX4_goes_81 : decode cX4_goes 81 = .ok (.aload_n 0, 1) := dk_42 (dk_at dksX4_goes_3 9 rfl rfl)
theorem dX4_goes_82 : decode cX4_goes 82 = .ok (.invokevirtual 296, 3) := dk_182 1 40 (dk_at dksX4_goes_3 10 rfl rfl)
theorem dX4_goes_85 : decode cX4_goes 85 = .ok (.istore 4, 2) := dk_54 4 (dk_at dksX4_goes_3 13 rfl rfl)
theorem dX4_goes_87 : decode cX4_goes 87 = .ok (.aload_n 0, 1) := dk_42 (dk_at dksX4_goes_3 15 rfl rfl)
theorem dX4_goes_88 : decode cX4_goes 88 = .ok (.iload_n 2, 1) := dk_28 (dk_at dksX4_goes_3 16 rfl rfl)
theorem dX4_goes_89 : decode cX4_goes 89 = .ok (.bipush 120, 2) := dk_16 120 (dk_at dksX4_goes_3 17 rfl rfl)
theorem dX4_goes_91 : decode cX4_goes 91 = .ok (.if_icmp .ne 8, 3) := dk_160 0 8 (dk_at dksX4_goes_3 19 rfl rfl)
theorem dX4_goes_94 : decode cX4_goes 94 = .ok (.bipush 58, 2) := dk_16 58 (dk_at dksX4_goes_3 22 rfl rfl)
theorem dX4_goes_96 : decode cX4_goes 96 = .ok (.goto 14, 3) := dk_167 0 14 (dk_at dksX4_goes_4 0 rfl rfl)
theorem dX4_goes_99 : decode cX4_goes 99 = .ok (.iload_n 3, 1) := dk_29 (dk_at dksX4_goes_4 3 rfl rfl)
theorem dX4_goes_100 : decode cX4_goes 100 = .ok (.ifCond .eq 8, 3) := dk_153 0 8 (dk_at dksX4_goes_4 4 rfl rfl)
theorem dX4_goes_103 : decode cX4_goes 103 = .ok (.bipush 61, 2) := dk_16 61 (dk_at dksX4_goes_4 7 rfl rfl)
theorem dX4_goes_105 : decode cX4_goes 105 = .ok (.goto 5, 3) := dk_167 0 5 (dk_at dksX4_goes_4 9 rfl rfl)
theorem dX4_goes_108 : decode cX4_goes 108 = .ok (.bipush 45, 2) := dk_16 45 (dk_at dksX4_goes_4 12 rfl rfl)
theorem dX4_goes_110 : decode cX4_goes 110 = .ok (.invokevirtual 299, 3) := dk_182 1 43 (dk_at dksX4_goes_4 14 rfl rfl)
theorem dX4_goes_113 : decode cX4_goes 113 = .ok (.aload_n 0, 1) := dk_42 (dk_at dksX4_goes_4 17 rfl rfl)
theorem dX4_goes_114 : decode cX4_goes 114 = .ok (.invokevirtual 296, 3) := dk_182 1 40 (dk_at dksX4_goes_4 18 rfl rfl)
theorem dX4_goes_117 : decode cX4_goes 117 = .ok (.istore 5, 2) := dk_54 5 (dk_at dksX4_goes_4 21 rfl rfl)
theorem dX4_goes_119 : decode cX4_goes 119 = .ok (.iconst 0, 1) := dk_3 (dk_at dksX4_goes_4 23 rfl rfl)
theorem dX4_goes_120 : decode cX4_goes 120 = .ok (.istore 6, 2) := dk_54 6 (dk_at dksX4_goes_5 0 rfl rfl)
theorem dX4_goes_122 : decode cX4_goes 122 = .ok (.iload_n 2, 1) := dk_28 (dk_at dksX4_goes_5 2 rfl rfl)
theorem dX4_goes_123 : decode cX4_goes 123 = .ok (.bipush 120, 2) := dk_16 120 (dk_at dksX4_goes_5 3 rfl rfl)
theorem dX4_goes_125 : decode cX4_goes 125 = .ok (.if_icmp .eq 7, 3) := dk_159 0 7 (dk_at dksX4_goes_5 5 rfl rfl)
theorem dX4_goes_128 : decode cX4_goes 128 = .ok (.iload_n 3, 1) := dk_29 (dk_at dksX4_goes_5 8 rfl rfl)
theorem dX4_goes_129 : decode cX4_goes 129 = .ok (.ifCond .ne 26, 3) := dk_154 0 26 (dk_at dksX4_goes_5 9 rfl rfl)
theorem dX4_goes_132 : decode cX4_goes 132 = .ok (.aload_n 0, 1) := dk_42 (dk_at dksX4_goes_5 12 rfl rfl)
theorem dX4_goes_133 : decode cX4_goes 133 = .ok (.iload_n 2, 1) := dk_28 (dk_at dksX4_goes_5 13 rfl rfl)
theorem dX4_goes_134 : decode cX4_goes 134 = .ok (.bipush 120, 2) := dk_16 120 (dk_at dksX4_goes_5 14 rfl rfl)
theorem dX4_goes_136 : decode cX4_goes 136 = .ok (.if_icmp .ne 8, 3) := dk_160 0 8 (dk_at dksX4_goes_5 16 rfl rfl)
theorem dX4_goes_139 : decode cX4_goes 139 = .ok (.bipush 45, 2) := dk_16 45 (dk_at dksX4_goes_5 19 rfl rfl)
theorem dX4_goes_141 : decode cX4_goes 141 = .ok (.goto 5, 3) := dk_167 0 5 (dk_at dksX4_goes_5 21 rfl rfl)
theorem dX4_goes_144 : decode cX4_goes 144 = .ok (.bipush 58, 2) := dk_16 58 (dk_at dksX4_goes_6 0 rfl rfl)
theorem dX4_goes_146 : decode cX4_goes 146 = .ok (.invokevirtual 299, 3) := dk_182 1 43 (dk_at dksX4_goes_6 2 rfl rfl)
theorem dX4_goes_149 : decode cX4_goes 149 = .ok (.aload_n 0, 1) := dk_42 (dk_at dksX4_goes_6 5 rfl rfl)
theorem dX4_goes_150 : decode cX4_goes 150 = .ok (.invokevirtual 296, 3) := dk_182 1 40 (dk_at dksX4_goes_6 6 rfl rfl)
theorem dX4_goes_153 : decode cX4_goes 153 = .ok (.istore 6, 2) := dk_54 6 (dk_at dksX4_goes_6 9 rfl rfl)
theorem dX4_goes_155 : decode cX4_goes 155 = .ok (.aload_n 0, 1) := dk_42 (dk_at dksX4_goes_6 11 rfl rfl)
theorem dX4_goes_156 : decode cX4_goes 156 = .ok (.bipush 59, 2) := dk_16 59 (dk_at dksX4_goes_6 12 rfl rfl)
theorem dX4_goes_158 : decode cX4_goes 158 = .ok (.invokevirtual 299, 3) := dk_182 1 43 (dk_at dksX4_goes_6 14 rfl rfl)
theorem dX4_goes_161 : decode cX4_goes 161 = .ok (.iload_n 1, 1) := dk_27 (dk_at dksX4_goes_6 17 rfl rfl)
theorem dX4_goes_162 : decode cX4_goes 162 = .ok (.ifCond .eq 39, 3) := dk_153 0 39 (dk_at dksX4_goes_6 18 rfl rfl)
theorem dX4_goes_165 : decode cX4_goes 165 = .ok (.aload_n 0, 1) := dk_42 (dk_at dksX4_goes_6 21 rfl rfl)
theorem dX4_goes_166 : decode cX4_goes 166 = .ok (.dup, 1) := dk_89 (dk_at dksX4_goes_6 22 rfl rfl)
theorem dX4_goes_167 : decode cX4_goes 167 = .ok (.getfield 293, 3) := dk_180 1 37 (dk_at dksX4_goes_7 0 rfl rfl)
theorem dX4_goes_170 : decode cX4_goes 170 = .ok (.aload_n 0, 1) := dk_42 (dk_at dksX4_goes_7 3 rfl rfl)
theorem dX4_goes_171 : decode cX4_goes 171 = .ok (.iload_n 3, 1) := dk_29 (dk_at dksX4_goes_7 4 rfl rfl)
theorem dX4_goes_172 : decode cX4_goes 172 = .ok (.ifCond .eq 7, 3) := dk_153 0 7 (dk_at dksX4_goes_7 5 rfl rfl)
theorem dX4_goes_175 : decode cX4_goes 175 = .ok (.iload_n 2, 1) := dk_28 (dk_at dksX4_goes_7 8 rfl rfl)
theorem dX4_goes_176 : decode cX4_goes 176 = .ok (.goto 4, 3) := dk_167 0 4 (dk_at dksX4_goes_7 9 rfl rfl)
theorem dX4_goes_179 : decode cX4_goes 179 = .ok (.iconst 0, 1) := dk_3 (dk_at dksX4_goes_7 12 rfl rfl)
theorem dX4_goes_180 : decode cX4_goes 180 = .ok (.iload 4, 2) := dk_21 4 (dk_at dksX4_goes_7 13 rfl rfl)
theorem dX4_goes_182 : decode cX4_goes 182 = .ok (.iload 5, 2) := dk_21 5 (dk_at dksX4_goes_7 15 rfl rfl)
theorem dX4_goes_184 : decode cX4_goes 184 = .ok (.iload 6, 2) := dk_21 6 (dk_at dksX4_goes_7 17 rfl rfl)
theorem dX4_goes_186 : decode cX4_goes 186 = .ok (.invokevirtual 302, 3) := dk_182 1 46 (dk_at dksX4_goes_7 19 rfl rfl)
theorem dX4_goes_189 : decode cX4_goes 189 = .ok (.ifCond .eq 7, 3) := dk_153 0 7 (dk_at dksX4_goes_8 0 rfl rfl)
theorem dX4_goes_192 : decode cX4_goes 192 = .ok (.iconst 1, 1) := dk_4 (dk_at dksX4_goes_8 3 rfl rfl)
theorem dX4_goes_193 : decode cX4_goes 193 = .ok (.goto 4, 3) := dk_167 0 4 (dk_at dksX4_goes_8 4 rfl rfl)
theorem dX4_goes_196 : decode cX4_goes 196 = .ok (.iconst 0, 1) := dk_3 (dk_at dksX4_goes_8 7 rfl rfl)
theorem dX4_goes_197 : decode cX4_goes 197 = .ok (.iadd, 1) := dk_96 (dk_at dksX4_goes_8 8 rfl rfl)
theorem dX4_goes_198 : decode cX4_goes 198 = .ok (.putfield 293, 3) := dk_181 1 37 (dk_at dksX4_goes_8 9 rfl rfl)
theorem dX4_goes_201 : decode cX4_goes 201 = .ok (.aload_n 0, 1) := dk_42 (dk_at dksX4_goes_8 12 rfl rfl)
theorem dX4_goes_202 : decode cX4_goes 202 = .ok (.invokevirtual 281, 3) := dk_182 1 25 (dk_at dksX4_goes_8 13 rfl rfl)
theorem dX4_goes_205 : decode cX4_goes 205 = .ok (.istore_n 2, 1) := dk_61 (dk_at dksX4_goes_8 16 rfl rfl)
theorem dX4_goes_206 : decode cX4_goes 206 = .ok (.goto (-186), 3) := dk_167 255 70 (dk_at dksX4_goes_8 17 rfl rfl)
theorem dX4_goes_209 : decode cX4_goes 209 = .ok (.aload_n 0, 1) := dk_42 (dk_at dksX4_goes_8 20 rfl rfl)
theorem dX4_goes_210 : decode cX4_goes 210 = .ok (.getfield 284, 3) := dk_180 1 28 (dk_at dksX4_goes_8 21 rfl rfl)
theorem dX4_goes_213 : decode cX4_goes 213 = .ok (.ireturn, 1) := dk_172 (dk_at dksX4_goes_9 0 rfl rfl)
abbrev cX4_looking : ByteArray := prog_19_method_92_code
def yX4_looking : MethodName := ⟨RX4, "looking", "()I"⟩
def dkwX4_looking_2 : List UInt8 := [162, 0, 15, 42, 180, 0, 19, 42, 180, 1, 22, 46, 167, 0, 4, 3, 172]
abbrev dktX4_looking_2 : List UInt8 := dkwX4_looking_2 ++ []
def dkwX4_looking_1 : List UInt8 := [160, 0, 16, 42, 89, 180, 1, 22, 4, 96, 181, 1, 22, 167, 255, 221, 42, 180, 1, 22, 42, 180, 1, 19]
abbrev dktX4_looking_1 : List UInt8 := dkwX4_looking_1 ++ dktX4_looking_2
def dkwX4_looking_0 : List UInt8 := [42, 180, 1, 22, 42, 180, 1, 19, 162, 0, 30, 42, 180, 0, 19, 42, 180, 1, 22, 46, 16, 32]
abbrev dktX4_looking_0 : List UInt8 := dkwX4_looking_0 ++ dktX4_looking_1
theorem dksX4_looking_0 : cX4_looking.data.toList.drop 0 = dktX4_looking_0 := by decide +kernel
theorem dksX4_looking_1 : cX4_looking.data.toList.drop 22 = dktX4_looking_1 := dk_seg dksX4_looking_0 22 rfl rfl
theorem dksX4_looking_2 : cX4_looking.data.toList.drop 46 = dktX4_looking_2 := dk_seg dksX4_looking_1 24 rfl rfl
theorem dX4_looking_0 : decode cX4_looking 0 = .ok (.aload_n 0, 1) := dk_42 (dk_at dksX4_looking_0 0 rfl rfl)
theorem dX4_looking_1 : decode cX4_looking 1 = .ok (.getfield 278, 3) := dk_180 1 22 (dk_at dksX4_looking_0 1 rfl rfl)
theorem dX4_looking_4 : decode cX4_looking 4 = .ok (.aload_n 0, 1) := dk_42 (dk_at dksX4_looking_0 4 rfl rfl)
theorem dX4_looking_5 : decode cX4_looking 5 = .ok (.getfield 275, 3) := dk_180 1 19 (dk_at dksX4_looking_0 5 rfl rfl)
theorem dX4_looking_8 : decode cX4_looking 8 = .ok (.if_icmp .ge 30, 3) := dk_162 0 30 (dk_at dksX4_looking_0 8 rfl rfl)
theorem dX4_looking_11 : decode cX4_looking 11 = .ok (.aload_n 0, 1) := dk_42 (dk_at dksX4_looking_0 11 rfl rfl)
theorem dX4_looking_12 : decode cX4_looking 12 = .ok (.getfield 19, 3) := dk_180 0 19 (dk_at dksX4_looking_0 12 rfl rfl)
theorem dX4_looking_15 : decode cX4_looking 15 = .ok (.aload_n 0, 1) := dk_42 (dk_at dksX4_looking_0 15 rfl rfl)
theorem dX4_looking_16 : decode cX4_looking 16 = .ok (.getfield 278, 3) := dk_180 1 22 (dk_at dksX4_looking_0 16 rfl rfl)
theorem dX4_looking_19 : decode cX4_looking 19 = .ok (.iaload, 1) := dk_46 (dk_at dksX4_looking_0 19 rfl rfl)
theorem dX4_looking_20 : decode cX4_looking 20 = .ok (.bipush 32, 2) := dk_16 32 (dk_at dksX4_looking_0 20 rfl rfl)
theorem dX4_looking_22 : decode cX4_looking 22 = .ok (.if_icmp .ne 16, 3) := dk_160 0 16 (dk_at dksX4_looking_1 0 rfl rfl)
theorem dX4_looking_25 : decode cX4_looking 25 = .ok (.aload_n 0, 1) := dk_42 (dk_at dksX4_looking_1 3 rfl rfl)
theorem dX4_looking_26 : decode cX4_looking 26 = .ok (.dup, 1) := dk_89 (dk_at dksX4_looking_1 4 rfl rfl)
theorem dX4_looking_27 : decode cX4_looking 27 = .ok (.getfield 278, 3) := dk_180 1 22 (dk_at dksX4_looking_1 5 rfl rfl)
theorem dX4_looking_30 : decode cX4_looking 30 = .ok (.iconst 1, 1) := dk_4 (dk_at dksX4_looking_1 8 rfl rfl)
theorem dX4_looking_31 : decode cX4_looking 31 = .ok (.iadd, 1) := dk_96 (dk_at dksX4_looking_1 9 rfl rfl)
theorem dX4_looking_32 : decode cX4_looking 32 = .ok (.putfield 278, 3) := dk_181 1 22 (dk_at dksX4_looking_1 10 rfl rfl)
theorem dX4_looking_35 : decode cX4_looking 35 = .ok (.goto (-35), 3) := dk_167 255 221 (dk_at dksX4_looking_1 13 rfl rfl)
theorem dX4_looking_38 : decode cX4_looking 38 = .ok (.aload_n 0, 1) := dk_42 (dk_at dksX4_looking_1 16 rfl rfl)
theorem dX4_looking_39 : decode cX4_looking 39 = .ok (.getfield 278, 3) := dk_180 1 22 (dk_at dksX4_looking_1 17 rfl rfl)
theorem dX4_looking_42 : decode cX4_looking 42 = .ok (.aload_n 0, 1) := dk_42 (dk_at dksX4_looking_1 20 rfl rfl)
theorem dX4_looking_43 : decode cX4_looking 43 = .ok (.getfield 275, 3) := dk_180 1 19 (dk_at dksX4_looking_1 21 rfl rfl)
theorem dX4_looking_46 : decode cX4_looking 46 = .ok (.if_icmp .ge 15, 3) := dk_162 0 15 (dk_at dksX4_looking_2 0 rfl rfl)
theorem dX4_looking_49 : decode cX4_looking 49 = .ok (.aload_n 0, 1) := dk_42 (dk_at dksX4_looking_2 3 rfl rfl)
theorem dX4_looking_50 : decode cX4_looking 50 = .ok (.getfield 19, 3) := dk_180 0 19 (dk_at dksX4_looking_2 4 rfl rfl)
theorem dX4_looking_53 : decode cX4_looking 53 = .ok (.aload_n 0, 1) := dk_42 (dk_at dksX4_looking_2 7 rfl rfl)
theorem dX4_looking_54 : decode cX4_looking 54 = .ok (.getfield 278, 3) := dk_180 1 22 (dk_at dksX4_looking_2 8 rfl rfl)
theorem dX4_looking_57 : decode cX4_looking 57 = .ok (.iaload, 1) := dk_46 (dk_at dksX4_looking_2 11 rfl rfl)
theorem dX4_looking_58 : decode cX4_looking 58 = .ok (.goto 4, 3) := dk_167 0 4 (dk_at dksX4_looking_2 12 rfl rfl)
theorem dX4_looking_61 : decode cX4_looking 61 = .ok (.iconst 0, 1) := dk_3 (dk_at dksX4_looking_2 15 rfl rfl)
theorem dX4_looking_62 : decode cX4_looking 62 = .ok (.ireturn, 1) := dk_172 (dk_at dksX4_looking_2 16 rfl rfl)
abbrev cX4_number : ByteArray := prog_19_method_94_code
def yX4_number : MethodName := ⟨RX4, "number", "()I"⟩
def dkwX4_number_4 : List UInt8 := [182, 1, 34, 27, 172]
abbrev dktX4_number_4 : List UInt8 := dkwX4_number_4 ++ []
def dkwX4_number_3 : List UInt8 := [16, 48, 100, 60, 42, 89, 180, 1, 22, 4, 96, 181, 1, 22, 42, 182, 1, 31, 153, 0, 7, 42]
abbrev dktX4_number_3 : List UInt8 := dkwX4_number_3 ++ dktX4_number_4
def dkwX4_number_2 : List UInt8 := [181, 1, 22, 42, 182, 1, 31, 153, 0, 31, 16, 10, 27, 104, 42, 180, 0, 19, 42, 180, 1, 22, 46, 96]
abbrev dktX4_number_2 : List UInt8 := dkwX4_number_2 ++ dktX4_number_3
def dkwX4_number_1 : List UInt8 := [3, 172, 42, 180, 0, 19, 42, 180, 1, 22, 46, 16, 48, 100, 60, 42, 89, 180, 1, 22, 4, 96]
abbrev dktX4_number_1 : List UInt8 := dkwX4_number_1 ++ dktX4_number_2
def dkwX4_number_0 : List UInt8 := [42, 182, 1, 25, 87, 42, 180, 1, 28, 2, 160, 0, 10, 42, 182, 1, 31, 154, 0, 9, 42, 182, 1, 34]
abbrev dktX4_number_0 : List UInt8 := dkwX4_number_0 ++ dktX4_number_1
theorem dksX4_number_0 : cX4_number.data.toList.drop 0 = dktX4_number_0 := by decide +kernel
theorem dksX4_number_1 : cX4_number.data.toList.drop 24 = dktX4_number_1 := dk_seg dksX4_number_0 24 rfl rfl
theorem dksX4_number_2 : cX4_number.data.toList.drop 46 = dktX4_number_2 := dk_seg dksX4_number_1 22 rfl rfl
theorem dksX4_number_3 : cX4_number.data.toList.drop 70 = dktX4_number_3 := dk_seg dksX4_number_2 24 rfl rfl
theorem dksX4_number_4 : cX4_number.data.toList.drop 92 = dktX4_number_4 := dk_seg dksX4_number_3 22 rfl rfl
theorem dX4_number_0 : decode cX4_number 0 = .ok (.aload_n 0, 1) := dk_42 (dk_at dksX4_number_0 0 rfl rfl)
theorem dX4_number_1 : decode cX4_number 1 = .ok (.invokevirtual 281, 3) := dk_182 1 25 (dk_at dksX4_number_0 1 rfl rfl)
theorem dX4_number_4 : decode cX4_number 4 = .ok (.pop, 1) := dk_87 (dk_at dksX4_number_0 4 rfl rfl)
theorem dX4_number_5 : decode cX4_number 5 = .ok (.aload_n 0, 1) := dk_42 (dk_at dksX4_number_0 5 rfl rfl)
theorem dX4_number_6 : decode cX4_number 6 = .ok (.getfield 284, 3) := dk_180 1 28 (dk_at dksX4_number_0 6 rfl rfl)
theorem dX4_number_9 : decode cX4_number 9 = .ok (.iconst (-1), 1) := dk_2 (dk_at dksX4_number_0 9 rfl rfl)
theorem dX4_number_10 : decode cX4_number 10 = .ok (.if_icmp .ne 10, 3) := dk_160 0 10 (dk_at dksX4_number_0 10 rfl rfl)
theorem dX4_number_13 : decode cX4_number 13 = .ok (.aload_n 0, 1) := dk_42 (dk_at dksX4_number_0 13 rfl rfl)
theorem dX4_number_14 : decode cX4_number 14 = .ok (.invokevirtual 287, 3) := dk_182 1 31 (dk_at dksX4_number_0 14 rfl rfl)
theorem dX4_number_17 : decode cX4_number 17 = .ok (.ifCond .ne 9, 3) := dk_154 0 9 (dk_at dksX4_number_0 17 rfl rfl)
theorem dX4_number_20 : decode cX4_number 20 = .ok (.aload_n 0, 1) := dk_42 (dk_at dksX4_number_0 20 rfl rfl)
theorem dX4_number_21 : decode cX4_number 21 = .ok (.invokevirtual 290, 3) := dk_182 1 34 (dk_at dksX4_number_0 21 rfl rfl)
theorem dX4_number_24 : decode cX4_number 24 = .ok (.iconst 0, 1) := dk_3 (dk_at dksX4_number_1 0 rfl rfl)
theorem dX4_number_25 : decode cX4_number 25 = .ok (.ireturn, 1) := dk_172 (dk_at dksX4_number_1 1 rfl rfl)
theorem dX4_number_26 : decode cX4_number 26 = .ok (.aload_n 0, 1) := dk_42 (dk_at dksX4_number_1 2 rfl rfl)
theorem dX4_number_27 : decode cX4_number 27 = .ok (.getfield 19, 3) := dk_180 0 19 (dk_at dksX4_number_1 3 rfl rfl)
theorem dX4_number_30 : decode cX4_number 30 = .ok (.aload_n 0, 1) := dk_42 (dk_at dksX4_number_1 6 rfl rfl)
theorem dX4_number_31 : decode cX4_number 31 = .ok (.getfield 278, 3) := dk_180 1 22 (dk_at dksX4_number_1 7 rfl rfl)
theorem dX4_number_34 : decode cX4_number 34 = .ok (.iaload, 1) := dk_46 (dk_at dksX4_number_1 10 rfl rfl)
theorem dX4_number_35 : decode cX4_number 35 = .ok (.bipush 48, 2) := dk_16 48 (dk_at dksX4_number_1 11 rfl rfl)
theorem dX4_number_37 : decode cX4_number 37 = .ok (.isub, 1) := dk_100 (dk_at dksX4_number_1 13 rfl rfl)
theorem dX4_number_38 : decode cX4_number 38 = .ok (.istore_n 1, 1) := dk_60 (dk_at dksX4_number_1 14 rfl rfl)
theorem dX4_number_39 : decode cX4_number 39 = .ok (.aload_n 0, 1) := dk_42 (dk_at dksX4_number_1 15 rfl rfl)
theorem dX4_number_40 : decode cX4_number 40 = .ok (.dup, 1) := dk_89 (dk_at dksX4_number_1 16 rfl rfl)
theorem dX4_number_41 : decode cX4_number 41 = .ok (.getfield 278, 3) := dk_180 1 22 (dk_at dksX4_number_1 17 rfl rfl)
theorem dX4_number_44 : decode cX4_number 44 = .ok (.iconst 1, 1) := dk_4 (dk_at dksX4_number_1 20 rfl rfl)
theorem dX4_number_45 : decode cX4_number 45 = .ok (.iadd, 1) := dk_96 (dk_at dksX4_number_1 21 rfl rfl)
theorem dX4_number_46 : decode cX4_number 46 = .ok (.putfield 278, 3) := dk_181 1 22 (dk_at dksX4_number_2 0 rfl rfl)
theorem dX4_number_49 : decode cX4_number 49 = .ok (.aload_n 0, 1) := dk_42 (dk_at dksX4_number_2 3 rfl rfl)
theorem dX4_number_50 : decode cX4_number 50 = .ok (.invokevirtual 287, 3) := dk_182 1 31 (dk_at dksX4_number_2 4 rfl rfl)
theorem dX4_number_53 : decode cX4_number 53 = .ok (.ifCond .eq 31, 3) := dk_153 0 31 (dk_at dksX4_number_2 7 rfl rfl)
theorem dX4_number_56 : decode cX4_number 56 = .ok (.bipush 10, 2) := dk_16 10 (dk_at dksX4_number_2 10 rfl rfl)
theorem dX4_number_58 : decode cX4_number 58 = .ok (.iload_n 1, 1) := dk_27 (dk_at dksX4_number_2 12 rfl rfl)
theorem dX4_number_59 : decode cX4_number 59 = .ok (.imul, 1) := dk_104 (dk_at dksX4_number_2 13 rfl rfl)
theorem dX4_number_60 : decode cX4_number 60 = .ok (.aload_n 0, 1) := dk_42 (dk_at dksX4_number_2 14 rfl rfl)
theorem dX4_number_61 : decode cX4_number 61 = .ok (.getfield 19, 3) := dk_180 0 19 (dk_at dksX4_number_2 15 rfl rfl)
theorem dX4_number_64 : decode cX4_number 64 = .ok (.aload_n 0, 1) := dk_42 (dk_at dksX4_number_2 18 rfl rfl)
theorem dX4_number_65 : decode cX4_number 65 = .ok (.getfield 278, 3) := dk_180 1 22 (dk_at dksX4_number_2 19 rfl rfl)
theorem dX4_number_68 : decode cX4_number 68 = .ok (.iaload, 1) := dk_46 (dk_at dksX4_number_2 22 rfl rfl)
theorem dX4_number_69 : decode cX4_number 69 = .ok (.iadd, 1) := dk_96 (dk_at dksX4_number_2 23 rfl rfl)
theorem dX4_number_70 : decode cX4_number 70 = .ok (.bipush 48, 2) := dk_16 48 (dk_at dksX4_number_3 0 rfl rfl)
theorem dX4_number_72 : decode cX4_number 72 = .ok (.isub, 1) := dk_100 (dk_at dksX4_number_3 2 rfl rfl)
theorem dX4_number_73 : decode cX4_number 73 = .ok (.istore_n 1, 1) := dk_60 (dk_at dksX4_number_3 3 rfl rfl)
theorem dX4_number_74 : decode cX4_number 74 = .ok (.aload_n 0, 1) := dk_42 (dk_at dksX4_number_3 4 rfl rfl)
theorem dX4_number_75 : decode cX4_number 75 = .ok (.dup, 1) := dk_89 (dk_at dksX4_number_3 5 rfl rfl)
theorem dX4_number_76 : decode cX4_number 76 = .ok (.getfield 278, 3) := dk_180 1 22 (dk_at dksX4_number_3 6 rfl rfl)
theorem dX4_number_79 : decode cX4_number 79 = .ok (.iconst 1, 1) := dk_4 (dk_at dksX4_number_3 9 rfl rfl)
theorem dX4_number_80 : decode cX4_number 80 = .ok (.iadd, 1) := dk_96 (dk_at dksX4_number_3 10 rfl rfl)
theorem dX4_number_81 : decode cX4_number 81 = .ok (.putfield 278, 3) := dk_181 1 22 (dk_at dksX4_number_3 11 rfl rfl)
theorem dX4_number_84 : decode cX4_number 84 = .ok (.aload_n 0, 1) := dk_42 (dk_at dksX4_number_3 14 rfl rfl)
theorem dX4_number_85 : decode cX4_number 85 = .ok (.invokevirtual 287, 3) := dk_182 1 31 (dk_at dksX4_number_3 15 rfl rfl)
theorem dX4_number_88 : decode cX4_number 88 = .ok (.ifCond .eq 7, 3) := dk_153 0 7 (dk_at dksX4_number_3 18 rfl rfl)
theorem dX4_number_91 : decode cX4_number 91 = .ok (.aload_n 0, 1) := dk_42 (dk_at dksX4_number_3 21 rfl rfl)
theorem dX4_number_92 : decode cX4_number 92 = .ok (.invokevirtual 290, 3) := dk_182 1 34 (dk_at dksX4_number_4 0 rfl rfl)
theorem dX4_number_95 : decode cX4_number 95 = .ok (.iload_n 1, 1) := dk_27 (dk_at dksX4_number_4 3 rfl rfl)
theorem dX4_number_96 : decode cX4_number 96 = .ok (.ireturn, 1) := dk_172 (dk_at dksX4_number_4 4 rfl rfl)
abbrev cX4_isDigit : ByteArray := prog_19_method_93_code
def yX4_isDigit : MethodName := ⟨RX4, "isDigit", "()Z"⟩
def dkwX4_isDigit_1 : List UInt8 := [184, 0, 69, 153, 0, 7, 4, 167, 0, 4, 3, 172]
abbrev dktX4_isDigit_1 : List UInt8 := dkwX4_isDigit_1 ++ []
def dkwX4_isDigit_0 : List UInt8 := [42, 180, 1, 22, 42, 180, 1, 19, 162, 0, 26, 42, 180, 0, 19, 42, 180, 1, 22, 46, 16, 48, 16, 57]
abbrev dktX4_isDigit_0 : List UInt8 := dkwX4_isDigit_0 ++ dktX4_isDigit_1
theorem dksX4_isDigit_0 : cX4_isDigit.data.toList.drop 0 = dktX4_isDigit_0 := by decide +kernel
theorem dksX4_isDigit_1 : cX4_isDigit.data.toList.drop 24 = dktX4_isDigit_1 := dk_seg dksX4_isDigit_0 24 rfl rfl
theorem dX4_isDigit_0 : decode cX4_isDigit 0 = .ok (.aload_n 0, 1) := dk_42 (dk_at dksX4_isDigit_0 0 rfl rfl)
theorem dX4_isDigit_1 : decode cX4_isDigit 1 = .ok (.getfield 278, 3) := dk_180 1 22 (dk_at dksX4_isDigit_0 1 rfl rfl)
theorem dX4_isDigit_4 : decode cX4_isDigit 4 = .ok (.aload_n 0, 1) := dk_42 (dk_at dksX4_isDigit_0 4 rfl rfl)
theorem dX4_isDigit_5 : decode cX4_isDigit 5 = .ok (.getfield 275, 3) := dk_180 1 19 (dk_at dksX4_isDigit_0 5 rfl rfl)
theorem dX4_isDigit_8 : decode cX4_isDigit 8 = .ok (.if_icmp .ge 26, 3) := dk_162 0 26 (dk_at dksX4_isDigit_0 8 rfl rfl)
theorem dX4_isDigit_11 : decode cX4_isDigit 11 = .ok (.aload_n 0, 1) := dk_42 (dk_at dksX4_isDigit_0 11 rfl rfl)
theorem dX4_isDigit_12 : decode cX4_isDigit 12 = .ok (.getfield 19, 3) := dk_180 0 19 (dk_at dksX4_isDigit_0 12 rfl rfl)
theorem dX4_isDigit_15 : decode cX4_isDigit 15 = .ok (.aload_n 0, 1) := dk_42 (dk_at dksX4_isDigit_0 15 rfl rfl)
theorem dX4_isDigit_16 : decode cX4_isDigit 16 = .ok (.getfield 278, 3) := dk_180 1 22 (dk_at dksX4_isDigit_0 16 rfl rfl)
theorem dX4_isDigit_19 : decode cX4_isDigit 19 = .ok (.iaload, 1) := dk_46 (dk_at dksX4_isDigit_0 19 rfl rfl)
theorem dX4_isDigit_20 : decode cX4_isDigit 20 = .ok (.bipush 48, 2) := dk_16 48 (dk_at dksX4_isDigit_0 20 rfl rfl)
theorem dX4_isDigit_22 : decode cX4_isDigit 22 = .ok (.bipush 57, 2) := dk_16 57 (dk_at dksX4_isDigit_0 22 rfl rfl)
theorem dX4_isDigit_24 : decode cX4_isDigit 24 = .ok (.invokestatic 69, 3) := dk_184 0 69 (dk_at dksX4_isDigit_1 0 rfl rfl)
theorem dX4_isDigit_27 : decode cX4_isDigit 27 = .ok (.ifCond .eq 7, 3) := dk_153 0 7 (dk_at dksX4_isDigit_1 3 rfl rfl)
theorem dX4_isDigit_30 : decode cX4_isDigit 30 = .ok (.iconst 1, 1) := dk_4 (dk_at dksX4_isDigit_1 6 rfl rfl)
theorem dX4_isDigit_31 : decode cX4_isDigit 31 = .ok (.goto 4, 3) := dk_167 0 4 (dk_at dksX4_isDigit_1 7 rfl rfl)
theorem dX4_isDigit_34 : decode cX4_isDigit 34 = .ok (.iconst 0, 1) := dk_3 (dk_at dksX4_isDigit_1 10 rfl rfl)
theorem dX4_isDigit_35 : decode cX4_isDigit 35 = .ok (.ireturn, 1) := dk_172 (dk_at dksX4_isDigit_1 11 rfl rfl)
abbrev cX4_fails : ByteArray := prog_19_method_95_code
def yX4_fails : MethodName := ⟨RX4, "fails", "()V"⟩
def dkwX4_fails_0 : List UInt8 := [42, 42, 180, 1, 28, 2, 160, 0, 10, 42, 180, 1, 22, 167, 0, 7, 42, 180, 1, 28, 181, 1, 28, 177]
abbrev dktX4_fails_0 : List UInt8 := dkwX4_fails_0 ++ []
theorem dksX4_fails_0 : cX4_fails.data.toList.drop 0 = dktX4_fails_0 := by decide +kernel
theorem dX4_fails_0 : decode cX4_fails 0 = .ok (.aload_n 0, 1) := dk_42 (dk_at dksX4_fails_0 0 rfl rfl)
theorem dX4_fails_1 : decode cX4_fails 1 = .ok (.aload_n 0, 1) := dk_42 (dk_at dksX4_fails_0 1 rfl rfl)
theorem dX4_fails_2 : decode cX4_fails 2 = .ok (.getfield 284, 3) := dk_180 1 28 (dk_at dksX4_fails_0 2 rfl rfl)
theorem dX4_fails_5 : decode cX4_fails 5 = .ok (.iconst (-1), 1) := dk_2 (dk_at dksX4_fails_0 5 rfl rfl)
theorem dX4_fails_6 : decode cX4_fails 6 = .ok (.if_icmp .ne 10, 3) := dk_160 0 10 (dk_at dksX4_fails_0 6 rfl rfl)
theorem dX4_fails_9 : decode cX4_fails 9 = .ok (.aload_n 0, 1) := dk_42 (dk_at dksX4_fails_0 9 rfl rfl)
theorem dX4_fails_10 : decode cX4_fails 10 = .ok (.getfield 278, 3) := dk_180 1 22 (dk_at dksX4_fails_0 10 rfl rfl)
theorem dX4_fails_13 : decode cX4_fails 13 = .ok (.goto 7, 3) := dk_167 0 7 (dk_at dksX4_fails_0 13 rfl rfl)
theorem dX4_fails_16 : decode cX4_fails 16 = .ok (.aload_n 0, 1) := dk_42 (dk_at dksX4_fails_0 16 rfl rfl)
theorem dX4_fails_17 : decode cX4_fails 17 = .ok (.getfield 284, 3) := dk_180 1 28 (dk_at dksX4_fails_0 17 rfl rfl)
theorem dX4_fails_20 : decode cX4_fails 20 = .ok (.putfield 284, 3) := dk_181 1 28 (dk_at dksX4_fails_0 20 rfl rfl)
theorem dX4_fails_23 : decode cX4_fails 23 = .ok (.return_, 1) := dk_177 (dk_at dksX4_fails_0 23 rfl rfl)
abbrev cX4_sign : ByteArray := prog_19_method_96_code
def yX4_sign : MethodName := ⟨RX4, "sign", "(I)V"⟩
def dkwX4_sign_1 : List UInt8 := [181, 1, 22, 167, 0, 7, 42, 182, 1, 34, 177]
abbrev dktX4_sign_1 : List UInt8 := dkwX4_sign_1 ++ []
def dkwX4_sign_0 : List UInt8 := [42, 180, 1, 28, 2, 160, 0, 24, 42, 182, 1, 25, 27, 160, 0, 16, 42, 89, 180, 1, 22, 4, 96]
abbrev dktX4_sign_0 : List UInt8 := dkwX4_sign_0 ++ dktX4_sign_1
theorem dksX4_sign_0 : cX4_sign.data.toList.drop 0 = dktX4_sign_0 := by decide +kernel
theorem dksX4_sign_1 : cX4_sign.data.toList.drop 23 = dktX4_sign_1 := dk_seg dksX4_sign_0 23 rfl rfl
theorem dX4_sign_0 : decode cX4_sign 0 = .ok (.aload_n 0, 1) := dk_42 (dk_at dksX4_sign_0 0 rfl rfl)
theorem dX4_sign_1 : decode cX4_sign 1 = .ok (.getfield 284, 3) := dk_180 1 28 (dk_at dksX4_sign_0 1 rfl rfl)
theorem dX4_sign_4 : decode cX4_sign 4 = .ok (.iconst (-1), 1) := dk_2 (dk_at dksX4_sign_0 4 rfl rfl)
theorem dX4_sign_5 : decode cX4_sign 5 = .ok (.if_icmp .ne 24, 3) := dk_160 0 24 (dk_at dksX4_sign_0 5 rfl rfl)
theorem dX4_sign_8 : decode cX4_sign 8 = .ok (.aload_n 0, 1) := dk_42 (dk_at dksX4_sign_0 8 rfl rfl)
theorem dX4_sign_9 : decode cX4_sign 9 = .ok (.invokevirtual 281, 3) := dk_182 1 25 (dk_at dksX4_sign_0 9 rfl rfl)
theorem dX4_sign_12 : decode cX4_sign 12 = .ok (.iload_n 1, 1) := dk_27 (dk_at dksX4_sign_0 12 rfl rfl)
theorem dX4_sign_13 : decode cX4_sign 13 = .ok (.if_icmp .ne 16, 3) := dk_160 0 16 (dk_at dksX4_sign_0 13 rfl rfl)
theorem dX4_sign_16 : decode cX4_sign 16 = .ok (.aload_n 0, 1) := dk_42 (dk_at dksX4_sign_0 16 rfl rfl)
theorem dX4_sign_17 : decode cX4_sign 17 = .ok (.dup, 1) := dk_89 (dk_at dksX4_sign_0 17 rfl rfl)
theorem dX4_sign_18 : decode cX4_sign 18 = .ok (.getfield 278, 3) := dk_180 1 22 (dk_at dksX4_sign_0 18 rfl rfl)
theorem dX4_sign_21 : decode cX4_sign 21 = .ok (.iconst 1, 1) := dk_4 (dk_at dksX4_sign_0 21 rfl rfl)
theorem dX4_sign_22 : decode cX4_sign 22 = .ok (.iadd, 1) := dk_96 (dk_at dksX4_sign_0 22 rfl rfl)
theorem dX4_sign_23 : decode cX4_sign 23 = .ok (.putfield 278, 3) := dk_181 1 22 (dk_at dksX4_sign_1 0 rfl rfl)
theorem dX4_sign_26 : decode cX4_sign 26 = .ok (.goto 7, 3) := dk_167 0 7 (dk_at dksX4_sign_1 3 rfl rfl)
theorem dX4_sign_29 : decode cX4_sign 29 = .ok (.aload_n 0, 1) := dk_42 (dk_at dksX4_sign_1 6 rfl rfl)
theorem dX4_sign_30 : decode cX4_sign 30 = .ok (.invokevirtual 290, 3) := dk_182 1 34 (dk_at dksX4_sign_1 7 rfl rfl)
theorem dX4_sign_33 : decode cX4_sign 33 = .ok (.return_, 1) := dk_177 (dk_at dksX4_sign_1 10 rfl rfl)
abbrev cX4_isDone : ByteArray := prog_19_method_98_code
def yX4_isDone : MethodName := ⟨RX4, "isDone", "(IIII)Z"⟩
def dkwX4_isDone_5 : List UInt8 := [27, 16, 119, 160, 0, 7, 4, 167, 0, 5, 16, 9, 28, 96, 29, 79, 21, 5, 172]
abbrev dktX4_isDone_5 : List UInt8 := dkwX4_isDone_5 ++ []
def dkwX4_isDone_4 : List UInt8 := [160, 0, 15, 42, 28, 29, 21, 4, 182, 0, 119, 87, 167, 0, 28, 21, 5, 153, 0, 23, 42, 180, 0, 7]
abbrev dktX4_isDone_4 : List UInt8 := dkwX4_isDone_4 ++ dktX4_isDone_5
def dkwX4_isDone_3 : List UInt8 := [154, 0, 15, 42, 28, 29, 21, 4, 182, 0, 94, 87, 167, 0, 51, 21, 5, 153, 0, 21, 27, 16, 120]
abbrev dktX4_isDone_3 : List UInt8 := dkwX4_isDone_3 ++ dktX4_isDone_4
def dkwX4_isDone_2 : List UInt8 := [42, 28, 29, 182, 0, 113, 154, 0, 7, 4, 167, 0, 4, 3, 54, 5, 21, 5, 153, 0, 19, 27]
abbrev dktX4_isDone_2 : List UInt8 := dkwX4_isDone_2 ++ dktX4_isDone_3
def dkwX4_isDone_1 : List UInt8 := [16, 120, 160, 0, 22, 42, 28, 29, 21, 4, 182, 0, 116, 154, 0, 7, 4, 167, 0, 21, 3, 167, 0, 17]
abbrev dktX4_isDone_1 : List UInt8 := dkwX4_isDone_1 ++ dktX4_isDone_2
def dkwX4_isDone_0 : List UInt8 := [27, 154, 0, 22, 42, 28, 29, 21, 4, 182, 0, 90, 154, 0, 7, 4, 167, 0, 46, 3, 167, 0, 42, 27]
abbrev dktX4_isDone_0 : List UInt8 := dkwX4_isDone_0 ++ dktX4_isDone_1
theorem dksX4_isDone_0 : cX4_isDone.data.toList.drop 0 = dktX4_isDone_0 := by decide +kernel
theorem dksX4_isDone_1 : cX4_isDone.data.toList.drop 24 = dktX4_isDone_1 := dk_seg dksX4_isDone_0 24 rfl rfl
theorem dksX4_isDone_2 : cX4_isDone.data.toList.drop 48 = dktX4_isDone_2 := dk_seg dksX4_isDone_1 24 rfl rfl
theorem dksX4_isDone_3 : cX4_isDone.data.toList.drop 70 = dktX4_isDone_3 := dk_seg dksX4_isDone_2 22 rfl rfl
theorem dksX4_isDone_4 : cX4_isDone.data.toList.drop 93 = dktX4_isDone_4 := dk_seg dksX4_isDone_3 23 rfl rfl
theorem dksX4_isDone_5 : cX4_isDone.data.toList.drop 117 = dktX4_isDone_5 := dk_seg dksX4_isDone_4 24 rfl rfl
theorem dX4_isDone_0 : decode cX4_isDone 0 = .ok (.iload_n 1, 1) := dk_27 (dk_at dksX4_isDone_0 0 rfl rfl)
theorem dX4_isDone_1 : decode cX4_isDone 1 = .ok (.ifCond .ne 22, 3) := dk_154 0 22 (dk_at dksX4_isDone_0 1 rfl rfl)
theorem dX4_isDone_4 : decode cX4_isDone 4 = .ok (.aload_n 0, 1) := dk_42 (dk_at dksX4_isDone_0 4 rfl rfl)
theorem dX4_isDone_5 : decode cX4_isDone 5 = .ok (.iload_n 2, 1) := dk_28 (dk_at dksX4_isDone_0 5 rfl rfl)
theorem dX4_isDone_6 : decode cX4_isDone 6 = .ok (.iload_n 3, 1) := dk_29 (dk_at dksX4_isDone_0 6 rfl rfl)
theorem dX4_isDone_7 : decode cX4_isDone 7 = .ok (.iload 4, 2) := dk_21 4 (dk_at dksX4_isDone_0 7 rfl rfl)
theorem dX4_isDone_9 : decode cX4_isDone 9 = .ok (.invokevirtual 90, 3) := dk_182 0 90 (dk_at dksX4_isDone_0 9 rfl rfl)
theorem dX4_isDone_12 : decode cX4_isDone 12 = .ok (.ifCond .ne 7, 3) := dk_154 0 7 (dk_at dksX4_isDone_0 12 rfl rfl)
theorem dX4_isDone_15 : decode cX4_isDone 15 = .ok (.iconst 1, 1) := dk_4 (dk_at dksX4_isDone_0 15 rfl rfl)
theorem dX4_isDone_16 : decode cX4_isDone 16 = .ok (.goto 46, 3) := dk_167 0 46 (dk_at dksX4_isDone_0 16 rfl rfl)
theorem dX4_isDone_19 : decode cX4_isDone 19 = .ok (.iconst 0, 1) := dk_3 (dk_at dksX4_isDone_0 19 rfl rfl)
theorem dX4_isDone_20 : decode cX4_isDone 20 = .ok (.goto 42, 3) := dk_167 0 42 (dk_at dksX4_isDone_0 20 rfl rfl)
theorem dX4_isDone_23 : decode cX4_isDone 23 = .ok (.iload_n 1, 1) := dk_27 (dk_at dksX4_isDone_0 23 rfl rfl)
theorem dX4_isDone_24 : decode cX4_isDone 24 = .ok (.bipush 120, 2) := dk_16 120 (dk_at dksX4_isDone_1 0 rfl rfl)
theorem dX4_isDone_26 : decode cX4_isDone 26 = .ok (.if_icmp .ne 22, 3) := dk_160 0 22 (dk_at dksX4_isDone_1 2 rfl rfl)
theorem dX4_isDone_29 : decode cX4_isDone 29 = .ok (.aload_n 0, 1) := dk_42 (dk_at dksX4_isDone_1 5 rfl rfl)
theorem dX4_isDone_30 : decode cX4_isDone 30 = .ok (.iload_n 2, 1) := dk_28 (dk_at dksX4_isDone_1 6 rfl rfl)
theorem dX4_isDone_31 : decode cX4_isDone 31 = .ok (.iload_n 3, 1) := dk_29 (dk_at dksX4_isDone_1 7 rfl rfl)
theorem dX4_isDone_32 : decode cX4_isDone 32 = .ok (.iload 4, 2) := dk_21 4 (dk_at dksX4_isDone_1 8 rfl rfl)
theorem dX4_isDone_34 : decode cX4_isDone 34 = .ok (.invokevirtual 116, 3) := dk_182 0 116 (dk_at dksX4_isDone_1 10 rfl rfl)
theorem dX4_isDone_37 : decode cX4_isDone 37 = .ok (.ifCond .ne 7, 3) := dk_154 0 7 (dk_at dksX4_isDone_1 13 rfl rfl)
theorem dX4_isDone_40 : decode cX4_isDone 40 = .ok (.iconst 1, 1) := dk_4 (dk_at dksX4_isDone_1 16 rfl rfl)
theorem dX4_isDone_41 : decode cX4_isDone 41 = .ok (.goto 21, 3) := dk_167 0 21 (dk_at dksX4_isDone_1 17 rfl rfl)
theorem dX4_isDone_44 : decode cX4_isDone 44 = .ok (.iconst 0, 1) := dk_3 (dk_at dksX4_isDone_1 20 rfl rfl)
theorem dX4_isDone_45 : decode cX4_isDone 45 = .ok (.goto 17, 3) := dk_167 0 17 (dk_at dksX4_isDone_1 21 rfl rfl)
theorem dX4_isDone_48 : decode cX4_isDone 48 = .ok (.aload_n 0, 1) := dk_42 (dk_at dksX4_isDone_2 0 rfl rfl)
theorem dX4_isDone_49 : decode cX4_isDone 49 = .ok (.iload_n 2, 1) := dk_28 (dk_at dksX4_isDone_2 1 rfl rfl)
theorem dX4_isDone_50 : decode cX4_isDone 50 = .ok (.iload_n 3, 1) := dk_29 (dk_at dksX4_isDone_2 2 rfl rfl)
theorem dX4_isDone_51 : decode cX4_isDone 51 = .ok (.invokevirtual 113, 3) := dk_182 0 113 (dk_at dksX4_isDone_2 3 rfl rfl)
theorem dX4_isDone_54 : decode cX4_isDone 54 = .ok (.ifCond .ne 7, 3) := dk_154 0 7 (dk_at dksX4_isDone_2 6 rfl rfl)
theorem dX4_isDone_57 : decode cX4_isDone 57 = .ok (.iconst 1, 1) := dk_4 (dk_at dksX4_isDone_2 9 rfl rfl)
theorem dX4_isDone_58 : decode cX4_isDone 58 = .ok (.goto 4, 3) := dk_167 0 4 (dk_at dksX4_isDone_2 10 rfl rfl)
theorem dX4_isDone_61 : decode cX4_isDone 61 = .ok (.iconst 0, 1) := dk_3 (dk_at dksX4_isDone_2 13 rfl rfl)
theorem dX4_isDone_62 : decode cX4_isDone 62 = .ok (.istore 5, 2) := dk_54 5 (dk_at dksX4_isDone_2 14 rfl rfl)
theorem dX4_isDone_64 : decode cX4_isDone 64 = .ok (.iload 5, 2) := dk_21 5 (dk_at dksX4_isDone_2 16 rfl rfl)
theorem dX4_isDone_66 : decode cX4_isDone 66 = .ok (.ifCond .eq 19, 3) := dk_153 0 19 (dk_at dksX4_isDone_2 18 rfl rfl)
theorem dX4_isDone_69 : decode cX4_isDone 69 = .ok (.iload_n 1, 1) := dk_27 (dk_at dksX4_isDone_2 21 rfl rfl)
theorem dX4_isDone_70 : decode cX4_isDone 70 = .ok (.ifCond .ne 15, 3) := dk_154 0 15 (dk_at dksX4_isDone_3 0 rfl rfl)
theorem dX4_isDone_73 : decode cX4_isDone 73 = .ok (.aload_n 0, 1) := dk_42 (dk_at dksX4_isDone_3 3 rfl rfl)
theorem dX4_isDone_74 : decode cX4_isDone 74 = .ok (.iload_n 2, 1) := dk_28 (dk_at dksX4_isDone_3 4 rfl rfl)
theorem dX4_isDone_75 : decode cX4_isDone 75 = .ok (.iload_n 3, 1) := dk_29 (dk_at dksX4_isDone_3 5 rfl rfl)
theorem dX4_isDone_76 : decode cX4_isDone 76 = .ok (.iload 4, 2) := dk_21 4 (dk_at dksX4_isDone_3 6 rfl rfl)
theorem dX4_isDone_78 : decode cX4_isDone 78 = .ok (.invokevirtual 94, 3) := dk_182 0 94 (dk_at dksX4_isDone_3 8 rfl rfl)
theorem dX4_isDone_81 : decode cX4_isDone 81 = .ok (.pop, 1) := dk_87 (dk_at dksX4_isDone_3 11 rfl rfl)
theorem dX4_isDone_82 : decode cX4_isDone 82 = .ok (.goto 51, 3) := dk_167 0 51 (dk_at dksX4_isDone_3 12 rfl rfl)
theorem dX4_isDone_85 : decode cX4_isDone 85 = .ok (.iload 5, 2) := dk_21 5 (dk_at dksX4_isDone_3 15 rfl rfl)
theorem dX4_isDone_87 : decode cX4_isDone 87 = .ok (.ifCond .eq 21, 3) := dk_153 0 21 (dk_at dksX4_isDone_3 17 rfl rfl)
theorem dX4_isDone_90 : decode cX4_isDone 90 = .ok (.iload_n 1, 1) := dk_27 (dk_at dksX4_isDone_3 20 rfl rfl)
theorem dX4_isDone_91 : decode cX4_isDone 91 = .ok (.bipush 120, 2) := dk_16 120 (dk_at dksX4_isDone_3 21 rfl rfl)
theorem dX4_isDone_93 : decode cX4_isDone 93 = .ok (.if_icmp .ne 15, 3) := dk_160 0 15 (dk_at dksX4_isDone_4 0 rfl rfl)
theorem dX4_isDone_96 : decode cX4_isDone 96 = .ok (.aload_n 0, 1) := dk_42 (dk_at dksX4_isDone_4 3 rfl rfl)
theorem dX4_isDone_97 : decode cX4_isDone 97 = .ok (.iload_n 2, 1) := dk_28 (dk_at dksX4_isDone_4 4 rfl rfl)
theorem dX4_isDone_98 : decode cX4_isDone 98 = .ok (.iload_n 3, 1) := dk_29 (dk_at dksX4_isDone_4 5 rfl rfl)
theorem dX4_isDone_99 : decode cX4_isDone 99 = .ok (.iload 4, 2) := dk_21 4 (dk_at dksX4_isDone_4 6 rfl rfl)
theorem dX4_isDone_101 : decode cX4_isDone 101 = .ok (.invokevirtual 119, 3) := dk_182 0 119 (dk_at dksX4_isDone_4 8 rfl rfl)
theorem dX4_isDone_104 : decode cX4_isDone 104 = .ok (.pop, 1) := dk_87 (dk_at dksX4_isDone_4 11 rfl rfl)
theorem dX4_isDone_105 : decode cX4_isDone 105 = .ok (.goto 28, 3) := dk_167 0 28 (dk_at dksX4_isDone_4 12 rfl rfl)
theorem dX4_isDone_108 : decode cX4_isDone 108 = .ok (.iload 5, 2) := dk_21 5 (dk_at dksX4_isDone_4 15 rfl rfl)
theorem dX4_isDone_110 : decode cX4_isDone 110 = .ok (.ifCond .eq 23, 3) := dk_153 0 23 (dk_at dksX4_isDone_4 17 rfl rfl)
theorem dX4_isDone_113 : decode cX4_isDone 113 = .ok (.aload_n 0, 1) := dk_42 (dk_at dksX4_isDone_4 20 rfl rfl)
theorem dX4_isDone_114 : decode cX4_isDone 114 = .ok (.getfield 7, 3) := dk_180 0 7 (dk_at dksX4_isDone_4 21 rfl rfl)
theorem dX4_isDone_117 : decode cX4_isDone 117 = .ok (.iload_n 1, 1) := dk_27 (dk_at dksX4_isDone_5 0 rfl rfl)
theorem dX4_isDone_118 : decode cX4_isDone 118 = .ok (.bipush 119, 2) := dk_16 119 (dk_at dksX4_isDone_5 1 rfl rfl)
theorem dX4_isDone_120 : decode cX4_isDone 120 = .ok (.if_icmp .ne 7, 3) := dk_160 0 7 (dk_at dksX4_isDone_5 3 rfl rfl)
theorem dX4_isDone_123 : decode cX4_isDone 123 = .ok (.iconst 1, 1) := dk_4 (dk_at dksX4_isDone_5 6 rfl rfl)
theorem dX4_isDone_124 : decode cX4_isDone 124 = .ok (.goto 5, 3) := dk_167 0 5 (dk_at dksX4_isDone_5 7 rfl rfl)
theorem dX4_isDone_127 : decode cX4_isDone 127 = .ok (.bipush 9, 2) := dk_16 9 (dk_at dksX4_isDone_5 10 rfl rfl)
theorem dX4_isDone_129 : decode cX4_isDone 129 = .ok (.iload_n 2, 1) := dk_28 (dk_at dksX4_isDone_5 12 rfl rfl)
theorem dX4_isDone_130 : decode cX4_isDone 130 = .ok (.iadd, 1) := dk_96 (dk_at dksX4_isDone_5 13 rfl rfl)
theorem dX4_isDone_131 : decode cX4_isDone 131 = .ok (.iload_n 3, 1) := dk_29 (dk_at dksX4_isDone_5 14 rfl rfl)
theorem dX4_isDone_132 : decode cX4_isDone 132 = .ok (.iastore, 1) := dk_79 (dk_at dksX4_isDone_5 15 rfl rfl)
theorem dX4_isDone_133 : decode cX4_isDone 133 = .ok (.iload 5, 2) := dk_21 5 (dk_at dksX4_isDone_5 16 rfl rfl)
theorem dX4_isDone_135 : decode cX4_isDone 135 = .ok (.ireturn, 1) := dk_172 (dk_at dksX4_isDone_5 18 rfl rfl)
abbrev cX4_run : ByteArray := prog_19_method_100_code
def yX4_run : MethodName := ⟨RX4, "run", "()I"⟩
def dkwX4_run_1 : List UInt8 := [182, 0, 76, 42, 4, 182, 1, 50, 87, 42, 180, 1, 37, 172]
abbrev dktX4_run_1 : List UInt8 := dkwX4_run_1 ++ []
def dkwX4_run_0 : List UInt8 := [42, 42, 3, 182, 1, 50, 2, 160, 0, 7, 3, 167, 0, 4, 4, 182, 0, 61, 153, 0, 5, 3, 172, 42]
abbrev dktX4_run_0 : List UInt8 := dkwX4_run_0 ++ dktX4_run_1
theorem dksX4_run_0 : cX4_run.data.toList.drop 0 = dktX4_run_0 := by decide +kernel
theorem dksX4_run_1 : cX4_run.data.toList.drop 24 = dktX4_run_1 := dk_seg dksX4_run_0 24 rfl rfl
theorem dX4_run_0 : decode cX4_run 0 = .ok (.aload_n 0, 1) := dk_42 (dk_at dksX4_run_0 0 rfl rfl)
theorem dX4_run_1 : decode cX4_run 1 = .ok (.aload_n 0, 1) := dk_42 (dk_at dksX4_run_0 1 rfl rfl)
theorem dX4_run_2 : decode cX4_run 2 = .ok (.iconst 0, 1) := dk_3 (dk_at dksX4_run_0 2 rfl rfl)
theorem dX4_run_3 : decode cX4_run 3 = .ok (.invokevirtual 306, 3) := dk_182 1 50 (dk_at dksX4_run_0 3 rfl rfl)
theorem dX4_run_6 : decode cX4_run 6 = .ok (.iconst (-1), 1) := dk_2 (dk_at dksX4_run_0 6 rfl rfl)
theorem dX4_run_7 : decode cX4_run 7 = .ok (.if_icmp .ne 7, 3) := dk_160 0 7 (dk_at dksX4_run_0 7 rfl rfl)
theorem dX4_run_10 : decode cX4_run 10 = .ok (.iconst 0, 1) := dk_3 (dk_at dksX4_run_0 10 rfl rfl)
theorem dX4_run_11 : decode cX4_run 11 = .ok (.goto 4, 3) := dk_167 0 4 (dk_at dksX4_run_0 11 rfl rfl)
theorem dX4_run_14 : decode cX4_run 14 = .ok (.iconst 1, 1) := dk_4 (dk_at dksX4_run_0 14 rfl rfl)
theorem dX4_run_15 : decode cX4_run 15 = .ok (.invokevirtual 61, 3) := dk_182 0 61 (dk_at dksX4_run_0 15 rfl rfl)
theorem dX4_run_18 : decode cX4_run 18 = .ok (.ifCond .eq 5, 3) := dk_153 0 5 (dk_at dksX4_run_0 18 rfl rfl)
theorem dX4_run_21 : decode cX4_run 21 = .ok (.iconst 0, 1) := dk_3 (dk_at dksX4_run_0 21 rfl rfl)
theorem dX4_run_22 : decode cX4_run 22 = .ok (.ireturn, 1) := dk_172 (dk_at dksX4_run_0 22 rfl rfl)
theorem dX4_run_23 : decode cX4_run 23 = .ok (.aload_n 0, 1) := dk_42 (dk_at dksX4_run_0 23 rfl rfl)
theorem dX4_run_24 : decode cX4_run 24 = .ok (.invokevirtual 76, 3) := dk_182 0 76 (dk_at dksX4_run_1 0 rfl rfl)
theorem dX4_run_27 : decode cX4_run 27 = .ok (.aload_n 0, 1) := dk_42 (dk_at dksX4_run_1 3 rfl rfl)
theorem dX4_run_28 : decode cX4_run 28 = .ok (.iconst 1, 1) := dk_4 (dk_at dksX4_run_1 4 rfl rfl)
theorem dX4_run_29 : decode cX4_run 29 = .ok (.invokevirtual 306, 3) := dk_182 1 50 (dk_at dksX4_run_1 5 rfl rfl)
theorem dX4_run_32 : decode cX4_run 32 = .ok (.pop, 1) := dk_87 (dk_at dksX4_run_1 8 rfl rfl)
theorem dX4_run_33 : decode cX4_run 33 = .ok (.aload_n 0, 1) := dk_42 (dk_at dksX4_run_1 9 rfl rfl)
theorem dX4_run_34 : decode cX4_run 34 = .ok (.getfield 293, 3) := dk_180 1 37 (dk_at dksX4_run_1 10 rfl rfl)
theorem dX4_run_37 : decode cX4_run 37 = .ok (.ireturn, 1) := dk_172 (dk_at dksX4_run_1 13 rfl rfl)
abbrev cX4_checksum : ByteArray := prog_19_method_103_code
def yX4_checksum : MethodName := ⟨RX4, "checksum", "()J"⟩
def dkwX4_checksum_8 : List UInt8 := [180, 1, 56, 173]
abbrev dktX4_checksum_8 : List UInt8 := dkwX4_checksum_8 ++ []
def dkwX4_checksum_7 : List UInt8 := [182, 1, 65, 42, 42, 180, 1, 19, 133, 182, 1, 59, 42, 42, 180, 0, 58, 133, 182, 1, 59, 42]
abbrev dktX4_checksum_7 : List UInt8 := dkwX4_checksum_7 ++ dktX4_checksum_8
def dkwX4_checksum_6 : List UInt8 := [182, 1, 59, 132, 2, 1, 167, 255, 237, 132, 1, 1, 167, 255, 221, 42, 182, 0, 233, 153, 0, 7, 42]
abbrev dktX4_checksum_6 : List UInt8 := dkwX4_checksum_6 ++ dktX4_checksum_7
def dkwX4_checksum_5 : List UInt8 := [27, 42, 182, 0, 97, 162, 0, 33, 3, 61, 28, 6, 162, 0, 20, 42, 42, 27, 28, 182, 0, 100, 133]
abbrev dktX4_checksum_5 : List UInt8 := dkwX4_checksum_5 ++ dktX4_checksum_6
def dkwX4_checksum_4 : List UInt8 := [42, 27, 28, 182, 0, 79, 133, 182, 1, 59, 132, 2, 1, 167, 255, 237, 132, 1, 1, 167, 255, 221, 3, 60]
abbrev dktX4_checksum_4 : List UInt8 := dkwX4_checksum_4 ++ dktX4_checksum_5
def dkwX4_checksum_3 : List UInt8 := [132, 1, 1, 167, 255, 221, 3, 60, 27, 42, 182, 0, 73, 162, 0, 33, 3, 61, 28, 6, 162, 0, 20, 42]
abbrev dktX4_checksum_3 : List UInt8 := dkwX4_checksum_3 ++ dktX4_checksum_4
def dkwX4_checksum_2 : List UInt8 := [61, 28, 6, 162, 0, 20, 42, 42, 27, 28, 182, 0, 129, 133, 182, 1, 59, 132, 2, 1, 167, 255, 237]
abbrev dktX4_checksum_2 : List UInt8 := dkwX4_checksum_2 ++ dktX4_checksum_3
def dkwX4_checksum_1 : List UInt8 := [182, 0, 126, 133, 182, 1, 59, 132, 1, 1, 167, 255, 238, 3, 60, 27, 42, 182, 0, 65, 162, 0, 33, 3]
abbrev dktX4_checksum_1 : List UInt8 := dkwX4_checksum_1 ++ dktX4_checksum_2
def dkwX4_checksum_0 : List UInt8 := [42, 3, 181, 0, 54, 42, 20, 1, 63, 181, 1, 56, 3, 60, 27, 7, 162, 0, 19, 42, 42, 27]
abbrev dktX4_checksum_0 : List UInt8 := dkwX4_checksum_0 ++ dktX4_checksum_1
theorem dksX4_checksum_0 : cX4_checksum.data.toList.drop 0 = dktX4_checksum_0 := by decide +kernel
theorem dksX4_checksum_1 : cX4_checksum.data.toList.drop 22 = dktX4_checksum_1 := dk_seg dksX4_checksum_0 22 rfl rfl
theorem dksX4_checksum_2 : cX4_checksum.data.toList.drop 46 = dktX4_checksum_2 := dk_seg dksX4_checksum_1 24 rfl rfl
theorem dksX4_checksum_3 : cX4_checksum.data.toList.drop 69 = dktX4_checksum_3 := dk_seg dksX4_checksum_2 23 rfl rfl
theorem dksX4_checksum_4 : cX4_checksum.data.toList.drop 93 = dktX4_checksum_4 := dk_seg dksX4_checksum_3 24 rfl rfl
theorem dksX4_checksum_5 : cX4_checksum.data.toList.drop 117 = dktX4_checksum_5 := dk_seg dksX4_checksum_4 24 rfl rfl
theorem dksX4_checksum_6 : cX4_checksum.data.toList.drop 140 = dktX4_checksum_6 := dk_seg dksX4_checksum_5 23 rfl rfl
theorem dksX4_checksum_7 : cX4_checksum.data.toList.drop 163 = dktX4_checksum_7 := dk_seg dksX4_checksum_6 23 rfl rfl
theorem dksX4_checksum_8 : cX4_checksum.data.toList.drop 185 = dktX4_checksum_8 := dk_seg dksX4_checksum_7 22 rfl rfl
theorem dX4_checksum_0 : decode cX4_checksum 0 = .ok (.aload_n 0, 1) := dk_42 (dk_at dksX4_checksum_0 0 rfl rfl)
theorem dX4_checksum_1 : decode cX4_checksum 1 = .ok (.iconst 0, 1) := dk_3 (dk_at dksX4_checksum_0 1 rfl rfl)
theorem dX4_checksum_2 : decode cX4_checksum 2 = .ok (.putfield 54, 3) := dk_181 0 54 (dk_at dksX4_checksum_0 2 rfl rfl)
theorem dX4_checksum_5 : decode cX4_checksum 5 = .ok (.aload_n 0, 1) := dk_42 (dk_at dksX4_checksum_0 5 rfl rfl)
theorem dX4_checksum_6 : decode cX4_checksum 6 = .ok (.ldc2_w 319, 3) := dk_20 1 63 (dk_at dksX4_checksum_0 6 rfl rfl)
theorem dX4_checksum_9 : decode cX4_checksum 9 = .ok (.putfield 312, 3) := dk_181 1 56 (dk_at dksX4_checksum_0 9 rfl rfl)
theorem dX4_checksum_12 : decode cX4_checksum 12 = .ok (.iconst 0, 1) := dk_3 (dk_at dksX4_checksum_0 12 rfl rfl)
theorem dX4_checksum_13 : decode cX4_checksum 13 = .ok (.istore_n 1, 1) := dk_60 (dk_at dksX4_checksum_0 13 rfl rfl)
theorem dX4_checksum_14 : decode cX4_checksum 14 = .ok (.iload_n 1, 1) := dk_27 (dk_at dksX4_checksum_0 14 rfl rfl)
theorem dX4_checksum_15 : decode cX4_checksum 15 = .ok (.iconst 4, 1) := dk_7 (dk_at dksX4_checksum_0 15 rfl rfl)
theorem dX4_checksum_16 : decode cX4_checksum 16 = .ok (.if_icmp .ge 19, 3) := dk_162 0 19 (dk_at dksX4_checksum_0 16 rfl rfl)
theorem dX4_checksum_19 : decode cX4_checksum 19 = .ok (.aload_n 0, 1) := dk_42 (dk_at dksX4_checksum_0 19 rfl rfl)
theorem dX4_checksum_20 : decode cX4_checksum 20 = .ok (.aload_n 0, 1) := dk_42 (dk_at dksX4_checksum_0 20 rfl rfl)
theorem dX4_checksum_21 : decode cX4_checksum 21 = .ok (.iload_n 1, 1) := dk_27 (dk_at dksX4_checksum_0 21 rfl rfl)
theorem dX4_checksum_22 : decode cX4_checksum 22 = .ok (.invokevirtual 126, 3) := dk_182 0 126 (dk_at dksX4_checksum_1 0 rfl rfl)
theorem dX4_checksum_25 : decode cX4_checksum 25 = .ok (.i2l, 1) := dk_133 (dk_at dksX4_checksum_1 3 rfl rfl)
theorem dX4_checksum_26 : decode cX4_checksum 26 = .ok (.invokevirtual 315, 3) := dk_182 1 59 (dk_at dksX4_checksum_1 4 rfl rfl)
theorem dX4_checksum_29 : decode cX4_checksum 29 = .ok (.iinc 1 1, 3) := dk_132 1 1 (dk_at dksX4_checksum_1 7 rfl rfl)
theorem dX4_checksum_32 : decode cX4_checksum 32 = .ok (.goto (-18), 3) := dk_167 255 238 (dk_at dksX4_checksum_1 10 rfl rfl)
theorem dX4_checksum_35 : decode cX4_checksum 35 = .ok (.iconst 0, 1) := dk_3 (dk_at dksX4_checksum_1 13 rfl rfl)
theorem dX4_checksum_36 : decode cX4_checksum 36 = .ok (.istore_n 1, 1) := dk_60 (dk_at dksX4_checksum_1 14 rfl rfl)
theorem dX4_checksum_37 : decode cX4_checksum 37 = .ok (.iload_n 1, 1) := dk_27 (dk_at dksX4_checksum_1 15 rfl rfl)
theorem dX4_checksum_38 : decode cX4_checksum 38 = .ok (.aload_n 0, 1) := dk_42 (dk_at dksX4_checksum_1 16 rfl rfl)
theorem dX4_checksum_39 : decode cX4_checksum 39 = .ok (.invokevirtual 65, 3) := dk_182 0 65 (dk_at dksX4_checksum_1 17 rfl rfl)
theorem dX4_checksum_42 : decode cX4_checksum 42 = .ok (.if_icmp .ge 33, 3) := dk_162 0 33 (dk_at dksX4_checksum_1 20 rfl rfl)
theorem dX4_checksum_45 : decode cX4_checksum 45 = .ok (.iconst 0, 1) := dk_3 (dk_at dksX4_checksum_1 23 rfl rfl)
theorem dX4_checksum_46 : decode cX4_checksum 46 = .ok (.istore_n 2, 1) := dk_61 (dk_at dksX4_checksum_2 0 rfl rfl)
theorem dX4_checksum_47 : decode cX4_checksum 47 = .ok (.iload_n 2, 1) := dk_28 (dk_at dksX4_checksum_2 1 rfl rfl)
theorem dX4_checksum_48 : decode cX4_checksum 48 = .ok (.iconst 3, 1) := dk_6 (dk_at dksX4_checksum_2 2 rfl rfl)
theorem dX4_checksum_49 : decode cX4_checksum 49 = .ok (.if_icmp .ge 20, 3) := dk_162 0 20 (dk_at dksX4_checksum_2 3 rfl rfl)
theorem dX4_checksum_52 : decode cX4_checksum 52 = .ok (.aload_n 0, 1) := dk_42 (dk_at dksX4_checksum_2 6 rfl rfl)
theorem dX4_checksum_53 : decode cX4_checksum 53 = .ok (.aload_n 0, 1) := dk_42 (dk_at dksX4_checksum_2 7 rfl rfl)
theorem dX4_checksum_54 : decode cX4_checksum 54 = .ok (.iload_n 1, 1) := dk_27 (dk_at dksX4_checksum_2 8 rfl rfl)
theorem dX4_checksum_55 : decode cX4_checksum 55 = .ok (.iload_n 2, 1) := dk_28 (dk_at dksX4_checksum_2 9 rfl rfl)
theorem dX4_checksum_56 : decode cX4_checksum 56 = .ok (.invokevirtual 129, 3) := dk_182 0 129 (dk_at dksX4_checksum_2 10 rfl rfl)
theorem dX4_checksum_59 : decode cX4_checksum 59 = .ok (.i2l, 1) := dk_133 (dk_at dksX4_checksum_2 13 rfl rfl)
theorem dX4_checksum_60 : decode cX4_checksum 60 = .ok (.invokevirtual 315, 3) := dk_182 1 59 (dk_at dksX4_checksum_2 14 rfl rfl)
theorem dX4_checksum_63 : decode cX4_checksum 63 = .ok (.iinc 2 1, 3) := dk_132 2 1 (dk_at dksX4_checksum_2 17 rfl rfl)
theorem dX4_checksum_66 : decode cX4_checksum 66 = .ok (.goto (-19), 3) := dk_167 255 237 (dk_at dksX4_checksum_2 20 rfl rfl)
theorem dX4_checksum_69 : decode cX4_checksum 69 = .ok (.iinc 1 1, 3) := dk_132 1 1 (dk_at dksX4_checksum_3 0 rfl rfl)
theorem dX4_checksum_72 : decode cX4_checksum 72 = .ok (.goto (-35), 3) := dk_167 255 221 (dk_at dksX4_checksum_3 3 rfl rfl)
theorem dX4_checksum_75 : decode cX4_checksum 75 = .ok (.iconst 0, 1) := dk_3 (dk_at dksX4_checksum_3 6 rfl rfl)
theorem dX4_checksum_76 : decode cX4_checksum 76 = .ok (.istore_n 1, 1) := dk_60 (dk_at dksX4_checksum_3 7 rfl rfl)
theorem dX4_checksum_77 : decode cX4_checksum 77 = .ok (.iload_n 1, 1) := dk_27 (dk_at dksX4_checksum_3 8 rfl rfl)
theorem dX4_checksum_78 : decode cX4_checksum 78 = .ok (.aload_n 0, 1) := dk_42 (dk_at dksX4_checksum_3 9 rfl rfl)
theorem dX4_checksum_79 : decode cX4_checksum 79 = .ok (.invokevirtual 73, 3) := dk_182 0 73 (dk_at dksX4_checksum_3 10 rfl rfl)
theorem dX4_checksum_82 : decode cX4_checksum 82 = .ok (.if_icmp .ge 33, 3) := dk_162 0 33 (dk_at dksX4_checksum_3 13 rfl rfl)
theorem dX4_checksum_85 : decode cX4_checksum 85 = .ok (.iconst 0, 1) := dk_3 (dk_at dksX4_checksum_3 16 rfl rfl)
theorem dX4_checksum_86 : decode cX4_checksum 86 = .ok (.istore_n 2, 1) := dk_61 (dk_at dksX4_checksum_3 17 rfl rfl)
theorem dX4_checksum_87 : decode cX4_checksum 87 = .ok (.iload_n 2, 1) := dk_28 (dk_at dksX4_checksum_3 18 rfl rfl)
theorem dX4_checksum_88 : decode cX4_checksum 88 = .ok (.iconst 3, 1) := dk_6 (dk_at dksX4_checksum_3 19 rfl rfl)
theorem dX4_checksum_89 : decode cX4_checksum 89 = .ok (.if_icmp .ge 20, 3) := dk_162 0 20 (dk_at dksX4_checksum_3 20 rfl rfl)
theorem dX4_checksum_92 : decode cX4_checksum 92 = .ok (.aload_n 0, 1) := dk_42 (dk_at dksX4_checksum_3 23 rfl rfl)
theorem dX4_checksum_93 : decode cX4_checksum 93 = .ok (.aload_n 0, 1) := dk_42 (dk_at dksX4_checksum_4 0 rfl rfl)
theorem dX4_checksum_94 : decode cX4_checksum 94 = .ok (.iload_n 1, 1) := dk_27 (dk_at dksX4_checksum_4 1 rfl rfl)
theorem dX4_checksum_95 : decode cX4_checksum 95 = .ok (.iload_n 2, 1) := dk_28 (dk_at dksX4_checksum_4 2 rfl rfl)
theorem dX4_checksum_96 : decode cX4_checksum 96 = .ok (.invokevirtual 79, 3) := dk_182 0 79 (dk_at dksX4_checksum_4 3 rfl rfl)
theorem dX4_checksum_99 : decode cX4_checksum 99 = .ok (.i2l, 1) := dk_133 (dk_at dksX4_checksum_4 6 rfl rfl)
theorem dX4_checksum_100 : decode cX4_checksum 100 = .ok (.invokevirtual 315, 3) := dk_182 1 59 (dk_at dksX4_checksum_4 7 rfl rfl)
theorem dX4_checksum_103 : decode cX4_checksum 103 = .ok (.iinc 2 1, 3) := dk_132 2 1 (dk_at dksX4_checksum_4 10 rfl rfl)
theorem dX4_checksum_106 : decode cX4_checksum 106 = .ok (.goto (-19), 3) := dk_167 255 237 (dk_at dksX4_checksum_4 13 rfl rfl)
theorem dX4_checksum_109 : decode cX4_checksum 109 = .ok (.iinc 1 1, 3) := dk_132 1 1 (dk_at dksX4_checksum_4 16 rfl rfl)
theorem dX4_checksum_112 : decode cX4_checksum 112 = .ok (.goto (-35), 3) := dk_167 255 221 (dk_at dksX4_checksum_4 19 rfl rfl)
theorem dX4_checksum_115 : decode cX4_checksum 115 = .ok (.iconst 0, 1) := dk_3 (dk_at dksX4_checksum_4 22 rfl rfl)
theorem dX4_checksum_116 : decode cX4_checksum 116 = .ok (.istore_n 1, 1) := dk_60 (dk_at dksX4_checksum_4 23 rfl rfl)
theorem dX4_checksum_117 : decode cX4_checksum 117 = .ok (.iload_n 1, 1) := dk_27 (dk_at dksX4_checksum_5 0 rfl rfl)
theorem dX4_checksum_118 : decode cX4_checksum 118 = .ok (.aload_n 0, 1) := dk_42 (dk_at dksX4_checksum_5 1 rfl rfl)
theorem dX4_checksum_119 : decode cX4_checksum 119 = .ok (.invokevirtual 97, 3) := dk_182 0 97 (dk_at dksX4_checksum_5 2 rfl rfl)
theorem dX4_checksum_122 : decode cX4_checksum 122 = .ok (.if_icmp .ge 33, 3) := dk_162 0 33 (dk_at dksX4_checksum_5 5 rfl rfl)
theorem dX4_checksum_125 : decode cX4_checksum 125 = .ok (.iconst 0, 1) := dk_3 (dk_at dksX4_checksum_5 8 rfl rfl)
theorem dX4_checksum_126 : decode cX4_checksum 126 = .ok (.istore_n 2, 1) := dk_61 (dk_at dksX4_checksum_5 9 rfl rfl)
theorem dX4_checksum_127 : decode cX4_checksum 127 = .ok (.iload_n 2, 1) := dk_28 (dk_at dksX4_checksum_5 10 rfl rfl)
theorem dX4_checksum_128 : decode cX4_checksum 128 = .ok (.iconst 3, 1) := dk_6 (dk_at dksX4_checksum_5 11 rfl rfl)
theorem dX4_checksum_129 : decode cX4_checksum 129 = .ok (.if_icmp .ge 20, 3) := dk_162 0 20 (dk_at dksX4_checksum_5 12 rfl rfl)
theorem dX4_checksum_132 : decode cX4_checksum 132 = .ok (.aload_n 0, 1) := dk_42 (dk_at dksX4_checksum_5 15 rfl rfl)
theorem dX4_checksum_133 : decode cX4_checksum 133 = .ok (.aload_n 0, 1) := dk_42 (dk_at dksX4_checksum_5 16 rfl rfl)
theorem dX4_checksum_134 : decode cX4_checksum 134 = .ok (.iload_n 1, 1) := dk_27 (dk_at dksX4_checksum_5 17 rfl rfl)
theorem dX4_checksum_135 : decode cX4_checksum 135 = .ok (.iload_n 2, 1) := dk_28 (dk_at dksX4_checksum_5 18 rfl rfl)
theorem dX4_checksum_136 : decode cX4_checksum 136 = .ok (.invokevirtual 100, 3) := dk_182 0 100 (dk_at dksX4_checksum_5 19 rfl rfl)
theorem dX4_checksum_139 : decode cX4_checksum 139 = .ok (.i2l, 1) := dk_133 (dk_at dksX4_checksum_5 22 rfl rfl)
theorem dX4_checksum_140 : decode cX4_checksum 140 = .ok (.invokevirtual 315, 3) := dk_182 1 59 (dk_at dksX4_checksum_6 0 rfl rfl)
theorem dX4_checksum_143 : decode cX4_checksum 143 = .ok (.iinc 2 1, 3) := dk_132 2 1 (dk_at dksX4_checksum_6 3 rfl rfl)
theorem dX4_checksum_146 : decode cX4_checksum 146 = .ok (.goto (-19), 3) := dk_167 255 237 (dk_at dksX4_checksum_6 6 rfl rfl)
theorem dX4_checksum_149 : decode cX4_checksum 149 = .ok (.iinc 1 1, 3) := dk_132 1 1 (dk_at dksX4_checksum_6 9 rfl rfl)
theorem dX4_checksum_152 : decode cX4_checksum 152 = .ok (.goto (-35), 3) := dk_167 255 221 (dk_at dksX4_checksum_6 12 rfl rfl)
theorem dX4_checksum_155 : decode cX4_checksum 155 = .ok (.aload_n 0, 1) := dk_42 (dk_at dksX4_checksum_6 15 rfl rfl)
theorem dX4_checksum_156 : decode cX4_checksum 156 = .ok (.invokevirtual 233, 3) := dk_182 0 233 (dk_at dksX4_checksum_6 16 rfl rfl)
theorem dX4_checksum_159 : decode cX4_checksum 159 = .ok (.ifCond .eq 7, 3) := dk_153 0 7 (dk_at dksX4_checksum_6 19 rfl rfl)
theorem dX4_checksum_162 : decode cX4_checksum 162 = .ok (.aload_n 0, 1) := dk_42 (dk_at dksX4_checksum_6 22 rfl rfl)
theorem dX4_checksum_163 : decode cX4_checksum 163 = .ok (.invokevirtual 321, 3) := dk_182 1 65 (dk_at dksX4_checksum_7 0 rfl rfl)
theorem dX4_checksum_166 : decode cX4_checksum 166 = .ok (.aload_n 0, 1) := dk_42 (dk_at dksX4_checksum_7 3 rfl rfl)
theorem dX4_checksum_167 : decode cX4_checksum 167 = .ok (.aload_n 0, 1) := dk_42 (dk_at dksX4_checksum_7 4 rfl rfl)
theorem dX4_checksum_168 : decode cX4_checksum 168 = .ok (.getfield 275, 3) := dk_180 1 19 (dk_at dksX4_checksum_7 5 rfl rfl)
theorem dX4_checksum_171 : decode cX4_checksum 171 = .ok (.i2l, 1) := dk_133 (dk_at dksX4_checksum_7 8 rfl rfl)
theorem dX4_checksum_172 : decode cX4_checksum 172 = .ok (.invokevirtual 315, 3) := dk_182 1 59 (dk_at dksX4_checksum_7 9 rfl rfl)
theorem dX4_checksum_175 : decode cX4_checksum 175 = .ok (.aload_n 0, 1) := dk_42 (dk_at dksX4_checksum_7 12 rfl rfl)
theorem dX4_checksum_176 : decode cX4_checksum 176 = .ok (.aload_n 0, 1) := dk_42 (dk_at dksX4_checksum_7 13 rfl rfl)
theorem dX4_checksum_177 : decode cX4_checksum 177 = .ok (.getfield 58, 3) := dk_180 0 58 (dk_at dksX4_checksum_7 14 rfl rfl)
theorem dX4_checksum_180 : decode cX4_checksum 180 = .ok (.i2l, 1) := dk_133 (dk_at dksX4_checksum_7 17 rfl rfl)
theorem dX4_checksum_181 : decode cX4_checksum 181 = .ok (.invokevirtual 315, 3) := dk_182 1 59 (dk_at dksX4_checksum_7 18 rfl rfl)
theorem dX4_checksum_184 : decode cX4_checksum 184 = .ok (.aload_n 0, 1) := dk_42 (dk_at dksX4_checksum_7 21 rfl rfl)
theorem dX4_checksum_185 : decode cX4_checksum 185 = .ok (.getfield 312, 3) := dk_180 1 56 (dk_at dksX4_checksum_8 0 rfl rfl)
theorem dX4_checksum_188 : decode cX4_checksum 188 = .ok (.lreturn, 1) := dk_173 (dk_at dksX4_checksum_8 3 rfl rfl)
abbrev cX4_mix : ByteArray := prog_19_method_101_code
def yX4_mix : MethodName := ⟨RX4, "mix", "(J)V"⟩
def dkwX4_mix_0 : List UInt8 := [42, 20, 1, 54, 42, 180, 1, 56, 105, 31, 97, 181, 1, 56, 177]
abbrev dktX4_mix_0 : List UInt8 := dkwX4_mix_0 ++ []
theorem dksX4_mix_0 : cX4_mix.data.toList.drop 0 = dktX4_mix_0 := by decide +kernel
theorem dX4_mix_0 : decode cX4_mix 0 = .ok (.aload_n 0, 1) := dk_42 (dk_at dksX4_mix_0 0 rfl rfl)
theorem dX4_mix_1 : decode cX4_mix 1 = .ok (.ldc2_w 310, 3) := dk_20 1 54 (dk_at dksX4_mix_0 1 rfl rfl)
theorem dX4_mix_4 : decode cX4_mix 4 = .ok (.aload_n 0, 1) := dk_42 (dk_at dksX4_mix_0 4 rfl rfl)
theorem dX4_mix_5 : decode cX4_mix 5 = .ok (.getfield 312, 3) := dk_180 1 56 (dk_at dksX4_mix_0 5 rfl rfl)
theorem dX4_mix_8 : decode cX4_mix 8 = .ok (.lmul, 1) := dk_105 (dk_at dksX4_mix_0 8 rfl rfl)
theorem dX4_mix_9 : decode cX4_mix 9 = .ok (.lload_n 1, 1) := dk_31 (dk_at dksX4_mix_0 9 rfl rfl)
theorem dX4_mix_10 : decode cX4_mix 10 = .ok (.ladd, 1) := dk_97 (dk_at dksX4_mix_0 10 rfl rfl)
theorem dX4_mix_11 : decode cX4_mix 11 = .ok (.putfield 312, 3) := dk_181 1 56 (dk_at dksX4_mix_0 11 rfl rfl)
theorem dX4_mix_14 : decode cX4_mix 14 = .ok (.return_, 1) := dk_177 (dk_at dksX4_mix_0 14 rfl rfl)
abbrev cX4_mixCenters : ByteArray := prog_19_method_102_code
def yX4_mixCenters : MethodName := ⟨RX4, "mixCenters", "()V"⟩
def dkwX4_mixCenters_8 : List UInt8 := [132, 2, 1, 167, 255, 220, 177]
abbrev dktX4_mixCenters_8 : List UInt8 := dkwX4_mixCenters_8 ++ []
def dkwX4_mixCenters_7 : List UInt8 := [7, 162, 0, 21, 42, 42, 28, 4, 29, 182, 0, 230, 133, 182, 1, 59, 132, 3, 1, 167, 255, 236]
abbrev dktX4_mixCenters_7 : List UInt8 := dkwX4_mixCenters_7 ++ dktX4_mixCenters_8
def dkwX4_mixCenters_6 : List UInt8 := [180, 1, 7, 4, 184, 0, 156, 133, 182, 1, 59, 3, 61, 28, 42, 182, 0, 73, 162, 0, 34, 3, 62, 29]
abbrev dktX4_mixCenters_6 : List UInt8 := dkwX4_mixCenters_6 ++ dktX4_mixCenters_7
def dkwX4_mixCenters_5 : List UInt8 := [42, 42, 180, 1, 4, 42, 180, 1, 7, 3, 184, 0, 156, 133, 182, 1, 59, 42, 42, 180, 1, 4, 42]
abbrev dktX4_mixCenters_5 : List UInt8 := dkwX4_mixCenters_5 ++ dktX4_mixCenters_6
def dkwX4_mixCenters_4 : List UInt8 := [162, 0, 19, 42, 42, 28, 182, 0, 251, 133, 182, 1, 59, 132, 2, 1, 167, 255, 238, 42, 5, 182, 1, 10]
abbrev dktX4_mixCenters_4 : List UInt8 := dkwX4_mixCenters_4 ++ dktX4_mixCenters_5
def dkwX4_mixCenters_3 : List UInt8 := [132, 2, 1, 167, 255, 238, 42, 42, 27, 182, 0, 245, 133, 182, 1, 59, 42, 182, 0, 248, 3, 61, 28, 8]
abbrev dktX4_mixCenters_3 : List UInt8 := dkwX4_mixCenters_3 ++ dktX4_mixCenters_4
def dkwX4_mixCenters_2 : List UInt8 := [184, 0, 156, 133, 182, 1, 59, 3, 61, 28, 6, 162, 0, 19, 42, 42, 28, 182, 0, 242, 133, 182, 1, 59]
abbrev dktX4_mixCenters_2 : List UInt8 := dkwX4_mixCenters_2 ++ dktX4_mixCenters_3
def dkwX4_mixCenters_1 : List UInt8 := [42, 180, 0, 198, 3, 184, 0, 156, 133, 182, 1, 59, 42, 42, 180, 0, 202, 42, 180, 0, 198, 4]
abbrev dktX4_mixCenters_1 : List UInt8 := dkwX4_mixCenters_1 ++ dktX4_mixCenters_2
def dkwX4_mixCenters_0 : List UInt8 := [4, 42, 182, 0, 65, 120, 4, 100, 60, 42, 3, 182, 0, 170, 42, 27, 182, 0, 236, 42, 42, 180, 0, 202]
abbrev dktX4_mixCenters_0 : List UInt8 := dkwX4_mixCenters_0 ++ dktX4_mixCenters_1
theorem dksX4_mixCenters_0 : cX4_mixCenters.data.toList.drop 0 = dktX4_mixCenters_0 := by decide +kernel
theorem dksX4_mixCenters_1 : cX4_mixCenters.data.toList.drop 24 = dktX4_mixCenters_1 := dk_seg dksX4_mixCenters_0 24 rfl rfl
theorem dksX4_mixCenters_2 : cX4_mixCenters.data.toList.drop 46 = dktX4_mixCenters_2 := dk_seg dksX4_mixCenters_1 22 rfl rfl
theorem dksX4_mixCenters_3 : cX4_mixCenters.data.toList.drop 70 = dktX4_mixCenters_3 := dk_seg dksX4_mixCenters_2 24 rfl rfl
theorem dksX4_mixCenters_4 : cX4_mixCenters.data.toList.drop 94 = dktX4_mixCenters_4 := dk_seg dksX4_mixCenters_3 24 rfl rfl
theorem dksX4_mixCenters_5 : cX4_mixCenters.data.toList.drop 118 = dktX4_mixCenters_5 := dk_seg dksX4_mixCenters_4 24 rfl rfl
theorem dksX4_mixCenters_6 : cX4_mixCenters.data.toList.drop 141 = dktX4_mixCenters_6 := dk_seg dksX4_mixCenters_5 23 rfl rfl
theorem dksX4_mixCenters_7 : cX4_mixCenters.data.toList.drop 165 = dktX4_mixCenters_7 := dk_seg dksX4_mixCenters_6 24 rfl rfl
theorem dksX4_mixCenters_8 : cX4_mixCenters.data.toList.drop 187 = dktX4_mixCenters_8 := dk_seg dksX4_mixCenters_7 22 rfl rfl
theorem dX4_mixCenters_0 : decode cX4_mixCenters 0 = .ok (.iconst 1, 1) := dk_4 (dk_at dksX4_mixCenters_0 0 rfl rfl)
theorem dX4_mixCenters_1 : decode cX4_mixCenters 1 = .ok (.aload_n 0, 1) := dk_42 (dk_at dksX4_mixCenters_0 1 rfl rfl)
theorem dX4_mixCenters_2 : decode cX4_mixCenters 2 = .ok (.invokevirtual 65, 3) := dk_182 0 65 (dk_at dksX4_mixCenters_0 2 rfl rfl)
theorem dX4_mixCenters_5 : decode cX4_mixCenters 5 = .ok (.ishl, 1) := dk_120 (dk_at dksX4_mixCenters_0 5 rfl rfl)
theorem dX4_mixCenters_6 : decode cX4_mixCenters 6 = .ok (.iconst 1, 1) := dk_4 (dk_at dksX4_mixCenters_0 6 rfl rfl)
theorem dX4_mixCenters_7 : decode cX4_mixCenters 7 = .ok (.isub, 1) := dk_100 (dk_at dksX4_mixCenters_0 7 rfl rfl)
theorem dX4_mixCenters_8 : decode cX4_mixCenters 8 = .ok (.istore_n 1, 1) := dk_60 (dk_at dksX4_mixCenters_0 8 rfl rfl)
theorem dX4_mixCenters_9 : decode cX4_mixCenters 9 = .ok (.aload_n 0, 1) := dk_42 (dk_at dksX4_mixCenters_0 9 rfl rfl)
theorem dX4_mixCenters_10 : decode cX4_mixCenters 10 = .ok (.iconst 0, 1) := dk_3 (dk_at dksX4_mixCenters_0 10 rfl rfl)
theorem dX4_mixCenters_11 : decode cX4_mixCenters 11 = .ok (.invokevirtual 170, 3) := dk_182 0 170 (dk_at dksX4_mixCenters_0 11 rfl rfl)
theorem dX4_mixCenters_14 : decode cX4_mixCenters 14 = .ok (.aload_n 0, 1) := dk_42 (dk_at dksX4_mixCenters_0 14 rfl rfl)
theorem dX4_mixCenters_15 : decode cX4_mixCenters 15 = .ok (.iload_n 1, 1) := dk_27 (dk_at dksX4_mixCenters_0 15 rfl rfl)
theorem dX4_mixCenters_16 : decode cX4_mixCenters 16 = .ok (.invokevirtual 236, 3) := dk_182 0 236 (dk_at dksX4_mixCenters_0 16 rfl rfl)
theorem dX4_mixCenters_19 : decode cX4_mixCenters 19 = .ok (.aload_n 0, 1) := dk_42 (dk_at dksX4_mixCenters_0 19 rfl rfl)
theorem dX4_mixCenters_20 : decode cX4_mixCenters 20 = .ok (.aload_n 0, 1) := dk_42 (dk_at dksX4_mixCenters_0 20 rfl rfl)
theorem dX4_mixCenters_21 : decode cX4_mixCenters 21 = .ok (.getfield 202, 3) := dk_180 0 202 (dk_at dksX4_mixCenters_0 21 rfl rfl)
theorem dX4_mixCenters_24 : decode cX4_mixCenters 24 = .ok (.aload_n 0, 1) := dk_42 (dk_at dksX4_mixCenters_1 0 rfl rfl)
theorem dX4_mixCenters_25 : decode cX4_mixCenters 25 = .ok (.getfield 198, 3) := dk_180 0 198 (dk_at dksX4_mixCenters_1 1 rfl rfl)
theorem dX4_mixCenters_28 : decode cX4_mixCenters 28 = .ok (.iconst 0, 1) := dk_3 (dk_at dksX4_mixCenters_1 4 rfl rfl)
theorem dX4_mixCenters_29 : decode cX4_mixCenters 29 = .ok (.invokestatic 156, 3) := dk_184 0 156 (dk_at dksX4_mixCenters_1 5 rfl rfl)
theorem dX4_mixCenters_32 : decode cX4_mixCenters 32 = .ok (.i2l, 1) := dk_133 (dk_at dksX4_mixCenters_1 8 rfl rfl)
theorem dX4_mixCenters_33 : decode cX4_mixCenters 33 = .ok (.invokevirtual 315, 3) := dk_182 1 59 (dk_at dksX4_mixCenters_1 9 rfl rfl)
theorem dX4_mixCenters_36 : decode cX4_mixCenters 36 = .ok (.aload_n 0, 1) := dk_42 (dk_at dksX4_mixCenters_1 12 rfl rfl)
theorem dX4_mixCenters_37 : decode cX4_mixCenters 37 = .ok (.aload_n 0, 1) := dk_42 (dk_at dksX4_mixCenters_1 13 rfl rfl)
theorem dX4_mixCenters_38 : decode cX4_mixCenters 38 = .ok (.getfield 202, 3) := dk_180 0 202 (dk_at dksX4_mixCenters_1 14 rfl rfl)
theorem dX4_mixCenters_41 : decode cX4_mixCenters 41 = .ok (.aload_n 0, 1) := dk_42 (dk_at dksX4_mixCenters_1 17 rfl rfl)
theorem dX4_mixCenters_42 : decode cX4_mixCenters 42 = .ok (.getfield 198, 3) := dk_180 0 198 (dk_at dksX4_mixCenters_1 18 rfl rfl)
theorem dX4_mixCenters_45 : decode cX4_mixCenters 45 = .ok (.iconst 1, 1) := dk_4 (dk_at dksX4_mixCenters_1 21 rfl rfl)
theorem dX4_mixCenters_46 : decode cX4_mixCenters 46 = .ok (.invokestatic 156, 3) := dk_184 0 156 (dk_at dksX4_mixCenters_2 0 rfl rfl)
theorem dX4_mixCenters_49 : decode cX4_mixCenters 49 = .ok (.i2l, 1) := dk_133 (dk_at dksX4_mixCenters_2 3 rfl rfl)
theorem dX4_mixCenters_50 : decode cX4_mixCenters 50 = .ok (.invokevirtual 315, 3) := dk_182 1 59 (dk_at dksX4_mixCenters_2 4 rfl rfl)
theorem dX4_mixCenters_53 : decode cX4_mixCenters 53 = .ok (.iconst 0, 1) := dk_3 (dk_at dksX4_mixCenters_2 7 rfl rfl)
theorem dX4_mixCenters_54 : decode cX4_mixCenters 54 = .ok (.istore_n 2, 1) := dk_61 (dk_at dksX4_mixCenters_2 8 rfl rfl)
theorem dX4_mixCenters_55 : decode cX4_mixCenters 55 = .ok (.iload_n 2, 1) := dk_28 (dk_at dksX4_mixCenters_2 9 rfl rfl)
theorem dX4_mixCenters_56 : decode cX4_mixCenters 56 = .ok (.iconst 3, 1) := dk_6 (dk_at dksX4_mixCenters_2 10 rfl rfl)
theorem dX4_mixCenters_57 : decode cX4_mixCenters 57 = .ok (.if_icmp .ge 19, 3) := dk_162 0 19 (dk_at dksX4_mixCenters_2 11 rfl rfl)
theorem dX4_mixCenters_60 : decode cX4_mixCenters 60 = .ok (.aload_n 0, 1) := dk_42 (dk_at dksX4_mixCenters_2 14 rfl rfl)
theorem dX4_mixCenters_61 : decode cX4_mixCenters 61 = .ok (.aload_n 0, 1) := dk_42 (dk_at dksX4_mixCenters_2 15 rfl rfl)
theorem dX4_mixCenters_62 : decode cX4_mixCenters 62 = .ok (.iload_n 2, 1) := dk_28 (dk_at dksX4_mixCenters_2 16 rfl rfl)
theorem dX4_mixCenters_63 : decode cX4_mixCenters 63 = .ok (.invokevirtual 242, 3) := dk_182 0 242 (dk_at dksX4_mixCenters_2 17 rfl rfl)
theorem dX4_mixCenters_66 : decode cX4_mixCenters 66 = .ok (.i2l, 1) := dk_133 (dk_at dksX4_mixCenters_2 20 rfl rfl)
theorem dX4_mixCenters_67 : decode cX4_mixCenters 67 = .ok (.invokevirtual 315, 3) := dk_182 1 59 (dk_at dksX4_mixCenters_2 21 rfl rfl)
theorem dX4_mixCenters_70 : decode cX4_mixCenters 70 = .ok (.iinc 2 1, 3) := dk_132 2 1 (dk_at dksX4_mixCenters_3 0 rfl rfl)
theorem dX4_mixCenters_73 : decode cX4_mixCenters 73 = .ok (.goto (-18), 3) := dk_167 255 238 (dk_at dksX4_mixCenters_3 3 rfl rfl)
theorem dX4_mixCenters_76 : decode cX4_mixCenters 76 = .ok (.aload_n 0, 1) := dk_42 (dk_at dksX4_mixCenters_3 6 rfl rfl)
theorem dX4_mixCenters_77 : decode cX4_mixCenters 77 = .ok (.aload_n 0, 1) := dk_42 (dk_at dksX4_mixCenters_3 7 rfl rfl)
theorem dX4_mixCenters_78 : decode cX4_mixCenters 78 = .ok (.iload_n 1, 1) := dk_27 (dk_at dksX4_mixCenters_3 8 rfl rfl)
theorem dX4_mixCenters_79 : decode cX4_mixCenters 79 = .ok (.invokevirtual 245, 3) := dk_182 0 245 (dk_at dksX4_mixCenters_3 9 rfl rfl)
theorem dX4_mixCenters_82 : decode cX4_mixCenters 82 = .ok (.i2l, 1) := dk_133 (dk_at dksX4_mixCenters_3 12 rfl rfl)
theorem dX4_mixCenters_83 : decode cX4_mixCenters 83 = .ok (.invokevirtual 315, 3) := dk_182 1 59 (dk_at dksX4_mixCenters_3 13 rfl rfl)
theorem dX4_mixCenters_86 : decode cX4_mixCenters 86 = .ok (.aload_n 0, 1) := dk_42 (dk_at dksX4_mixCenters_3 16 rfl rfl)
theorem dX4_mixCenters_87 : decode cX4_mixCenters 87 = .ok (.invokevirtual 248, 3) := dk_182 0 248 (dk_at dksX4_mixCenters_3 17 rfl rfl)
theorem dX4_mixCenters_90 : decode cX4_mixCenters 90 = .ok (.iconst 0, 1) := dk_3 (dk_at dksX4_mixCenters_3 20 rfl rfl)
theorem dX4_mixCenters_91 : decode cX4_mixCenters 91 = .ok (.istore_n 2, 1) := dk_61 (dk_at dksX4_mixCenters_3 21 rfl rfl)
theorem dX4_mixCenters_92 : decode cX4_mixCenters 92 = .ok (.iload_n 2, 1) := dk_28 (dk_at dksX4_mixCenters_3 22 rfl rfl)
theorem dX4_mixCenters_93 : decode cX4_mixCenters 93 = .ok (.iconst 5, 1) := dk_8 (dk_at dksX4_mixCenters_3 23 rfl rfl)
theorem dX4_mixCenters_94 : decode cX4_mixCenters 94 = .ok (.if_icmp .ge 19, 3) := dk_162 0 19 (dk_at dksX4_mixCenters_4 0 rfl rfl)
theorem dX4_mixCenters_97 : decode cX4_mixCenters 97 = .ok (.aload_n 0, 1) := dk_42 (dk_at dksX4_mixCenters_4 3 rfl rfl)
theorem dX4_mixCenters_98 : decode cX4_mixCenters 98 = .ok (.aload_n 0, 1) := dk_42 (dk_at dksX4_mixCenters_4 4 rfl rfl)
theorem dX4_mixCenters_99 : decode cX4_mixCenters 99 = .ok (.iload_n 2, 1) := dk_28 (dk_at dksX4_mixCenters_4 5 rfl rfl)
theorem dX4_mixCenters_100 : decode cX4_mixCenters 100 = .ok (.invokevirtual 251, 3) := dk_182 0 251 (dk_at dksX4_mixCenters_4 6 rfl rfl)
theorem dX4_mixCenters_103 : decode cX4_mixCenters 103 = .ok (.i2l, 1) := dk_133 (dk_at dksX4_mixCenters_4 9 rfl rfl)
theorem dX4_mixCenters_104 : decode cX4_mixCenters 104 = .ok (.invokevirtual 315, 3) := dk_182 1 59 (dk_at dksX4_mixCenters_4 10 rfl rfl)
theorem dX4_mixCenters_107 : decode cX4_mixCenters 107 = .ok (.iinc 2 1, 3) := dk_132 2 1 (dk_at dksX4_mixCenters_4 13 rfl rfl)
theorem dX4_mixCenters_110 : decode cX4_mixCenters 110 = .ok (.goto (-18), 3) := dk_167 255 238 (dk_at dksX4_mixCenters_4 16 rfl rfl)
theorem dX4_mixCenters_113 : decode cX4_mixCenters 113 = .ok (.aload_n 0, 1) := dk_42 (dk_at dksX4_mixCenters_4 19 rfl rfl)
theorem dX4_mixCenters_114 : decode cX4_mixCenters 114 = .ok (.iconst 2, 1) := dk_5 (dk_at dksX4_mixCenters_4 20 rfl rfl)
theorem dX4_mixCenters_115 : decode cX4_mixCenters 115 = .ok (.invokevirtual 266, 3) := dk_182 1 10 (dk_at dksX4_mixCenters_4 21 rfl rfl)
theorem dX4_mixCenters_118 : decode cX4_mixCenters 118 = .ok (.aload_n 0, 1) := dk_42 (dk_at dksX4_mixCenters_5 0 rfl rfl)
theorem dX4_mixCenters_119 : decode cX4_mixCenters 119 = .ok (.aload_n 0, 1) := dk_42 (dk_at dksX4_mixCenters_5 1 rfl rfl)
theorem dX4_mixCenters_120 : decode cX4_mixCenters 120 = .ok (.getfield 260, 3) := dk_180 1 4 (dk_at dksX4_mixCenters_5 2 rfl rfl)
theorem dX4_mixCenters_123 : decode cX4_mixCenters 123 = .ok (.aload_n 0, 1) := dk_42 (dk_at dksX4_mixCenters_5 5 rfl rfl)
theorem dX4_mixCenters_124 : decode cX4_mixCenters 124 = .ok (.getfield 263, 3) := dk_180 1 7 (dk_at dksX4_mixCenters_5 6 rfl rfl)
theorem dX4_mixCenters_127 : decode cX4_mixCenters 127 = .ok (.iconst 0, 1) := dk_3 (dk_at dksX4_mixCenters_5 9 rfl rfl)
theorem dX4_mixCenters_128 : decode cX4_mixCenters 128 = .ok (.invokestatic 156, 3) := dk_184 0 156 (dk_at dksX4_mixCenters_5 10 rfl rfl)
theorem dX4_mixCenters_131 : decode cX4_mixCenters 131 = .ok (.i2l, 1) := dk_133 (dk_at dksX4_mixCenters_5 13 rfl rfl)
theorem dX4_mixCenters_132 : decode cX4_mixCenters 132 = .ok (.invokevirtual 315, 3) := dk_182 1 59 (dk_at dksX4_mixCenters_5 14 rfl rfl)
theorem dX4_mixCenters_135 : decode cX4_mixCenters 135 = .ok (.aload_n 0, 1) := dk_42 (dk_at dksX4_mixCenters_5 17 rfl rfl)
theorem dX4_mixCenters_136 : decode cX4_mixCenters 136 = .ok (.aload_n 0, 1) := dk_42 (dk_at dksX4_mixCenters_5 18 rfl rfl)
theorem dX4_mixCenters_137 : decode cX4_mixCenters 137 = .ok (.getfield 260, 3) := dk_180 1 4 (dk_at dksX4_mixCenters_5 19 rfl rfl)
theorem dX4_mixCenters_140 : decode cX4_mixCenters 140 = .ok (.aload_n 0, 1) := dk_42 (dk_at dksX4_mixCenters_5 22 rfl rfl)
theorem dX4_mixCenters_141 : decode cX4_mixCenters 141 = .ok (.getfield 263, 3) := dk_180 1 7 (dk_at dksX4_mixCenters_6 0 rfl rfl)
theorem dX4_mixCenters_144 : decode cX4_mixCenters 144 = .ok (.iconst 1, 1) := dk_4 (dk_at dksX4_mixCenters_6 3 rfl rfl)
theorem dX4_mixCenters_145 : decode cX4_mixCenters 145 = .ok (.invokestatic 156, 3) := dk_184 0 156 (dk_at dksX4_mixCenters_6 4 rfl rfl)
theorem dX4_mixCenters_148 : decode cX4_mixCenters 148 = .ok (.i2l, 1) := dk_133 (dk_at dksX4_mixCenters_6 7 rfl rfl)
theorem dX4_mixCenters_149 : decode cX4_mixCenters 149 = .ok (.invokevirtual 315, 3) := dk_182 1 59 (dk_at dksX4_mixCenters_6 8 rfl rfl)
theorem dX4_mixCenters_152 : decode cX4_mixCenters 152 = .ok (.iconst 0, 1) := dk_3 (dk_at dksX4_mixCenters_6 11 rfl rfl)
theorem dX4_mixCenters_153 : decode cX4_mixCenters 153 = .ok (.istore_n 2, 1) := dk_61 (dk_at dksX4_mixCenters_6 12 rfl rfl)
theorem dX4_mixCenters_154 : decode cX4_mixCenters 154 = .ok (.iload_n 2, 1) := dk_28 (dk_at dksX4_mixCenters_6 13 rfl rfl)
theorem dX4_mixCenters_155 : decode cX4_mixCenters 155 = .ok (.aload_n 0, 1) := dk_42 (dk_at dksX4_mixCenters_6 14 rfl rfl)
theorem dX4_mixCenters_156 : decode cX4_mixCenters 156 = .ok (.invokevirtual 73, 3) := dk_182 0 73 (dk_at dksX4_mixCenters_6 15 rfl rfl)
theorem dX4_mixCenters_159 : decode cX4_mixCenters 159 = .ok (.if_icmp .ge 34, 3) := dk_162 0 34 (dk_at dksX4_mixCenters_6 18 rfl rfl)
theorem dX4_mixCenters_162 : decode cX4_mixCenters 162 = .ok (.iconst 0, 1) := dk_3 (dk_at dksX4_mixCenters_6 21 rfl rfl)
theorem dX4_mixCenters_163 : decode cX4_mixCenters 163 = .ok (.istore_n 3, 1) := dk_62 (dk_at dksX4_mixCenters_6 22 rfl rfl)
theorem dX4_mixCenters_164 : decode cX4_mixCenters 164 = .ok (.iload_n 3, 1) := dk_29 (dk_at dksX4_mixCenters_6 23 rfl rfl)
theorem dX4_mixCenters_165 : decode cX4_mixCenters 165 = .ok (.iconst 4, 1) := dk_7 (dk_at dksX4_mixCenters_7 0 rfl rfl)
theorem dX4_mixCenters_166 : decode cX4_mixCenters 166 = .ok (.if_icmp .ge 21, 3) := dk_162 0 21 (dk_at dksX4_mixCenters_7 1 rfl rfl)
theorem dX4_mixCenters_169 : decode cX4_mixCenters 169 = .ok (.aload_n 0, 1) := dk_42 (dk_at dksX4_mixCenters_7 4 rfl rfl)
theorem dX4_mixCenters_170 : decode cX4_mixCenters 170 = .ok (.aload_n 0, 1) := dk_42 (dk_at dksX4_mixCenters_7 5 rfl rfl)
theorem dX4_mixCenters_171 : decode cX4_mixCenters 171 = .ok (.iload_n 2, 1) := dk_28 (dk_at dksX4_mixCenters_7 6 rfl rfl)
theorem dX4_mixCenters_172 : decode cX4_mixCenters 172 = .ok (.iconst 1, 1) := dk_4 (dk_at dksX4_mixCenters_7 7 rfl rfl)
theorem dX4_mixCenters_173 : decode cX4_mixCenters 173 = .ok (.iload_n 3, 1) := dk_29 (dk_at dksX4_mixCenters_7 8 rfl rfl)
theorem dX4_mixCenters_174 : decode cX4_mixCenters 174 = .ok (.invokevirtual 230, 3) := dk_182 0 230 (dk_at dksX4_mixCenters_7 9 rfl rfl)
theorem dX4_mixCenters_177 : decode cX4_mixCenters 177 = .ok (.i2l, 1) := dk_133 (dk_at dksX4_mixCenters_7 12 rfl rfl)
theorem dX4_mixCenters_178 : decode cX4_mixCenters 178 = .ok (.invokevirtual 315, 3) := dk_182 1 59 (dk_at dksX4_mixCenters_7 13 rfl rfl)
theorem dX4_mixCenters_181 : decode cX4_mixCenters 181 = .ok (.iinc 3 1, 3) := dk_132 3 1 (dk_at dksX4_mixCenters_7 16 rfl rfl)
theorem dX4_mixCenters_184 : decode cX4_mixCenters 184 = .ok (.goto (-20), 3) := dk_167 255 236 (dk_at dksX4_mixCenters_7 19 rfl rfl)
theorem dX4_mixCenters_187 : decode cX4_mixCenters 187 = .ok (.iinc 2 1, 3) := dk_132 2 1 (dk_at dksX4_mixCenters_8 0 rfl rfl)
theorem dX4_mixCenters_190 : decode cX4_mixCenters 190 = .ok (.goto (-36), 3) := dk_167 255 220 (dk_at dksX4_mixCenters_8 3 rfl rfl)
theorem dX4_mixCenters_193 : decode cX4_mixCenters 193 = .ok (.return_, 1) := dk_177 (dk_at dksX4_mixCenters_8 6 rfl rfl)
theorem q115 : (Jvm.Cond.initialized "NetworkCentersModel") ∈ lw_all := lw_g (lw_at lw_m1 11 rfl) rfl
theorem q1250 : (Jvm.Cond.selects "NetworkCentersModel" ({ cls := "java/lang/Object", name := "getClass", desc := "()Ljava/lang/Class;" } : Jvm.MethodName) ({ cls := "java/lang/Object", name := "getClass", desc := "()Ljava/lang/Class;" } : Jvm.MethodName)) ∈ lw_all := lw_g (lw_at lw_m5 186 rfl) rfl
theorem q2022 : (Jvm.Cond.instantiable "NetworkCentersModel" (27 : Nat)) ∈ lw_all := lw_g (lw_at lw_m8 238 rfl) rfl
theorem q2024 : (Jvm.Cond.instanceMethod ({ cls := "NetworkCentersModel", name := "<init>", desc := "()V" } : Jvm.MethodName)) ∈ lw_all := lw_g (lw_at lw_m9 0 rfl) rfl
theorem q2025 : (Jvm.Cond.code ({ cls := "NetworkCentersModel", name := "<init>", desc := "()V" } : Jvm.MethodName) prog_19_method_1_code (1 : Nat) (Option.none : Option Jvm.ClassFile.FieldType)) ∈ lw_all := lw_g (lw_at lw_m9 1 rfl) rfl
theorem q2026 : (Jvm.Cond.methodLink "NetworkCentersModel" (1 : Nat) ({ cls := "java/lang/Object", name := "<init>", desc := "()V" } : Jvm.MethodName)) ∈ lw_all := lw_g (lw_at lw_m9 2 rfl) rfl
theorem q2027 : (Jvm.Cond.methodLink "NetworkCentersModel" (50 : Nat) ({ cls := "NetworkCentersModel", name := "begins", desc := "(I)V" } : Jvm.MethodName)) ∈ lw_all := lw_g (lw_at lw_m9 3 rfl) rfl
theorem q2028 : (Jvm.Cond.privateMethod ({ cls := "NetworkCentersModel", name := "begins", desc := "(I)V" } : Jvm.MethodName)) ∈ lw_tbl := lw_at lw_m9 4 rfl
theorem q2029 : (Jvm.Cond.instanceMethod ({ cls := "NetworkCentersModel", name := "begins", desc := "(I)V" } : Jvm.MethodName)) ∈ lw_all := lw_g (lw_at lw_m9 5 rfl) rfl
theorem q2030 : (Jvm.Cond.code ({ cls := "NetworkCentersModel", name := "begins", desc := "(I)V" } : Jvm.MethodName) prog_19_method_2_code (3 : Nat) (Option.none : Option Jvm.ClassFile.FieldType)) ∈ lw_all := lw_g (lw_at lw_m9 6 rfl) rfl
theorem q2031 : (Jvm.Cond.fieldLink "NetworkCentersModel" (7 : Nat) "NetworkCentersModel" "now" "[I") ∈ lw_all := lw_g (lw_at lw_m9 7 rfl) rfl
theorem q2032 : (Jvm.Cond.fieldLink "NetworkCentersModel" (13 : Nat) "NetworkCentersModel" "past" "[I") ∈ lw_all := lw_g (lw_at lw_m9 8 rfl) rfl
theorem q2033 : (Jvm.Cond.fieldLink "NetworkCentersModel" (16 : Nat) "NetworkCentersModel" "kept" "[I") ∈ lw_all := lw_g (lw_at lw_m9 9 rfl) rfl
theorem q2034 : (Jvm.Cond.fieldLink "NetworkCentersModel" (58 : Nat) "NetworkCentersModel" "saved" "I") ∈ lw_all := lw_g (lw_at lw_m9 10 rfl) rfl
theorem q2035 : (Jvm.Cond.fieldLink "NetworkCentersModel" (54 : Nat) "NetworkCentersModel" "refusal" "I") ∈ lw_all := lw_g (lw_at lw_m9 11 rfl) rfl
theorem q2036 : (Jvm.Cond.fieldLink "NetworkCentersModel" (19 : Nat) "NetworkCentersModel" "text" "[I") ∈ lw_all := lw_g (lw_at lw_m9 12 rfl) rfl
theorem q2037 : (Jvm.Cond.fieldLink "NetworkCentersModel" (275 : Nat) "NetworkCentersModel" "length" "I") ∈ lw_all := lw_g (lw_at lw_m9 13 rfl) rfl
theorem q2038 : (Jvm.Cond.fieldLink "NetworkCentersModel" (22 : Nat) "NetworkCentersModel" "far" "[I") ∈ lw_all := lw_g (lw_at lw_m9 14 rfl) rfl
theorem q2039 : (Jvm.Cond.fieldLink "NetworkCentersModel" (25 : Nat) "NetworkCentersModel" "weights" "[I") ∈ lw_all := lw_g (lw_at lw_m9 15 rfl) rfl
theorem q2040 : (Jvm.Cond.fieldLink "NetworkCentersModel" (182 : Nat) "NetworkCentersModel" "crossMany" "I") ∈ lw_all := lw_g (lw_at lw_m9 16 rfl) rfl
theorem q2041 : (Jvm.Cond.fieldLink "NetworkCentersModel" (28 : Nat) "NetworkCentersModel" "crossP" "[J") ∈ lw_all := lw_g (lw_at lw_m9 17 rfl) rfl
theorem q2042 : (Jvm.Cond.fieldLink "NetworkCentersModel" (32 : Nat) "NetworkCentersModel" "crossQ" "[J") ∈ lw_all := lw_g (lw_at lw_m9 18 rfl) rfl
theorem q2043 : (Jvm.Cond.fieldLink "NetworkCentersModel" (195 : Nat) "NetworkCentersModel" "bestEdge" "I") ∈ lw_all := lw_g (lw_at lw_m9 19 rfl) rfl
theorem q2044 : (Jvm.Cond.fieldLink "NetworkCentersModel" (205 : Nat) "NetworkCentersModel" "bestP" "J") ∈ lw_all := lw_g (lw_at lw_m9 20 rfl) rfl
theorem q2045 : (Jvm.Cond.fieldLink "NetworkCentersModel" (198 : Nat) "NetworkCentersModel" "bestQ" "J") ∈ lw_all := lw_g (lw_at lw_m9 21 rfl) rfl
theorem q2046 : (Jvm.Cond.fieldLink "NetworkCentersModel" (202 : Nat) "NetworkCentersModel" "bestHeight" "J") ∈ lw_all := lw_g (lw_at lw_m9 22 rfl) rfl
theorem q2047 : (Jvm.Cond.fieldLink "NetworkCentersModel" (35 : Nat) "NetworkCentersModel" "radiusP" "[J") ∈ lw_all := lw_g (lw_at lw_m9 23 rfl) rfl
theorem q2048 : (Jvm.Cond.fieldLink "NetworkCentersModel" (38 : Nat) "NetworkCentersModel" "radiusQ" "[J") ∈ lw_all := lw_g (lw_at lw_m9 24 rfl) rfl
theorem q2049 : (Jvm.Cond.fieldLink "NetworkCentersModel" (41 : Nat) "NetworkCentersModel" "twoP" "[J") ∈ lw_all := lw_g (lw_at lw_m9 25 rfl) rfl
theorem q2050 : (Jvm.Cond.fieldLink "NetworkCentersModel" (44 : Nat) "NetworkCentersModel" "twoQ" "[J") ∈ lw_all := lw_g (lw_at lw_m9 26 rfl) rfl
theorem q2051 : (Jvm.Cond.fieldLink "NetworkCentersModel" (47 : Nat) "NetworkCentersModel" "covers" "[I") ∈ lw_all := lw_g (lw_at lw_m9 27 rfl) rfl
theorem q2052 : (Jvm.Cond.fieldLink "NetworkCentersModel" (260 : Nat) "NetworkCentersModel" "boundP" "J") ∈ lw_all := lw_g (lw_at lw_m9 28 rfl) rfl
theorem q2053 : (Jvm.Cond.fieldLink "NetworkCentersModel" (263 : Nat) "NetworkCentersModel" "boundQ" "J") ∈ lw_all := lw_g (lw_at lw_m9 29 rfl) rfl
theorem q2054 : (Jvm.Cond.fieldLink "NetworkCentersModel" (278 : Nat) "NetworkCentersModel" "place" "I") ∈ lw_all := lw_g (lw_at lw_m9 30 rfl) rfl
theorem q2055 : (Jvm.Cond.fieldLink "NetworkCentersModel" (284 : Nat) "NetworkCentersModel" "wrong" "I") ∈ lw_all := lw_g (lw_at lw_m9 31 rfl) rfl
theorem q2056 : (Jvm.Cond.fieldLink "NetworkCentersModel" (293 : Nat) "NetworkCentersModel" "done" "I") ∈ lw_all := lw_g (lw_at lw_m9 32 rfl) rfl
theorem q2057 : (Jvm.Cond.fieldLink "NetworkCentersModel" (312 : Nat) "NetworkCentersModel" "hash" "J") ∈ lw_all := lw_g (lw_at lw_m9 33 rfl) rfl
theorem q2058 : (Jvm.Cond.laysFinal "NetworkCentersModel" "NetworkCentersModel" "now" "[I") ∈ lw_all := lw_g (lw_at lw_m9 34 rfl) rfl
theorem q2059 : (Jvm.Cond.soleField "NetworkCentersModel" "now") ∈ lw_all := lw_g (lw_at lw_m9 35 rfl) rfl
theorem q2060 : (Jvm.Cond.laysFinal "NetworkCentersModel" "NetworkCentersModel" "past" "[I") ∈ lw_all := lw_g (lw_at lw_m9 36 rfl) rfl
theorem q2061 : (Jvm.Cond.soleField "NetworkCentersModel" "past") ∈ lw_all := lw_g (lw_at lw_m9 37 rfl) rfl
theorem q2062 : (Jvm.Cond.laysFinal "NetworkCentersModel" "NetworkCentersModel" "kept" "[I") ∈ lw_all := lw_g (lw_at lw_m9 38 rfl) rfl
theorem q2063 : (Jvm.Cond.soleField "NetworkCentersModel" "kept") ∈ lw_all := lw_g (lw_at lw_m9 39 rfl) rfl
theorem q2064 : (Jvm.Cond.lays "NetworkCentersModel" "NetworkCentersModel" "saved" "I") ∈ lw_all := lw_g (lw_at lw_m9 40 rfl) rfl
theorem q2065 : (Jvm.Cond.soleField "NetworkCentersModel" "saved") ∈ lw_all := lw_g (lw_at lw_m9 41 rfl) rfl
theorem q2066 : (Jvm.Cond.lays "NetworkCentersModel" "NetworkCentersModel" "refusal" "I") ∈ lw_all := lw_g (lw_at lw_m9 42 rfl) rfl
theorem q2067 : (Jvm.Cond.soleField "NetworkCentersModel" "refusal") ∈ lw_all := lw_g (lw_at lw_m9 43 rfl) rfl
theorem q2068 : (Jvm.Cond.laysFinal "NetworkCentersModel" "NetworkCentersModel" "text" "[I") ∈ lw_all := lw_g (lw_at lw_m9 44 rfl) rfl
theorem q2069 : (Jvm.Cond.soleField "NetworkCentersModel" "text") ∈ lw_all := lw_g (lw_at lw_m9 45 rfl) rfl
theorem q2070 : (Jvm.Cond.lays "NetworkCentersModel" "NetworkCentersModel" "length" "I") ∈ lw_all := lw_g (lw_at lw_m9 46 rfl) rfl
theorem q2071 : (Jvm.Cond.soleField "NetworkCentersModel" "length") ∈ lw_all := lw_g (lw_at lw_m9 47 rfl) rfl
theorem q2072 : (Jvm.Cond.laysFinal "NetworkCentersModel" "NetworkCentersModel" "far" "[I") ∈ lw_all := lw_g (lw_at lw_m9 48 rfl) rfl
theorem q2073 : (Jvm.Cond.soleField "NetworkCentersModel" "far") ∈ lw_all := lw_g (lw_at lw_m9 49 rfl) rfl
theorem q2074 : (Jvm.Cond.laysFinal "NetworkCentersModel" "NetworkCentersModel" "weights" "[I") ∈ lw_all := lw_g (lw_at lw_m9 50 rfl) rfl
theorem q2075 : (Jvm.Cond.soleField "NetworkCentersModel" "weights") ∈ lw_all := lw_g (lw_at lw_m9 51 rfl) rfl
theorem q2076 : (Jvm.Cond.lays "NetworkCentersModel" "NetworkCentersModel" "crossMany" "I") ∈ lw_all := lw_g (lw_at lw_m9 52 rfl) rfl
theorem q2077 : (Jvm.Cond.soleField "NetworkCentersModel" "crossMany") ∈ lw_all := lw_g (lw_at lw_m9 53 rfl) rfl
theorem q2078 : (Jvm.Cond.laysFinal "NetworkCentersModel" "NetworkCentersModel" "crossP" "[J") ∈ lw_all := lw_g (lw_at lw_m9 54 rfl) rfl
theorem q2079 : (Jvm.Cond.soleField "NetworkCentersModel" "crossP") ∈ lw_all := lw_g (lw_at lw_m9 55 rfl) rfl
theorem q2080 : (Jvm.Cond.laysFinal "NetworkCentersModel" "NetworkCentersModel" "crossQ" "[J") ∈ lw_all := lw_g (lw_at lw_m9 56 rfl) rfl
theorem q2081 : (Jvm.Cond.soleField "NetworkCentersModel" "crossQ") ∈ lw_all := lw_g (lw_at lw_m9 57 rfl) rfl
theorem q2082 : (Jvm.Cond.lays "NetworkCentersModel" "NetworkCentersModel" "bestEdge" "I") ∈ lw_all := lw_g (lw_at lw_m9 58 rfl) rfl
theorem q2083 : (Jvm.Cond.soleField "NetworkCentersModel" "bestEdge") ∈ lw_all := lw_g (lw_at lw_m9 59 rfl) rfl
theorem q2084 : (Jvm.Cond.lays "NetworkCentersModel" "NetworkCentersModel" "bestP" "J") ∈ lw_all := lw_g (lw_at lw_m9 60 rfl) rfl
theorem q2085 : (Jvm.Cond.soleField "NetworkCentersModel" "bestP") ∈ lw_all := lw_g (lw_at lw_m9 61 rfl) rfl
theorem q2086 : (Jvm.Cond.lays "NetworkCentersModel" "NetworkCentersModel" "bestQ" "J") ∈ lw_all := lw_g (lw_at lw_m9 62 rfl) rfl
theorem q2087 : (Jvm.Cond.soleField "NetworkCentersModel" "bestQ") ∈ lw_all := lw_g (lw_at lw_m9 63 rfl) rfl
theorem q2088 : (Jvm.Cond.lays "NetworkCentersModel" "NetworkCentersModel" "bestHeight" "J") ∈ lw_all := lw_g (lw_at lw_m9 64 rfl) rfl
theorem q2089 : (Jvm.Cond.soleField "NetworkCentersModel" "bestHeight") ∈ lw_all := lw_g (lw_at lw_m9 65 rfl) rfl
theorem q2090 : (Jvm.Cond.laysFinal "NetworkCentersModel" "NetworkCentersModel" "radiusP" "[J") ∈ lw_all := lw_g (lw_at lw_m9 66 rfl) rfl
theorem q2091 : (Jvm.Cond.soleField "NetworkCentersModel" "radiusP") ∈ lw_all := lw_g (lw_at lw_m9 67 rfl) rfl
theorem q2092 : (Jvm.Cond.laysFinal "NetworkCentersModel" "NetworkCentersModel" "radiusQ" "[J") ∈ lw_all := lw_g (lw_at lw_m9 68 rfl) rfl
theorem q2093 : (Jvm.Cond.soleField "NetworkCentersModel" "radiusQ") ∈ lw_all := lw_g (lw_at lw_m9 69 rfl) rfl
theorem q2094 : (Jvm.Cond.laysFinal "NetworkCentersModel" "NetworkCentersModel" "twoP" "[J") ∈ lw_all := lw_g (lw_at lw_m9 70 rfl) rfl
theorem q2095 : (Jvm.Cond.soleField "NetworkCentersModel" "twoP") ∈ lw_all := lw_g (lw_at lw_m9 71 rfl) rfl
theorem q2096 : (Jvm.Cond.laysFinal "NetworkCentersModel" "NetworkCentersModel" "twoQ" "[J") ∈ lw_all := lw_g (lw_at lw_m9 72 rfl) rfl
theorem q2097 : (Jvm.Cond.soleField "NetworkCentersModel" "twoQ") ∈ lw_all := lw_g (lw_at lw_m9 73 rfl) rfl
theorem q2098 : (Jvm.Cond.laysFinal "NetworkCentersModel" "NetworkCentersModel" "covers" "[I") ∈ lw_all := lw_g (lw_at lw_m9 74 rfl) rfl
theorem q2099 : (Jvm.Cond.soleField "NetworkCentersModel" "covers") ∈ lw_all := lw_g (lw_at lw_m9 75 rfl) rfl
theorem q2100 : (Jvm.Cond.lays "NetworkCentersModel" "NetworkCentersModel" "boundP" "J") ∈ lw_all := lw_g (lw_at lw_m9 76 rfl) rfl
theorem q2101 : (Jvm.Cond.soleField "NetworkCentersModel" "boundP") ∈ lw_all := lw_g (lw_at lw_m9 77 rfl) rfl
theorem q2102 : (Jvm.Cond.lays "NetworkCentersModel" "NetworkCentersModel" "boundQ" "J") ∈ lw_all := lw_g (lw_at lw_m9 78 rfl) rfl
theorem q2103 : (Jvm.Cond.soleField "NetworkCentersModel" "boundQ") ∈ lw_all := lw_g (lw_at lw_m9 79 rfl) rfl
theorem q2104 : (Jvm.Cond.lays "NetworkCentersModel" "NetworkCentersModel" "place" "I") ∈ lw_all := lw_g (lw_at lw_m9 80 rfl) rfl
theorem q2105 : (Jvm.Cond.soleField "NetworkCentersModel" "place") ∈ lw_all := lw_g (lw_at lw_m9 81 rfl) rfl
theorem q2106 : (Jvm.Cond.lays "NetworkCentersModel" "NetworkCentersModel" "wrong" "I") ∈ lw_all := lw_g (lw_at lw_m9 82 rfl) rfl
theorem q2107 : (Jvm.Cond.soleField "NetworkCentersModel" "wrong") ∈ lw_all := lw_g (lw_at lw_m9 83 rfl) rfl
theorem q2108 : (Jvm.Cond.lays "NetworkCentersModel" "NetworkCentersModel" "done" "I") ∈ lw_all := lw_g (lw_at lw_m9 84 rfl) rfl
theorem q2109 : (Jvm.Cond.soleField "NetworkCentersModel" "done") ∈ lw_all := lw_g (lw_at lw_m9 85 rfl) rfl
theorem q2110 : (Jvm.Cond.lays "NetworkCentersModel" "NetworkCentersModel" "hash" "J") ∈ lw_all := lw_g (lw_at lw_m9 86 rfl) rfl
theorem q2111 : (Jvm.Cond.soleField "NetworkCentersModel" "hash") ∈ lw_all := lw_g (lw_at lw_m9 87 rfl) rfl
theorem q2112 : (Jvm.Cond.superclass "NetworkCentersModel" "java/lang/Object") ∈ lw_all := lw_g (lw_at lw_m9 88 rfl) rfl
theorem q2114 : (Jvm.Cond.instanceMethod ({ cls := "NetworkCentersModel", name := "thrown", desc := "()I" } : Jvm.MethodName)) ∈ lw_all := lw_g (lw_at lw_m9 90 rfl) rfl
theorem q2115 : (Jvm.Cond.selects "NetworkCentersModel" ({ cls := "NetworkCentersModel", name := "thrown", desc := "()I" } : Jvm.MethodName) ({ cls := "NetworkCentersModel", name := "thrown", desc := "()I" } : Jvm.MethodName)) ∈ lw_all := lw_g (lw_at lw_m9 91 rfl) rfl
theorem q2116 : (Jvm.Cond.code ({ cls := "NetworkCentersModel", name := "thrown", desc := "()I" } : Jvm.MethodName) prog_19_method_3_code (1 : Nat) (Option.some Jvm.ClassFile.FieldType.int)) ∈ lw_all := lw_g (lw_at lw_m9 92 rfl) rfl
theorem q2118 : (Jvm.Cond.instanceMethod ({ cls := "NetworkCentersModel", name := "undo", desc := "()I" } : Jvm.MethodName)) ∈ lw_all := lw_g (lw_at lw_m9 94 rfl) rfl
theorem q2119 : (Jvm.Cond.selects "NetworkCentersModel" ({ cls := "NetworkCentersModel", name := "undo", desc := "()I" } : Jvm.MethodName) ({ cls := "NetworkCentersModel", name := "undo", desc := "()I" } : Jvm.MethodName)) ∈ lw_all := lw_g (lw_at lw_m9 95 rfl) rfl
theorem q2120 : (Jvm.Cond.code ({ cls := "NetworkCentersModel", name := "undo", desc := "()I" } : Jvm.MethodName) prog_19_method_8_code (2 : Nat) (Option.some Jvm.ClassFile.FieldType.int)) ∈ lw_all := lw_g (lw_at lw_m9 96 rfl) rfl
theorem q2121 : (Jvm.Cond.methodLink "NetworkCentersModel" (61 : Nat) ({ cls := "NetworkCentersModel", name := "refused", desc := "(I)Z" } : Jvm.MethodName)) ∈ lw_all := lw_g (lw_at lw_m9 97 rfl) rfl
theorem q2122 : (Jvm.Cond.privateMethod ({ cls := "NetworkCentersModel", name := "refused", desc := "(I)Z" } : Jvm.MethodName)) ∈ lw_tbl := lw_at lw_m9 98 rfl
theorem q2123 : (Jvm.Cond.instanceMethod ({ cls := "NetworkCentersModel", name := "refused", desc := "(I)Z" } : Jvm.MethodName)) ∈ lw_all := lw_g (lw_at lw_m9 99 rfl) rfl
theorem q2124 : (Jvm.Cond.code ({ cls := "NetworkCentersModel", name := "refused", desc := "(I)Z" } : Jvm.MethodName) prog_19_method_4_code (2 : Nat) (Option.some Jvm.ClassFile.FieldType.boolean)) ∈ lw_all := lw_g (lw_at lw_m9 100 rfl) rfl
theorem q2126 : (Jvm.Cond.instanceMethod ({ cls := "NetworkCentersModel", name := "reset", desc := "(I)I" } : Jvm.MethodName)) ∈ lw_all := lw_g (lw_at lw_m9 102 rfl) rfl
theorem q2127 : (Jvm.Cond.selects "NetworkCentersModel" ({ cls := "NetworkCentersModel", name := "reset", desc := "(I)I" } : Jvm.MethodName) ({ cls := "NetworkCentersModel", name := "reset", desc := "(I)I" } : Jvm.MethodName)) ∈ lw_all := lw_g (lw_at lw_m9 103 rfl) rfl
theorem q2128 : (Jvm.Cond.code ({ cls := "NetworkCentersModel", name := "reset", desc := "(I)I" } : Jvm.MethodName) prog_19_method_16_code (3 : Nat) (Option.some Jvm.ClassFile.FieldType.int)) ∈ lw_all := lw_g (lw_at lw_m9 104 rfl) rfl
theorem q2129 : (Jvm.Cond.methodLink "NetworkCentersModel" (69 : Nat) ({ cls := "NetworkCentersModel", name := "within", desc := "(III)Z" } : Jvm.MethodName)) ∈ lw_all := lw_g (lw_at lw_m9 105 rfl) rfl
theorem q2130 : (Jvm.Cond.static ({ cls := "NetworkCentersModel", name := "within", desc := "(III)Z" } : Jvm.MethodName)) ∈ lw_all := lw_g (lw_at lw_m9 106 rfl) rfl
theorem q2131 : (Jvm.Cond.code ({ cls := "NetworkCentersModel", name := "within", desc := "(III)Z" } : Jvm.MethodName) prog_19_method_5_code (3 : Nat) (Option.some Jvm.ClassFile.FieldType.boolean)) ∈ lw_all := lw_g (lw_at lw_m9 107 rfl) rfl
theorem q2132 : (Jvm.Cond.methodLink "NetworkCentersModel" (65 : Nat) ({ cls := "NetworkCentersModel", name := "many", desc := "()I" } : Jvm.MethodName)) ∈ lw_all := lw_g (lw_at lw_m9 108 rfl) rfl
theorem q2133 : (Jvm.Cond.privateMethod ({ cls := "NetworkCentersModel", name := "many", desc := "()I" } : Jvm.MethodName)) ∈ lw_tbl := lw_at lw_m9 109 rfl
theorem q2134 : (Jvm.Cond.instanceMethod ({ cls := "NetworkCentersModel", name := "many", desc := "()I" } : Jvm.MethodName)) ∈ lw_all := lw_g (lw_at lw_m9 110 rfl) rfl
theorem q2135 : (Jvm.Cond.code ({ cls := "NetworkCentersModel", name := "many", desc := "()I" } : Jvm.MethodName) prog_19_method_9_code (1 : Nat) (Option.some Jvm.ClassFile.FieldType.int)) ∈ lw_all := lw_g (lw_at lw_m9 111 rfl) rfl
theorem q2136 : (Jvm.Cond.methodLink "NetworkCentersModel" (76 : Nat) ({ cls := "NetworkCentersModel", name := "saves", desc := "()V" } : Jvm.MethodName)) ∈ lw_all := lw_g (lw_at lw_m9 112 rfl) rfl
theorem q2137 : (Jvm.Cond.privateMethod ({ cls := "NetworkCentersModel", name := "saves", desc := "()V" } : Jvm.MethodName)) ∈ lw_tbl := lw_at lw_m9 113 rfl
theorem q2138 : (Jvm.Cond.instanceMethod ({ cls := "NetworkCentersModel", name := "saves", desc := "()V" } : Jvm.MethodName)) ∈ lw_all := lw_g (lw_at lw_m9 114 rfl) rfl
theorem q2139 : (Jvm.Cond.code ({ cls := "NetworkCentersModel", name := "saves", desc := "()V" } : Jvm.MethodName) prog_19_method_7_code (2 : Nat) (Option.none : Option Jvm.ClassFile.FieldType)) ∈ lw_all := lw_g (lw_at lw_m9 115 rfl) rfl
theorem q2141 : (Jvm.Cond.instanceMethod ({ cls := "NetworkCentersModel", name := "connect", desc := "(III)I" } : Jvm.MethodName)) ∈ lw_all := lw_g (lw_at lw_m9 117 rfl) rfl
theorem q2142 : (Jvm.Cond.selects "NetworkCentersModel" ({ cls := "NetworkCentersModel", name := "connect", desc := "(III)I" } : Jvm.MethodName) ({ cls := "NetworkCentersModel", name := "connect", desc := "(III)I" } : Jvm.MethodName)) ∈ lw_all := lw_g (lw_at lw_m9 118 rfl) rfl
theorem q2143 : (Jvm.Cond.code ({ cls := "NetworkCentersModel", name := "connect", desc := "(III)I" } : Jvm.MethodName) prog_19_method_20_code (4 : Nat) (Option.some Jvm.ClassFile.FieldType.int)) ∈ lw_all := lw_g (lw_at lw_m9 119 rfl) rfl
theorem q2144 : (Jvm.Cond.methodLink "NetworkCentersModel" (90 : Nat) ({ cls := "NetworkCentersModel", name := "needConnect", desc := "(III)I" } : Jvm.MethodName)) ∈ lw_all := lw_g (lw_at lw_m9 120 rfl) rfl
theorem q2145 : (Jvm.Cond.privateMethod ({ cls := "NetworkCentersModel", name := "needConnect", desc := "(III)I" } : Jvm.MethodName)) ∈ lw_tbl := lw_at lw_m9 121 rfl
theorem q2146 : (Jvm.Cond.instanceMethod ({ cls := "NetworkCentersModel", name := "needConnect", desc := "(III)I" } : Jvm.MethodName)) ∈ lw_all := lw_g (lw_at lw_m9 122 rfl) rfl
theorem q2147 : (Jvm.Cond.code ({ cls := "NetworkCentersModel", name := "needConnect", desc := "(III)I" } : Jvm.MethodName) prog_19_method_18_code (4 : Nat) (Option.some Jvm.ClassFile.FieldType.int)) ∈ lw_all := lw_g (lw_at lw_m9 123 rfl) rfl
theorem q2148 : (Jvm.Cond.methodLink "NetworkCentersModel" (83 : Nat) ({ cls := "NetworkCentersModel", name := "isNode", desc := "(I)Z" } : Jvm.MethodName)) ∈ lw_all := lw_g (lw_at lw_m9 124 rfl) rfl
theorem q2149 : (Jvm.Cond.privateMethod ({ cls := "NetworkCentersModel", name := "isNode", desc := "(I)Z" } : Jvm.MethodName)) ∈ lw_tbl := lw_at lw_m9 125 rfl
theorem q2150 : (Jvm.Cond.instanceMethod ({ cls := "NetworkCentersModel", name := "isNode", desc := "(I)Z" } : Jvm.MethodName)) ∈ lw_all := lw_g (lw_at lw_m9 126 rfl) rfl
theorem q2151 : (Jvm.Cond.code ({ cls := "NetworkCentersModel", name := "isNode", desc := "(I)Z" } : Jvm.MethodName) prog_19_method_10_code (2 : Nat) (Option.some Jvm.ClassFile.FieldType.boolean)) ∈ lw_all := lw_g (lw_at lw_m9 127 rfl) rfl
theorem q2152 : (Jvm.Cond.methodLink "NetworkCentersModel" (86 : Nat) ({ cls := "NetworkCentersModel", name := "areJoined", desc := "(II)Z" } : Jvm.MethodName)) ∈ lw_all := lw_g (lw_at lw_m9 128 rfl) rfl
theorem q2153 : (Jvm.Cond.privateMethod ({ cls := "NetworkCentersModel", name := "areJoined", desc := "(II)Z" } : Jvm.MethodName)) ∈ lw_tbl := lw_at lw_m9 129 rfl
theorem q2154 : (Jvm.Cond.instanceMethod ({ cls := "NetworkCentersModel", name := "areJoined", desc := "(II)Z" } : Jvm.MethodName)) ∈ lw_all := lw_g (lw_at lw_m9 130 rfl) rfl
theorem q2155 : (Jvm.Cond.code ({ cls := "NetworkCentersModel", name := "areJoined", desc := "(II)Z" } : Jvm.MethodName) prog_19_method_17_code (5 : Nat) (Option.some Jvm.ClassFile.FieldType.boolean)) ∈ lw_all := lw_g (lw_at lw_m9 131 rfl) rfl
theorem q2156 : (Jvm.Cond.methodLink "NetworkCentersModel" (73 : Nat) ({ cls := "NetworkCentersModel", name := "edgeMany", desc := "()I" } : Jvm.MethodName)) ∈ lw_all := lw_g (lw_at lw_m9 132 rfl) rfl
theorem q2157 : (Jvm.Cond.privateMethod ({ cls := "NetworkCentersModel", name := "edgeMany", desc := "()I" } : Jvm.MethodName)) ∈ lw_tbl := lw_at lw_m9 133 rfl
theorem q2158 : (Jvm.Cond.instanceMethod ({ cls := "NetworkCentersModel", name := "edgeMany", desc := "()I" } : Jvm.MethodName)) ∈ lw_all := lw_g (lw_at lw_m9 134 rfl) rfl
theorem q2159 : (Jvm.Cond.code ({ cls := "NetworkCentersModel", name := "edgeMany", desc := "()I" } : Jvm.MethodName) prog_19_method_11_code (1 : Nat) (Option.some Jvm.ClassFile.FieldType.int)) ∈ lw_all := lw_g (lw_at lw_m9 135 rfl) rfl
theorem q2160 : (Jvm.Cond.methodLink "NetworkCentersModel" (79 : Nat) ({ cls := "NetworkCentersModel", name := "of", desc := "(II)I" } : Jvm.MethodName)) ∈ lw_all := lw_g (lw_at lw_m9 136 rfl) rfl
theorem q2161 : (Jvm.Cond.privateMethod ({ cls := "NetworkCentersModel", name := "of", desc := "(II)I" } : Jvm.MethodName)) ∈ lw_tbl := lw_at lw_m9 137 rfl
theorem q2162 : (Jvm.Cond.instanceMethod ({ cls := "NetworkCentersModel", name := "of", desc := "(II)I" } : Jvm.MethodName)) ∈ lw_all := lw_g (lw_at lw_m9 138 rfl) rfl
theorem q2163 : (Jvm.Cond.code ({ cls := "NetworkCentersModel", name := "of", desc := "(II)I" } : Jvm.MethodName) prog_19_method_13_code (3 : Nat) (Option.some Jvm.ClassFile.FieldType.int)) ∈ lw_all := lw_g (lw_at lw_m9 139 rfl) rfl
theorem q2164 : (Jvm.Cond.methodLink "NetworkCentersModel" (94 : Nat) ({ cls := "NetworkCentersModel", name := "connects", desc := "(III)I" } : Jvm.MethodName)) ∈ lw_all := lw_g (lw_at lw_m9 140 rfl) rfl
theorem q2165 : (Jvm.Cond.privateMethod ({ cls := "NetworkCentersModel", name := "connects", desc := "(III)I" } : Jvm.MethodName)) ∈ lw_tbl := lw_at lw_m9 141 rfl
theorem q2166 : (Jvm.Cond.instanceMethod ({ cls := "NetworkCentersModel", name := "connects", desc := "(III)I" } : Jvm.MethodName)) ∈ lw_all := lw_g (lw_at lw_m9 142 rfl) rfl
theorem q2167 : (Jvm.Cond.code ({ cls := "NetworkCentersModel", name := "connects", desc := "(III)I" } : Jvm.MethodName) prog_19_method_19_code (5 : Nat) (Option.some Jvm.ClassFile.FieldType.int)) ∈ lw_all := lw_g (lw_at lw_m9 143 rfl) rfl
theorem q2169 : (Jvm.Cond.instanceMethod ({ cls := "NetworkCentersModel", name := "disconnect", desc := "(I)I" } : Jvm.MethodName)) ∈ lw_all := lw_g (lw_at lw_m9 145 rfl) rfl
theorem q2170 : (Jvm.Cond.selects "NetworkCentersModel" ({ cls := "NetworkCentersModel", name := "disconnect", desc := "(I)I" } : Jvm.MethodName) ({ cls := "NetworkCentersModel", name := "disconnect", desc := "(I)I" } : Jvm.MethodName)) ∈ lw_all := lw_g (lw_at lw_m9 146 rfl) rfl
theorem q2171 : (Jvm.Cond.code ({ cls := "NetworkCentersModel", name := "disconnect", desc := "(I)I" } : Jvm.MethodName) prog_19_method_23_code (2 : Nat) (Option.some Jvm.ClassFile.FieldType.int)) ∈ lw_all := lw_g (lw_at lw_m9 147 rfl) rfl
theorem q2172 : (Jvm.Cond.methodLink "NetworkCentersModel" (106 : Nat) ({ cls := "NetworkCentersModel", name := "isEdge", desc := "(I)Z" } : Jvm.MethodName)) ∈ lw_all := lw_g (lw_at lw_m9 148 rfl) rfl
theorem q2173 : (Jvm.Cond.privateMethod ({ cls := "NetworkCentersModel", name := "isEdge", desc := "(I)Z" } : Jvm.MethodName)) ∈ lw_tbl := lw_at lw_m9 149 rfl
theorem q2174 : (Jvm.Cond.instanceMethod ({ cls := "NetworkCentersModel", name := "isEdge", desc := "(I)Z" } : Jvm.MethodName)) ∈ lw_all := lw_g (lw_at lw_m9 150 rfl) rfl
theorem q2175 : (Jvm.Cond.code ({ cls := "NetworkCentersModel", name := "isEdge", desc := "(I)Z" } : Jvm.MethodName) prog_19_method_12_code (2 : Nat) (Option.some Jvm.ClassFile.FieldType.boolean)) ∈ lw_all := lw_g (lw_at lw_m9 151 rfl) rfl
theorem q2176 : (Jvm.Cond.methodLink "NetworkCentersModel" (109 : Nat) ({ cls := "NetworkCentersModel", name := "dropsEdge", desc := "(I)I" } : Jvm.MethodName)) ∈ lw_all := lw_g (lw_at lw_m9 152 rfl) rfl
theorem q2177 : (Jvm.Cond.privateMethod ({ cls := "NetworkCentersModel", name := "dropsEdge", desc := "(I)I" } : Jvm.MethodName)) ∈ lw_tbl := lw_at lw_m9 153 rfl
theorem q2178 : (Jvm.Cond.instanceMethod ({ cls := "NetworkCentersModel", name := "dropsEdge", desc := "(I)I" } : Jvm.MethodName)) ∈ lw_all := lw_g (lw_at lw_m9 154 rfl) rfl
theorem q2179 : (Jvm.Cond.code ({ cls := "NetworkCentersModel", name := "dropsEdge", desc := "(I)I" } : Jvm.MethodName) prog_19_method_22_code (4 : Nat) (Option.some Jvm.ClassFile.FieldType.int)) ∈ lw_all := lw_g (lw_at lw_m9 155 rfl) rfl
theorem q2180 : (Jvm.Cond.methodLink "NetworkCentersModel" (97 : Nat) ({ cls := "NetworkCentersModel", name := "stretchMany", desc := "()I" } : Jvm.MethodName)) ∈ lw_all := lw_g (lw_at lw_m9 156 rfl) rfl
theorem q2181 : (Jvm.Cond.privateMethod ({ cls := "NetworkCentersModel", name := "stretchMany", desc := "()I" } : Jvm.MethodName)) ∈ lw_tbl := lw_at lw_m9 157 rfl
theorem q2182 : (Jvm.Cond.instanceMethod ({ cls := "NetworkCentersModel", name := "stretchMany", desc := "()I" } : Jvm.MethodName)) ∈ lw_all := lw_g (lw_at lw_m9 158 rfl) rfl
theorem q2183 : (Jvm.Cond.code ({ cls := "NetworkCentersModel", name := "stretchMany", desc := "()I" } : Jvm.MethodName) prog_19_method_14_code (1 : Nat) (Option.some Jvm.ClassFile.FieldType.int)) ∈ lw_all := lw_g (lw_at lw_m9 159 rfl) rfl
theorem q2184 : (Jvm.Cond.methodLink "NetworkCentersModel" (100 : Nat) ({ cls := "NetworkCentersModel", name := "at", desc := "(II)I" } : Jvm.MethodName)) ∈ lw_all := lw_g (lw_at lw_m9 160 rfl) rfl
theorem q2185 : (Jvm.Cond.privateMethod ({ cls := "NetworkCentersModel", name := "at", desc := "(II)I" } : Jvm.MethodName)) ∈ lw_tbl := lw_at lw_m9 161 rfl
theorem q2186 : (Jvm.Cond.instanceMethod ({ cls := "NetworkCentersModel", name := "at", desc := "(II)I" } : Jvm.MethodName)) ∈ lw_all := lw_g (lw_at lw_m9 162 rfl) rfl
theorem q2187 : (Jvm.Cond.code ({ cls := "NetworkCentersModel", name := "at", desc := "(II)I" } : Jvm.MethodName) prog_19_method_15_code (3 : Nat) (Option.some Jvm.ClassFile.FieldType.int)) ∈ lw_all := lw_g (lw_at lw_m9 163 rfl) rfl
theorem q2188 : (Jvm.Cond.methodLink "NetworkCentersModel" (103 : Nat) ({ cls := "NetworkCentersModel", name := "dropsStretch", desc := "(I)V" } : Jvm.MethodName)) ∈ lw_all := lw_g (lw_at lw_m9 164 rfl) rfl
theorem q2189 : (Jvm.Cond.privateMethod ({ cls := "NetworkCentersModel", name := "dropsStretch", desc := "(I)V" } : Jvm.MethodName)) ∈ lw_tbl := lw_at lw_m9 165 rfl
theorem q2190 : (Jvm.Cond.instanceMethod ({ cls := "NetworkCentersModel", name := "dropsStretch", desc := "(I)V" } : Jvm.MethodName)) ∈ lw_all := lw_g (lw_at lw_m9 166 rfl) rfl
theorem q2191 : (Jvm.Cond.code ({ cls := "NetworkCentersModel", name := "dropsStretch", desc := "(I)V" } : Jvm.MethodName) prog_19_method_21_code (3 : Nat) (Option.none : Option Jvm.ClassFile.FieldType)) ∈ lw_all := lw_g (lw_at lw_m9 167 rfl) rfl
theorem q2193 : (Jvm.Cond.instanceMethod ({ cls := "NetworkCentersModel", name := "setWeight", desc := "(II)I" } : Jvm.MethodName)) ∈ lw_all := lw_g (lw_at lw_m9 169 rfl) rfl
theorem q2194 : (Jvm.Cond.selects "NetworkCentersModel" ({ cls := "NetworkCentersModel", name := "setWeight", desc := "(II)I" } : Jvm.MethodName) ({ cls := "NetworkCentersModel", name := "setWeight", desc := "(II)I" } : Jvm.MethodName)) ∈ lw_all := lw_g (lw_at lw_m9 170 rfl) rfl
theorem q2195 : (Jvm.Cond.code ({ cls := "NetworkCentersModel", name := "setWeight", desc := "(II)I" } : Jvm.MethodName) prog_19_method_25_code (4 : Nat) (Option.some Jvm.ClassFile.FieldType.int)) ∈ lw_all := lw_g (lw_at lw_m9 171 rfl) rfl
theorem q2196 : (Jvm.Cond.methodLink "NetworkCentersModel" (113 : Nat) ({ cls := "NetworkCentersModel", name := "needSet", desc := "(II)I" } : Jvm.MethodName)) ∈ lw_all := lw_g (lw_at lw_m9 172 rfl) rfl
theorem q2197 : (Jvm.Cond.privateMethod ({ cls := "NetworkCentersModel", name := "needSet", desc := "(II)I" } : Jvm.MethodName)) ∈ lw_tbl := lw_at lw_m9 173 rfl
theorem q2198 : (Jvm.Cond.instanceMethod ({ cls := "NetworkCentersModel", name := "needSet", desc := "(II)I" } : Jvm.MethodName)) ∈ lw_all := lw_g (lw_at lw_m9 174 rfl) rfl
theorem q2199 : (Jvm.Cond.code ({ cls := "NetworkCentersModel", name := "needSet", desc := "(II)I" } : Jvm.MethodName) prog_19_method_24_code (3 : Nat) (Option.some Jvm.ClassFile.FieldType.int)) ∈ lw_all := lw_g (lw_at lw_m9 175 rfl) rfl
theorem q2201 : (Jvm.Cond.instanceMethod ({ cls := "NetworkCentersModel", name := "setTrend", desc := "(II)I" } : Jvm.MethodName)) ∈ lw_all := lw_g (lw_at lw_m9 177 rfl) rfl
theorem q2202 : (Jvm.Cond.selects "NetworkCentersModel" ({ cls := "NetworkCentersModel", name := "setTrend", desc := "(II)I" } : Jvm.MethodName) ({ cls := "NetworkCentersModel", name := "setTrend", desc := "(II)I" } : Jvm.MethodName)) ∈ lw_all := lw_g (lw_at lw_m9 178 rfl) rfl
theorem q2203 : (Jvm.Cond.code ({ cls := "NetworkCentersModel", name := "setTrend", desc := "(II)I" } : Jvm.MethodName) prog_19_method_26_code (4 : Nat) (Option.some Jvm.ClassFile.FieldType.int)) ∈ lw_all := lw_g (lw_at lw_m9 179 rfl) rfl
theorem q2205 : (Jvm.Cond.instanceMethod ({ cls := "NetworkCentersModel", name := "forbid", desc := "(III)I" } : Jvm.MethodName)) ∈ lw_all := lw_g (lw_at lw_m9 181 rfl) rfl
theorem q2206 : (Jvm.Cond.selects "NetworkCentersModel" ({ cls := "NetworkCentersModel", name := "forbid", desc := "(III)I" } : Jvm.MethodName) ({ cls := "NetworkCentersModel", name := "forbid", desc := "(III)I" } : Jvm.MethodName)) ∈ lw_all := lw_g (lw_at lw_m9 182 rfl) rfl
theorem q2207 : (Jvm.Cond.code ({ cls := "NetworkCentersModel", name := "forbid", desc := "(III)I" } : Jvm.MethodName) prog_19_method_29_code (4 : Nat) (Option.some Jvm.ClassFile.FieldType.int)) ∈ lw_all := lw_g (lw_at lw_m9 183 rfl) rfl
theorem q2208 : (Jvm.Cond.methodLink "NetworkCentersModel" (116 : Nat) ({ cls := "NetworkCentersModel", name := "needForbid", desc := "(III)I" } : Jvm.MethodName)) ∈ lw_all := lw_g (lw_at lw_m9 184 rfl) rfl
theorem q2209 : (Jvm.Cond.privateMethod ({ cls := "NetworkCentersModel", name := "needForbid", desc := "(III)I" } : Jvm.MethodName)) ∈ lw_tbl := lw_at lw_m9 185 rfl
theorem q2210 : (Jvm.Cond.instanceMethod ({ cls := "NetworkCentersModel", name := "needForbid", desc := "(III)I" } : Jvm.MethodName)) ∈ lw_all := lw_g (lw_at lw_m9 186 rfl) rfl
theorem q2211 : (Jvm.Cond.code ({ cls := "NetworkCentersModel", name := "needForbid", desc := "(III)I" } : Jvm.MethodName) prog_19_method_27_code (4 : Nat) (Option.some Jvm.ClassFile.FieldType.int)) ∈ lw_all := lw_g (lw_at lw_m9 187 rfl) rfl
theorem q2212 : (Jvm.Cond.methodLink "NetworkCentersModel" (119 : Nat) ({ cls := "NetworkCentersModel", name := "forbids", desc := "(III)I" } : Jvm.MethodName)) ∈ lw_all := lw_g (lw_at lw_m9 188 rfl) rfl
theorem q2213 : (Jvm.Cond.privateMethod ({ cls := "NetworkCentersModel", name := "forbids", desc := "(III)I" } : Jvm.MethodName)) ∈ lw_tbl := lw_at lw_m9 189 rfl
theorem q2214 : (Jvm.Cond.instanceMethod ({ cls := "NetworkCentersModel", name := "forbids", desc := "(III)I" } : Jvm.MethodName)) ∈ lw_all := lw_g (lw_at lw_m9 190 rfl) rfl
theorem q2215 : (Jvm.Cond.code ({ cls := "NetworkCentersModel", name := "forbids", desc := "(III)I" } : Jvm.MethodName) prog_19_method_28_code (5 : Nat) (Option.some Jvm.ClassFile.FieldType.int)) ∈ lw_all := lw_g (lw_at lw_m9 191 rfl) rfl
theorem q2217 : (Jvm.Cond.instanceMethod ({ cls := "NetworkCentersModel", name := "allow", desc := "(I)I" } : Jvm.MethodName)) ∈ lw_all := lw_g (lw_at lw_m9 193 rfl) rfl
theorem q2218 : (Jvm.Cond.selects "NetworkCentersModel" ({ cls := "NetworkCentersModel", name := "allow", desc := "(I)I" } : Jvm.MethodName) ({ cls := "NetworkCentersModel", name := "allow", desc := "(I)I" } : Jvm.MethodName)) ∈ lw_all := lw_g (lw_at lw_m9 194 rfl) rfl
theorem q2219 : (Jvm.Cond.code ({ cls := "NetworkCentersModel", name := "allow", desc := "(I)I" } : Jvm.MethodName) prog_19_method_30_code (3 : Nat) (Option.some Jvm.ClassFile.FieldType.int)) ∈ lw_all := lw_g (lw_at lw_m9 195 rfl) rfl
theorem q2221 : (Jvm.Cond.instanceMethod ({ cls := "NetworkCentersModel", name := "count", desc := "(I)I" } : Jvm.MethodName)) ∈ lw_all := lw_g (lw_at lw_m9 197 rfl) rfl
theorem q2222 : (Jvm.Cond.selects "NetworkCentersModel" ({ cls := "NetworkCentersModel", name := "count", desc := "(I)I" } : Jvm.MethodName) ({ cls := "NetworkCentersModel", name := "count", desc := "(I)I" } : Jvm.MethodName)) ∈ lw_all := lw_g (lw_at lw_m9 198 rfl) rfl
theorem q2223 : (Jvm.Cond.code ({ cls := "NetworkCentersModel", name := "count", desc := "(I)I" } : Jvm.MethodName) prog_19_method_32_code (2 : Nat) (Option.some Jvm.ClassFile.FieldType.int)) ∈ lw_all := lw_g (lw_at lw_m9 199 rfl) rfl
theorem q2224 : (Jvm.Cond.methodLink "NetworkCentersModel" (126 : Nat) ({ cls := "NetworkCentersModel", name := "counted", desc := "(I)I" } : Jvm.MethodName)) ∈ lw_all := lw_g (lw_at lw_m9 200 rfl) rfl
theorem q2225 : (Jvm.Cond.privateMethod ({ cls := "NetworkCentersModel", name := "counted", desc := "(I)I" } : Jvm.MethodName)) ∈ lw_tbl := lw_at lw_m9 201 rfl
theorem q2226 : (Jvm.Cond.instanceMethod ({ cls := "NetworkCentersModel", name := "counted", desc := "(I)I" } : Jvm.MethodName)) ∈ lw_all := lw_g (lw_at lw_m9 202 rfl) rfl
theorem q2227 : (Jvm.Cond.code ({ cls := "NetworkCentersModel", name := "counted", desc := "(I)I" } : Jvm.MethodName) prog_19_method_31_code (2 : Nat) (Option.some Jvm.ClassFile.FieldType.int)) ∈ lw_all := lw_g (lw_at lw_m9 203 rfl) rfl
theorem q2228 : (Jvm.Cond.methodLink "NetworkCentersModel" (122 : Nat) ({ cls := "NetworkCentersModel", name := "isConnected", desc := "()Z" } : Jvm.MethodName)) ∈ lw_all := lw_g (lw_at lw_m9 204 rfl) rfl
theorem q2229 : (Jvm.Cond.privateMethod ({ cls := "NetworkCentersModel", name := "isConnected", desc := "()Z" } : Jvm.MethodName)) ∈ lw_tbl := lw_at lw_m9 205 rfl
theorem q2230 : (Jvm.Cond.instanceMethod ({ cls := "NetworkCentersModel", name := "isConnected", desc := "()Z" } : Jvm.MethodName)) ∈ lw_all := lw_g (lw_at lw_m9 206 rfl) rfl
theorem q2231 : (Jvm.Cond.code ({ cls := "NetworkCentersModel", name := "isConnected", desc := "()Z" } : Jvm.MethodName) prog_19_method_38_code (3 : Nat) (Option.some Jvm.ClassFile.FieldType.boolean)) ∈ lw_all := lw_g (lw_at lw_m9 207 rfl) rfl
theorem q2232 : (Jvm.Cond.methodLink "NetworkCentersModel" (133 : Nat) ({ cls := "NetworkCentersModel", name := "lays", desc := "()V" } : Jvm.MethodName)) ∈ lw_all := lw_g (lw_at lw_m9 208 rfl) rfl
theorem q2233 : (Jvm.Cond.privateMethod ({ cls := "NetworkCentersModel", name := "lays", desc := "()V" } : Jvm.MethodName)) ∈ lw_tbl := lw_at lw_m9 209 rfl
theorem q2234 : (Jvm.Cond.instanceMethod ({ cls := "NetworkCentersModel", name := "lays", desc := "()V" } : Jvm.MethodName)) ∈ lw_all := lw_g (lw_at lw_m9 210 rfl) rfl
theorem q2235 : (Jvm.Cond.code ({ cls := "NetworkCentersModel", name := "lays", desc := "()V" } : Jvm.MethodName) prog_19_method_37_code (5 : Nat) (Option.none : Option Jvm.ClassFile.FieldType)) ∈ lw_all := lw_g (lw_at lw_m9 211 rfl) rfl
theorem q2236 : (Jvm.Cond.constant "NetworkCentersModel" (132 : Nat) (100000 : Int32)) ∈ lw_all := lw_g (lw_at lw_m9 212 rfl) rfl
theorem q2238 : (Jvm.Cond.instanceMethod ({ cls := "NetworkCentersModel", name := "edge", desc := "(II)I" } : Jvm.MethodName)) ∈ lw_all := lw_g (lw_at lw_m9 214 rfl) rfl
theorem q2239 : (Jvm.Cond.selects "NetworkCentersModel" ({ cls := "NetworkCentersModel", name := "edge", desc := "(II)I" } : Jvm.MethodName) ({ cls := "NetworkCentersModel", name := "edge", desc := "(II)I" } : Jvm.MethodName)) ∈ lw_all := lw_g (lw_at lw_m9 215 rfl) rfl
theorem q2240 : (Jvm.Cond.code ({ cls := "NetworkCentersModel", name := "edge", desc := "(II)I" } : Jvm.MethodName) prog_19_method_33_code (3 : Nat) (Option.some Jvm.ClassFile.FieldType.int)) ∈ lw_all := lw_g (lw_at lw_m9 216 rfl) rfl
theorem q2242 : (Jvm.Cond.instanceMethod ({ cls := "NetworkCentersModel", name := "node", desc := "(II)I" } : Jvm.MethodName)) ∈ lw_all := lw_g (lw_at lw_m9 218 rfl) rfl
theorem q2243 : (Jvm.Cond.selects "NetworkCentersModel" ({ cls := "NetworkCentersModel", name := "node", desc := "(II)I" } : Jvm.MethodName) ({ cls := "NetworkCentersModel", name := "node", desc := "(II)I" } : Jvm.MethodName)) ∈ lw_all := lw_g (lw_at lw_m9 219 rfl) rfl
theorem q2244 : (Jvm.Cond.code ({ cls := "NetworkCentersModel", name := "node", desc := "(II)I" } : Jvm.MethodName) prog_19_method_35_code (3 : Nat) (Option.some Jvm.ClassFile.FieldType.int)) ∈ lw_all := lw_g (lw_at lw_m9 220 rfl) rfl
theorem q2245 : (Jvm.Cond.methodLink "NetworkCentersModel" (129 : Nat) ({ cls := "NetworkCentersModel", name := "nodeTold", desc := "(II)I" } : Jvm.MethodName)) ∈ lw_all := lw_g (lw_at lw_m9 221 rfl) rfl
theorem q2246 : (Jvm.Cond.privateMethod ({ cls := "NetworkCentersModel", name := "nodeTold", desc := "(II)I" } : Jvm.MethodName)) ∈ lw_tbl := lw_at lw_m9 222 rfl
theorem q2247 : (Jvm.Cond.instanceMethod ({ cls := "NetworkCentersModel", name := "nodeTold", desc := "(II)I" } : Jvm.MethodName)) ∈ lw_all := lw_g (lw_at lw_m9 223 rfl) rfl
theorem q2248 : (Jvm.Cond.code ({ cls := "NetworkCentersModel", name := "nodeTold", desc := "(II)I" } : Jvm.MethodName) prog_19_method_34_code (5 : Nat) (Option.some Jvm.ClassFile.FieldType.int)) ∈ lw_all := lw_g (lw_at lw_m9 224 rfl) rfl
theorem q2250 : (Jvm.Cond.instanceMethod ({ cls := "NetworkCentersModel", name := "stretch", desc := "(II)I" } : Jvm.MethodName)) ∈ lw_all := lw_g (lw_at lw_m9 226 rfl) rfl
theorem q2251 : (Jvm.Cond.selects "NetworkCentersModel" ({ cls := "NetworkCentersModel", name := "stretch", desc := "(II)I" } : Jvm.MethodName) ({ cls := "NetworkCentersModel", name := "stretch", desc := "(II)I" } : Jvm.MethodName)) ∈ lw_all := lw_g (lw_at lw_m9 227 rfl) rfl
theorem q2252 : (Jvm.Cond.code ({ cls := "NetworkCentersModel", name := "stretch", desc := "(II)I" } : Jvm.MethodName) prog_19_method_36_code (3 : Nat) (Option.some Jvm.ClassFile.FieldType.int)) ∈ lw_all := lw_g (lw_at lw_m9 228 rfl) rfl
theorem q2254 : (Jvm.Cond.instanceMethod ({ cls := "NetworkCentersModel", name := "distance", desc := "(II)I" } : Jvm.MethodName)) ∈ lw_all := lw_g (lw_at lw_m9 230 rfl) rfl
theorem q2255 : (Jvm.Cond.selects "NetworkCentersModel" ({ cls := "NetworkCentersModel", name := "distance", desc := "(II)I" } : Jvm.MethodName) ({ cls := "NetworkCentersModel", name := "distance", desc := "(II)I" } : Jvm.MethodName)) ∈ lw_all := lw_g (lw_at lw_m9 231 rfl) rfl
theorem q2256 : (Jvm.Cond.code ({ cls := "NetworkCentersModel", name := "distance", desc := "(II)I" } : Jvm.MethodName) prog_19_method_40_code (3 : Nat) (Option.some Jvm.ClassFile.FieldType.int)) ∈ lw_all := lw_g (lw_at lw_m9 232 rfl) rfl
theorem q2257 : (Jvm.Cond.methodLink "NetworkCentersModel" (136 : Nat) ({ cls := "NetworkCentersModel", name := "areNodes", desc := "(II)Z" } : Jvm.MethodName)) ∈ lw_all := lw_g (lw_at lw_m9 233 rfl) rfl
theorem q2258 : (Jvm.Cond.privateMethod ({ cls := "NetworkCentersModel", name := "areNodes", desc := "(II)Z" } : Jvm.MethodName)) ∈ lw_tbl := lw_at lw_m9 234 rfl
theorem q2259 : (Jvm.Cond.instanceMethod ({ cls := "NetworkCentersModel", name := "areNodes", desc := "(II)Z" } : Jvm.MethodName)) ∈ lw_all := lw_g (lw_at lw_m9 235 rfl) rfl
theorem q2260 : (Jvm.Cond.code ({ cls := "NetworkCentersModel", name := "areNodes", desc := "(II)Z" } : Jvm.MethodName) prog_19_method_39_code (3 : Nat) (Option.some Jvm.ClassFile.FieldType.boolean)) ∈ lw_all := lw_g (lw_at lw_m9 236 rfl) rfl
theorem q2262 : (Jvm.Cond.instanceMethod ({ cls := "NetworkCentersModel", name := "next", desc := "(II)I" } : Jvm.MethodName)) ∈ lw_all := lw_g (lw_at lw_m9 238 rfl) rfl
theorem q2263 : (Jvm.Cond.selects "NetworkCentersModel" ({ cls := "NetworkCentersModel", name := "next", desc := "(II)I" } : Jvm.MethodName) ({ cls := "NetworkCentersModel", name := "next", desc := "(II)I" } : Jvm.MethodName)) ∈ lw_all := lw_g (lw_at lw_m9 239 rfl) rfl
theorem q2264 : (Jvm.Cond.code ({ cls := "NetworkCentersModel", name := "next", desc := "(II)I" } : Jvm.MethodName) prog_19_method_41_code (6 : Nat) (Option.some Jvm.ClassFile.FieldType.int)) ∈ lw_all := lw_g (lw_at lw_m10 0 rfl) rfl
theorem q2266 : (Jvm.Cond.instanceMethod ({ cls := "NetworkCentersModel", name := "diameter", desc := "()I" } : Jvm.MethodName)) ∈ lw_all := lw_g (lw_at lw_m10 2 rfl) rfl
theorem q2267 : (Jvm.Cond.selects "NetworkCentersModel" ({ cls := "NetworkCentersModel", name := "diameter", desc := "()I" } : Jvm.MethodName) ({ cls := "NetworkCentersModel", name := "diameter", desc := "()I" } : Jvm.MethodName)) ∈ lw_all := lw_g (lw_at lw_m10 3 rfl) rfl
theorem q2268 : (Jvm.Cond.code ({ cls := "NetworkCentersModel", name := "diameter", desc := "()I" } : Jvm.MethodName) prog_19_method_42_code (4 : Nat) (Option.some Jvm.ClassFile.FieldType.int)) ∈ lw_all := lw_g (lw_at lw_m10 4 rfl) rfl
theorem q2270 : (Jvm.Cond.instanceMethod ({ cls := "NetworkCentersModel", name := "distanceTo", desc := "(IIIII)I" } : Jvm.MethodName)) ∈ lw_all := lw_g (lw_at lw_m10 6 rfl) rfl
theorem q2271 : (Jvm.Cond.selects "NetworkCentersModel" ({ cls := "NetworkCentersModel", name := "distanceTo", desc := "(IIIII)I" } : Jvm.MethodName) ({ cls := "NetworkCentersModel", name := "distanceTo", desc := "(IIIII)I" } : Jvm.MethodName)) ∈ lw_all := lw_g (lw_at lw_m10 7 rfl) rfl
theorem q2272 : (Jvm.Cond.code ({ cls := "NetworkCentersModel", name := "distanceTo", desc := "(IIIII)I" } : Jvm.MethodName) prog_19_method_49_code (8 : Nat) (Option.some Jvm.ClassFile.FieldType.int)) ∈ lw_all := lw_g (lw_at lw_m10 8 rfl) rfl
theorem q2273 : (Jvm.Cond.methodLink "NetworkCentersModel" (150 : Nat) ({ cls := "NetworkCentersModel", name := "isPoint", desc := "(III)Z" } : Jvm.MethodName)) ∈ lw_all := lw_g (lw_at lw_m10 9 rfl) rfl
theorem q2274 : (Jvm.Cond.privateMethod ({ cls := "NetworkCentersModel", name := "isPoint", desc := "(III)Z" } : Jvm.MethodName)) ∈ lw_tbl := lw_at lw_m10 10 rfl
theorem q2275 : (Jvm.Cond.instanceMethod ({ cls := "NetworkCentersModel", name := "isPoint", desc := "(III)Z" } : Jvm.MethodName)) ∈ lw_all := lw_g (lw_at lw_m10 11 rfl) rfl
theorem q2276 : (Jvm.Cond.code ({ cls := "NetworkCentersModel", name := "isPoint", desc := "(III)Z" } : Jvm.MethodName) prog_19_method_45_code (4 : Nat) (Option.some Jvm.ClassFile.FieldType.boolean)) ∈ lw_all := lw_g (lw_at lw_m10 12 rfl) rfl
theorem q2277 : (Jvm.Cond.methodLink "NetworkCentersModel" (153 : Nat) ({ cls := "NetworkCentersModel", name := "away", desc := "(IIJJ)J" } : Jvm.MethodName)) ∈ lw_all := lw_g (lw_at lw_m10 13 rfl) rfl
theorem q2278 : (Jvm.Cond.privateMethod ({ cls := "NetworkCentersModel", name := "away", desc := "(IIJJ)J" } : Jvm.MethodName)) ∈ lw_tbl := lw_at lw_m10 14 rfl
theorem q2279 : (Jvm.Cond.instanceMethod ({ cls := "NetworkCentersModel", name := "away", desc := "(IIJJ)J" } : Jvm.MethodName)) ∈ lw_all := lw_g (lw_at lw_m10 15 rfl) rfl
theorem q2280 : (Jvm.Cond.code ({ cls := "NetworkCentersModel", name := "away", desc := "(IIJJ)J" } : Jvm.MethodName) prog_19_method_48_code (11 : Nat) (Option.some Jvm.ClassFile.FieldType.long)) ∈ lw_all := lw_g (lw_at lw_m10 16 rfl) rfl
theorem q2281 : (Jvm.Cond.methodLink "NetworkCentersModel" (143 : Nat) ({ cls := "NetworkCentersModel", name := "rising", desc := "(IIJJ)J" } : Jvm.MethodName)) ∈ lw_all := lw_g (lw_at lw_m10 17 rfl) rfl
theorem q2282 : (Jvm.Cond.privateMethod ({ cls := "NetworkCentersModel", name := "rising", desc := "(IIJJ)J" } : Jvm.MethodName)) ∈ lw_tbl := lw_at lw_m10 18 rfl
theorem q2283 : (Jvm.Cond.instanceMethod ({ cls := "NetworkCentersModel", name := "rising", desc := "(IIJJ)J" } : Jvm.MethodName)) ∈ lw_all := lw_g (lw_at lw_m10 19 rfl) rfl
theorem q2284 : (Jvm.Cond.code ({ cls := "NetworkCentersModel", name := "rising", desc := "(IIJJ)J" } : Jvm.MethodName) prog_19_method_46_code (7 : Nat) (Option.some Jvm.ClassFile.FieldType.long)) ∈ lw_all := lw_g (lw_at lw_m10 20 rfl) rfl
theorem q2285 : (Jvm.Cond.methodLink "NetworkCentersModel" (147 : Nat) ({ cls := "NetworkCentersModel", name := "falling", desc := "(IIJJ)J" } : Jvm.MethodName)) ∈ lw_all := lw_g (lw_at lw_m10 21 rfl) rfl
theorem q2286 : (Jvm.Cond.privateMethod ({ cls := "NetworkCentersModel", name := "falling", desc := "(IIJJ)J" } : Jvm.MethodName)) ∈ lw_tbl := lw_at lw_m10 22 rfl
theorem q2287 : (Jvm.Cond.instanceMethod ({ cls := "NetworkCentersModel", name := "falling", desc := "(IIJJ)J" } : Jvm.MethodName)) ∈ lw_all := lw_g (lw_at lw_m10 23 rfl) rfl
theorem q2288 : (Jvm.Cond.code ({ cls := "NetworkCentersModel", name := "falling", desc := "(IIJJ)J" } : Jvm.MethodName) prog_19_method_47_code (7 : Nat) (Option.some Jvm.ClassFile.FieldType.long)) ∈ lw_all := lw_g (lw_at lw_m10 24 rfl) rfl
theorem q2289 : (Jvm.Cond.methodLink "NetworkCentersModel" (156 : Nat) ({ cls := "NetworkCentersModel", name := "reduced", desc := "(JJI)I" } : Jvm.MethodName)) ∈ lw_all := lw_g (lw_at lw_m10 25 rfl) rfl
theorem q2290 : (Jvm.Cond.static ({ cls := "NetworkCentersModel", name := "reduced", desc := "(JJI)I" } : Jvm.MethodName)) ∈ lw_all := lw_g (lw_at lw_m10 26 rfl) rfl
theorem q2291 : (Jvm.Cond.code ({ cls := "NetworkCentersModel", name := "reduced", desc := "(JJI)I" } : Jvm.MethodName) prog_19_method_44_code (7 : Nat) (Option.some Jvm.ClassFile.FieldType.int)) ∈ lw_all := lw_g (lw_at lw_m10 27 rfl) rfl
theorem q2292 : (Jvm.Cond.methodLink "NetworkCentersModel" (139 : Nat) ({ cls := "NetworkCentersModel", name := "divisor", desc := "(JJ)J" } : Jvm.MethodName)) ∈ lw_all := lw_g (lw_at lw_m10 28 rfl) rfl
theorem q2293 : (Jvm.Cond.static ({ cls := "NetworkCentersModel", name := "divisor", desc := "(JJ)J" } : Jvm.MethodName)) ∈ lw_all := lw_g (lw_at lw_m10 29 rfl) rfl
theorem q2294 : (Jvm.Cond.code ({ cls := "NetworkCentersModel", name := "divisor", desc := "(JJ)J" } : Jvm.MethodName) prog_19_method_43_code (10 : Nat) (Option.some Jvm.ClassFile.FieldType.long)) ∈ lw_all := lw_g (lw_at lw_m10 30 rfl) rfl
theorem q2296 : (Jvm.Cond.instanceMethod ({ cls := "NetworkCentersModel", name := "isAllowed", desc := "(III)Z" } : Jvm.MethodName)) ∈ lw_all := lw_g (lw_at lw_m10 32 rfl) rfl
theorem q2297 : (Jvm.Cond.selects "NetworkCentersModel" ({ cls := "NetworkCentersModel", name := "isAllowed", desc := "(III)Z" } : Jvm.MethodName) ({ cls := "NetworkCentersModel", name := "isAllowed", desc := "(III)Z" } : Jvm.MethodName)) ∈ lw_all := lw_g (lw_at lw_m10 33 rfl) rfl
theorem q2298 : (Jvm.Cond.code ({ cls := "NetworkCentersModel", name := "isAllowed", desc := "(III)Z" } : Jvm.MethodName) prog_19_method_51_code (4 : Nat) (Option.some Jvm.ClassFile.FieldType.boolean)) ∈ lw_all := lw_g (lw_at lw_m10 34 rfl) rfl
theorem q2299 : (Jvm.Cond.methodLink "NetworkCentersModel" (160 : Nat) ({ cls := "NetworkCentersModel", name := "mayLie", desc := "(IJJ)Z" } : Jvm.MethodName)) ∈ lw_all := lw_g (lw_at lw_m10 35 rfl) rfl
theorem q2300 : (Jvm.Cond.privateMethod ({ cls := "NetworkCentersModel", name := "mayLie", desc := "(IJJ)Z" } : Jvm.MethodName)) ∈ lw_tbl := lw_at lw_m10 36 rfl
theorem q2301 : (Jvm.Cond.instanceMethod ({ cls := "NetworkCentersModel", name := "mayLie", desc := "(IJJ)Z" } : Jvm.MethodName)) ∈ lw_all := lw_g (lw_at lw_m10 37 rfl) rfl
theorem q2302 : (Jvm.Cond.code ({ cls := "NetworkCentersModel", name := "mayLie", desc := "(IJJ)Z" } : Jvm.MethodName) prog_19_method_50_code (8 : Nat) (Option.some Jvm.ClassFile.FieldType.boolean)) ∈ lw_all := lw_g (lw_at lw_m10 38 rfl) rfl
theorem q2304 : (Jvm.Cond.instanceMethod ({ cls := "NetworkCentersModel", name := "height", desc := "(IIIII)I" } : Jvm.MethodName)) ∈ lw_all := lw_g (lw_at lw_m10 40 rfl) rfl
theorem q2305 : (Jvm.Cond.selects "NetworkCentersModel" ({ cls := "NetworkCentersModel", name := "height", desc := "(IIIII)I" } : Jvm.MethodName) ({ cls := "NetworkCentersModel", name := "height", desc := "(IIIII)I" } : Jvm.MethodName)) ∈ lw_all := lw_g (lw_at lw_m10 41 rfl) rfl
theorem q2306 : (Jvm.Cond.code ({ cls := "NetworkCentersModel", name := "height", desc := "(IIIII)I" } : Jvm.MethodName) prog_19_method_56_code (7 : Nat) (Option.some Jvm.ClassFile.FieldType.int)) ∈ lw_all := lw_g (lw_at lw_m10 42 rfl) rfl
theorem q2307 : (Jvm.Cond.methodLink "NetworkCentersModel" (167 : Nat) ({ cls := "NetworkCentersModel", name := "isSet", desc := "(I)Z" } : Jvm.MethodName)) ∈ lw_all := lw_g (lw_at lw_m10 43 rfl) rfl
theorem q2308 : (Jvm.Cond.privateMethod ({ cls := "NetworkCentersModel", name := "isSet", desc := "(I)Z" } : Jvm.MethodName)) ∈ lw_tbl := lw_at lw_m10 44 rfl
theorem q2309 : (Jvm.Cond.instanceMethod ({ cls := "NetworkCentersModel", name := "isSet", desc := "(I)Z" } : Jvm.MethodName)) ∈ lw_all := lw_g (lw_at lw_m10 45 rfl) rfl
theorem q2310 : (Jvm.Cond.code ({ cls := "NetworkCentersModel", name := "isSet", desc := "(I)Z" } : Jvm.MethodName) prog_19_method_55_code (2 : Nat) (Option.some Jvm.ClassFile.FieldType.boolean)) ∈ lw_all := lw_g (lw_at lw_m10 46 rfl) rfl
theorem q2311 : (Jvm.Cond.methodLink "NetworkCentersModel" (170 : Nat) ({ cls := "NetworkCentersModel", name := "weighs", desc := "(I)V" } : Jvm.MethodName)) ∈ lw_all := lw_g (lw_at lw_m10 47 rfl) rfl
theorem q2312 : (Jvm.Cond.privateMethod ({ cls := "NetworkCentersModel", name := "weighs", desc := "(I)V" } : Jvm.MethodName)) ∈ lw_tbl := lw_at lw_m10 48 rfl
theorem q2313 : (Jvm.Cond.instanceMethod ({ cls := "NetworkCentersModel", name := "weighs", desc := "(I)V" } : Jvm.MethodName)) ∈ lw_all := lw_g (lw_at lw_m10 49 rfl) rfl
theorem q2314 : (Jvm.Cond.code ({ cls := "NetworkCentersModel", name := "weighs", desc := "(I)V" } : Jvm.MethodName) prog_19_method_52_code (3 : Nat) (Option.none : Option Jvm.ClassFile.FieldType)) ∈ lw_all := lw_g (lw_at lw_m10 50 rfl) rfl
theorem q2315 : (Jvm.Cond.methodLink "NetworkCentersModel" (173 : Nat) ({ cls := "NetworkCentersModel", name := "heightAt", desc := "(IIJJ)J" } : Jvm.MethodName)) ∈ lw_all := lw_g (lw_at lw_m10 51 rfl) rfl
theorem q2316 : (Jvm.Cond.privateMethod ({ cls := "NetworkCentersModel", name := "heightAt", desc := "(IIJJ)J" } : Jvm.MethodName)) ∈ lw_tbl := lw_at lw_m10 52 rfl
theorem q2317 : (Jvm.Cond.instanceMethod ({ cls := "NetworkCentersModel", name := "heightAt", desc := "(IIJJ)J" } : Jvm.MethodName)) ∈ lw_all := lw_g (lw_at lw_m10 53 rfl) rfl
theorem q2318 : (Jvm.Cond.code ({ cls := "NetworkCentersModel", name := "heightAt", desc := "(IIJJ)J" } : Jvm.MethodName) prog_19_method_53_code (12 : Nat) (Option.some Jvm.ClassFile.FieldType.long)) ∈ lw_all := lw_g (lw_at lw_m10 54 rfl) rfl
theorem q2319 : (Jvm.Cond.methodLink "NetworkCentersModel" (164 : Nat) ({ cls := "NetworkCentersModel", name := "has", desc := "(II)Z" } : Jvm.MethodName)) ∈ lw_all := lw_g (lw_at lw_m10 55 rfl) rfl
theorem q2320 : (Jvm.Cond.static ({ cls := "NetworkCentersModel", name := "has", desc := "(II)Z" } : Jvm.MethodName)) ∈ lw_all := lw_g (lw_at lw_m10 56 rfl) rfl
theorem q2321 : (Jvm.Cond.code ({ cls := "NetworkCentersModel", name := "has", desc := "(II)Z" } : Jvm.MethodName) prog_19_method_6_code (2 : Nat) (Option.some Jvm.ClassFile.FieldType.boolean)) ∈ lw_all := lw_g (lw_at lw_m10 57 rfl) rfl
theorem q2323 : (Jvm.Cond.instanceMethod ({ cls := "NetworkCentersModel", name := "cost", desc := "(IIII)I" } : Jvm.MethodName)) ∈ lw_all := lw_g (lw_at lw_m10 59 rfl) rfl
theorem q2324 : (Jvm.Cond.selects "NetworkCentersModel" ({ cls := "NetworkCentersModel", name := "cost", desc := "(IIII)I" } : Jvm.MethodName) ({ cls := "NetworkCentersModel", name := "cost", desc := "(IIII)I" } : Jvm.MethodName)) ∈ lw_all := lw_g (lw_at lw_m10 60 rfl) rfl
theorem q2325 : (Jvm.Cond.code ({ cls := "NetworkCentersModel", name := "cost", desc := "(IIII)I" } : Jvm.MethodName) prog_19_method_57_code (6 : Nat) (Option.some Jvm.ClassFile.FieldType.int)) ∈ lw_all := lw_g (lw_at lw_m10 61 rfl) rfl
theorem q2326 : (Jvm.Cond.methodLink "NetworkCentersModel" (176 : Nat) ({ cls := "NetworkCentersModel", name := "costAt", desc := "(IJJ)J" } : Jvm.MethodName)) ∈ lw_all := lw_g (lw_at lw_m10 62 rfl) rfl
theorem q2327 : (Jvm.Cond.privateMethod ({ cls := "NetworkCentersModel", name := "costAt", desc := "(IJJ)J" } : Jvm.MethodName)) ∈ lw_tbl := lw_at lw_m10 63 rfl
theorem q2328 : (Jvm.Cond.instanceMethod ({ cls := "NetworkCentersModel", name := "costAt", desc := "(IJJ)J" } : Jvm.MethodName)) ∈ lw_all := lw_g (lw_at lw_m10 64 rfl) rfl
theorem q2329 : (Jvm.Cond.code ({ cls := "NetworkCentersModel", name := "costAt", desc := "(IJJ)J" } : Jvm.MethodName) prog_19_method_54_code (9 : Nat) (Option.some Jvm.ClassFile.FieldType.long)) ∈ lw_all := lw_g (lw_at lw_m10 65 rfl) rfl
theorem q2331 : (Jvm.Cond.instanceMethod ({ cls := "NetworkCentersModel", name := "corner", desc := "(III)I" } : Jvm.MethodName)) ∈ lw_all := lw_g (lw_at lw_m10 67 rfl) rfl
theorem q2332 : (Jvm.Cond.selects "NetworkCentersModel" ({ cls := "NetworkCentersModel", name := "corner", desc := "(III)I" } : Jvm.MethodName) ({ cls := "NetworkCentersModel", name := "corner", desc := "(III)I" } : Jvm.MethodName)) ∈ lw_all := lw_g (lw_at lw_m10 68 rfl) rfl
theorem q2333 : (Jvm.Cond.code ({ cls := "NetworkCentersModel", name := "corner", desc := "(III)I" } : Jvm.MethodName) prog_19_method_68_code (4 : Nat) (Option.some Jvm.ClassFile.FieldType.int)) ∈ lw_all := lw_g (lw_at lw_m10 69 rfl) rfl
theorem q2334 : (Jvm.Cond.methodLink "NetworkCentersModel" (230 : Nat) ({ cls := "NetworkCentersModel", name := "cornerTold", desc := "(III)I" } : Jvm.MethodName)) ∈ lw_all := lw_g (lw_at lw_m10 70 rfl) rfl
theorem q2335 : (Jvm.Cond.privateMethod ({ cls := "NetworkCentersModel", name := "cornerTold", desc := "(III)I" } : Jvm.MethodName)) ∈ lw_tbl := lw_at lw_m10 71 rfl
theorem q2336 : (Jvm.Cond.instanceMethod ({ cls := "NetworkCentersModel", name := "cornerTold", desc := "(III)I" } : Jvm.MethodName)) ∈ lw_all := lw_g (lw_at lw_m10 72 rfl) rfl
theorem q2337 : (Jvm.Cond.code ({ cls := "NetworkCentersModel", name := "cornerTold", desc := "(III)I" } : Jvm.MethodName) prog_19_method_67_code (6 : Nat) (Option.some Jvm.ClassFile.FieldType.int)) ∈ lw_all := lw_g (lw_at lw_m10 73 rfl) rfl
theorem q2338 : (Jvm.Cond.methodLink "NetworkCentersModel" (208 : Nat) ({ cls := "NetworkCentersModel", name := "laysCrossings", desc := "(II)V" } : Jvm.MethodName)) ∈ lw_all := lw_g (lw_at lw_m10 74 rfl) rfl
theorem q2339 : (Jvm.Cond.privateMethod ({ cls := "NetworkCentersModel", name := "laysCrossings", desc := "(II)V" } : Jvm.MethodName)) ∈ lw_tbl := lw_at lw_m10 75 rfl
theorem q2340 : (Jvm.Cond.instanceMethod ({ cls := "NetworkCentersModel", name := "laysCrossings", desc := "(II)V" } : Jvm.MethodName)) ∈ lw_all := lw_g (lw_at lw_m10 76 rfl) rfl
theorem q2341 : (Jvm.Cond.code ({ cls := "NetworkCentersModel", name := "laysCrossings", desc := "(II)V" } : Jvm.MethodName) prog_19_method_60_code (6 : Nat) (Option.none : Option Jvm.ClassFile.FieldType)) ∈ lw_all := lw_g (lw_at lw_m10 77 rfl) rfl
theorem q2342 : (Jvm.Cond.methodLink "NetworkCentersModel" (185 : Nat) ({ cls := "NetworkCentersModel", name := "crosses", desc := "(IJJ)V" } : Jvm.MethodName)) ∈ lw_all := lw_g (lw_at lw_m10 78 rfl) rfl
theorem q2343 : (Jvm.Cond.privateMethod ({ cls := "NetworkCentersModel", name := "crosses", desc := "(IJJ)V" } : Jvm.MethodName)) ∈ lw_tbl := lw_at lw_m10 79 rfl
theorem q2344 : (Jvm.Cond.instanceMethod ({ cls := "NetworkCentersModel", name := "crosses", desc := "(IJJ)V" } : Jvm.MethodName)) ∈ lw_all := lw_g (lw_at lw_m10 80 rfl) rfl
theorem q2345 : (Jvm.Cond.code ({ cls := "NetworkCentersModel", name := "crosses", desc := "(IJJ)V" } : Jvm.MethodName) prog_19_method_58_code (8 : Nat) (Option.none : Option Jvm.ClassFile.FieldType)) ∈ lw_all := lw_g (lw_at lw_m10 81 rfl) rfl
theorem q2346 : (Jvm.Cond.constantLong "NetworkCentersModel" (180 : Nat) (-1 : Int64)) ∈ lw_all := lw_g (lw_at lw_m10 82 rfl) rfl
theorem q2347 : (Jvm.Cond.constantLong "NetworkCentersModel" (189 : Nat) (2 : Int64)) ∈ lw_all := lw_g (lw_at lw_m10 83 rfl) rfl
theorem q2348 : (Jvm.Cond.methodLink "NetworkCentersModel" (191 : Nat) ({ cls := "NetworkCentersModel", name := "line", desc := "(IIIZ)J" } : Jvm.MethodName)) ∈ lw_all := lw_g (lw_at lw_m10 84 rfl) rfl
theorem q2349 : (Jvm.Cond.privateMethod ({ cls := "NetworkCentersModel", name := "line", desc := "(IIIZ)J" } : Jvm.MethodName)) ∈ lw_tbl := lw_at lw_m10 85 rfl
theorem q2350 : (Jvm.Cond.instanceMethod ({ cls := "NetworkCentersModel", name := "line", desc := "(IIIZ)J" } : Jvm.MethodName)) ∈ lw_all := lw_g (lw_at lw_m10 86 rfl) rfl
theorem q2351 : (Jvm.Cond.code ({ cls := "NetworkCentersModel", name := "line", desc := "(IIIZ)J" } : Jvm.MethodName) prog_19_method_59_code (5 : Nat) (Option.some Jvm.ClassFile.FieldType.long)) ∈ lw_all := lw_g (lw_at lw_m10 87 rfl) rfl
theorem q2352 : (Jvm.Cond.methodLink "NetworkCentersModel" (227 : Nat) ({ cls := "NetworkCentersModel", name := "nextCorner", desc := "(II)I" } : Jvm.MethodName)) ∈ lw_all := lw_g (lw_at lw_m10 88 rfl) rfl
theorem q2353 : (Jvm.Cond.privateMethod ({ cls := "NetworkCentersModel", name := "nextCorner", desc := "(II)I" } : Jvm.MethodName)) ∈ lw_tbl := lw_at lw_m10 89 rfl
theorem q2354 : (Jvm.Cond.instanceMethod ({ cls := "NetworkCentersModel", name := "nextCorner", desc := "(II)I" } : Jvm.MethodName)) ∈ lw_all := lw_g (lw_at lw_m10 90 rfl) rfl
theorem q2355 : (Jvm.Cond.code ({ cls := "NetworkCentersModel", name := "nextCorner", desc := "(II)I" } : Jvm.MethodName) prog_19_method_66_code (6 : Nat) (Option.some Jvm.ClassFile.FieldType.int)) ∈ lw_all := lw_g (lw_at lw_m10 91 rfl) rfl
theorem q2356 : (Jvm.Cond.methodLink "NetworkCentersModel" (224 : Nat) ({ cls := "NetworkCentersModel", name := "isCorner", desc := "(II)Z" } : Jvm.MethodName)) ∈ lw_all := lw_g (lw_at lw_m10 92 rfl) rfl
theorem q2357 : (Jvm.Cond.privateMethod ({ cls := "NetworkCentersModel", name := "isCorner", desc := "(II)Z" } : Jvm.MethodName)) ∈ lw_tbl := lw_at lw_m10 93 rfl
theorem q2358 : (Jvm.Cond.instanceMethod ({ cls := "NetworkCentersModel", name := "isCorner", desc := "(II)Z" } : Jvm.MethodName)) ∈ lw_all := lw_g (lw_at lw_m10 94 rfl) rfl
theorem q2359 : (Jvm.Cond.code ({ cls := "NetworkCentersModel", name := "isCorner", desc := "(II)Z" } : Jvm.MethodName) prog_19_method_65_code (3 : Nat) (Option.some Jvm.ClassFile.FieldType.boolean)) ∈ lw_all := lw_g (lw_at lw_m10 95 rfl) rfl
theorem q2360 : (Jvm.Cond.methodLink "NetworkCentersModel" (216 : Nat) ({ cls := "NetworkCentersModel", name := "isRight", desc := "(IIZ)Z" } : Jvm.MethodName)) ∈ lw_all := lw_g (lw_at lw_m10 96 rfl) rfl
theorem q2361 : (Jvm.Cond.privateMethod ({ cls := "NetworkCentersModel", name := "isRight", desc := "(IIZ)Z" } : Jvm.MethodName)) ∈ lw_tbl := lw_at lw_m10 97 rfl
theorem q2362 : (Jvm.Cond.instanceMethod ({ cls := "NetworkCentersModel", name := "isRight", desc := "(IIZ)Z" } : Jvm.MethodName)) ∈ lw_all := lw_g (lw_at lw_m10 98 rfl) rfl
theorem q2363 : (Jvm.Cond.code ({ cls := "NetworkCentersModel", name := "isRight", desc := "(IIZ)Z" } : Jvm.MethodName) prog_19_method_63_code (8 : Nat) (Option.some Jvm.ClassFile.FieldType.boolean)) ∈ lw_all := lw_g (lw_at lw_m10 99 rfl) rfl
theorem q2364 : (Jvm.Cond.methodLink "NetworkCentersModel" (220 : Nat) ({ cls := "NetworkCentersModel", name := "slopeAt", desc := "(IJJZ)J" } : Jvm.MethodName)) ∈ lw_all := lw_g (lw_at lw_m10 100 rfl) rfl
theorem q2365 : (Jvm.Cond.privateMethod ({ cls := "NetworkCentersModel", name := "slopeAt", desc := "(IJJZ)J" } : Jvm.MethodName)) ∈ lw_tbl := lw_at lw_m10 101 rfl
theorem q2366 : (Jvm.Cond.instanceMethod ({ cls := "NetworkCentersModel", name := "slopeAt", desc := "(IJJZ)J" } : Jvm.MethodName)) ∈ lw_all := lw_g (lw_at lw_m10 102 rfl) rfl
theorem q2367 : (Jvm.Cond.code ({ cls := "NetworkCentersModel", name := "slopeAt", desc := "(IJJZ)J" } : Jvm.MethodName) prog_19_method_64_code (20 : Nat) (Option.some Jvm.ClassFile.FieldType.long)) ∈ lw_all := lw_g (lw_at lw_m10 103 rfl) rfl
theorem q2369 : (Jvm.Cond.instanceMethod ({ cls := "NetworkCentersModel", name := "radius", desc := "(II)I" } : Jvm.MethodName)) ∈ lw_all := lw_g (lw_at lw_m10 105 rfl) rfl
theorem q2370 : (Jvm.Cond.selects "NetworkCentersModel" ({ cls := "NetworkCentersModel", name := "radius", desc := "(II)I" } : Jvm.MethodName) ({ cls := "NetworkCentersModel", name := "radius", desc := "(II)I" } : Jvm.MethodName)) ∈ lw_all := lw_g (lw_at lw_m10 106 rfl) rfl
theorem q2371 : (Jvm.Cond.code ({ cls := "NetworkCentersModel", name := "radius", desc := "(II)I" } : Jvm.MethodName) prog_19_method_71_code (3 : Nat) (Option.some Jvm.ClassFile.FieldType.int)) ∈ lw_all := lw_g (lw_at lw_m10 107 rfl) rfl
theorem q2372 : (Jvm.Cond.methodLink "NetworkCentersModel" (239 : Nat) ({ cls := "NetworkCentersModel", name := "refusedCenter", desc := "(III)Z" } : Jvm.MethodName)) ∈ lw_all := lw_g (lw_at lw_m10 108 rfl) rfl
theorem q2373 : (Jvm.Cond.privateMethod ({ cls := "NetworkCentersModel", name := "refusedCenter", desc := "(III)Z" } : Jvm.MethodName)) ∈ lw_tbl := lw_at lw_m10 109 rfl
theorem q2374 : (Jvm.Cond.instanceMethod ({ cls := "NetworkCentersModel", name := "refusedCenter", desc := "(III)Z" } : Jvm.MethodName)) ∈ lw_all := lw_g (lw_at lw_m10 110 rfl) rfl
theorem q2375 : (Jvm.Cond.code ({ cls := "NetworkCentersModel", name := "refusedCenter", desc := "(III)Z" } : Jvm.MethodName) prog_19_method_70_code (4 : Nat) (Option.some Jvm.ClassFile.FieldType.boolean)) ∈ lw_all := lw_g (lw_at lw_m10 111 rfl) rfl
theorem q2376 : (Jvm.Cond.methodLink "NetworkCentersModel" (233 : Nat) ({ cls := "NetworkCentersModel", name := "canHave", desc := "()Z" } : Jvm.MethodName)) ∈ lw_all := lw_g (lw_at lw_m10 112 rfl) rfl
theorem q2377 : (Jvm.Cond.privateMethod ({ cls := "NetworkCentersModel", name := "canHave", desc := "()Z" } : Jvm.MethodName)) ∈ lw_tbl := lw_at lw_m10 113 rfl
theorem q2378 : (Jvm.Cond.instanceMethod ({ cls := "NetworkCentersModel", name := "canHave", desc := "()Z" } : Jvm.MethodName)) ∈ lw_all := lw_g (lw_at lw_m10 114 rfl) rfl
theorem q2379 : (Jvm.Cond.code ({ cls := "NetworkCentersModel", name := "canHave", desc := "()Z" } : Jvm.MethodName) prog_19_method_69_code (1 : Nat) (Option.some Jvm.ClassFile.FieldType.boolean)) ∈ lw_all := lw_g (lw_at lw_m10 115 rfl) rfl
theorem q2380 : (Jvm.Cond.methodLink "NetworkCentersModel" (236 : Nat) ({ cls := "NetworkCentersModel", name := "centers", desc := "(I)V" } : Jvm.MethodName)) ∈ lw_all := lw_g (lw_at lw_m10 116 rfl) rfl
theorem q2381 : (Jvm.Cond.privateMethod ({ cls := "NetworkCentersModel", name := "centers", desc := "(I)V" } : Jvm.MethodName)) ∈ lw_tbl := lw_at lw_m10 117 rfl
theorem q2382 : (Jvm.Cond.instanceMethod ({ cls := "NetworkCentersModel", name := "centers", desc := "(I)V" } : Jvm.MethodName)) ∈ lw_all := lw_g (lw_at lw_m10 118 rfl) rfl
theorem q2383 : (Jvm.Cond.code ({ cls := "NetworkCentersModel", name := "centers", desc := "(I)V" } : Jvm.MethodName) prog_19_method_62_code (4 : Nat) (Option.none : Option Jvm.ClassFile.FieldType)) ∈ lw_all := lw_g (lw_at lw_m10 119 rfl) rfl
theorem q2384 : (Jvm.Cond.methodLink "NetworkCentersModel" (212 : Nat) ({ cls := "NetworkCentersModel", name := "tries", desc := "(IJJJ)V" } : Jvm.MethodName)) ∈ lw_all := lw_g (lw_at lw_m10 120 rfl) rfl
theorem q2385 : (Jvm.Cond.privateMethod ({ cls := "NetworkCentersModel", name := "tries", desc := "(IJJJ)V" } : Jvm.MethodName)) ∈ lw_tbl := lw_at lw_m10 121 rfl
theorem q2386 : (Jvm.Cond.instanceMethod ({ cls := "NetworkCentersModel", name := "tries", desc := "(IJJJ)V" } : Jvm.MethodName)) ∈ lw_all := lw_g (lw_at lw_m10 122 rfl) rfl
theorem q2387 : (Jvm.Cond.code ({ cls := "NetworkCentersModel", name := "tries", desc := "(IJJJ)V" } : Jvm.MethodName) prog_19_method_61_code (9 : Nat) (Option.none : Option Jvm.ClassFile.FieldType)) ∈ lw_all := lw_g (lw_at lw_m10 123 rfl) rfl
theorem q2389 : (Jvm.Cond.instanceMethod ({ cls := "NetworkCentersModel", name := "center", desc := "(II)I" } : Jvm.MethodName)) ∈ lw_all := lw_g (lw_at lw_m10 125 rfl) rfl
theorem q2390 : (Jvm.Cond.selects "NetworkCentersModel" ({ cls := "NetworkCentersModel", name := "center", desc := "(II)I" } : Jvm.MethodName) ({ cls := "NetworkCentersModel", name := "center", desc := "(II)I" } : Jvm.MethodName)) ∈ lw_all := lw_g (lw_at lw_m10 126 rfl) rfl
theorem q2391 : (Jvm.Cond.code ({ cls := "NetworkCentersModel", name := "center", desc := "(II)I" } : Jvm.MethodName) prog_19_method_73_code (3 : Nat) (Option.some Jvm.ClassFile.FieldType.int)) ∈ lw_all := lw_g (lw_at lw_m10 127 rfl) rfl
theorem q2392 : (Jvm.Cond.methodLink "NetworkCentersModel" (242 : Nat) ({ cls := "NetworkCentersModel", name := "centerTold", desc := "(I)I" } : Jvm.MethodName)) ∈ lw_all := lw_g (lw_at lw_m10 128 rfl) rfl
theorem q2393 : (Jvm.Cond.privateMethod ({ cls := "NetworkCentersModel", name := "centerTold", desc := "(I)I" } : Jvm.MethodName)) ∈ lw_tbl := lw_at lw_m10 129 rfl
theorem q2394 : (Jvm.Cond.instanceMethod ({ cls := "NetworkCentersModel", name := "centerTold", desc := "(I)I" } : Jvm.MethodName)) ∈ lw_all := lw_g (lw_at lw_m10 130 rfl) rfl
theorem q2395 : (Jvm.Cond.code ({ cls := "NetworkCentersModel", name := "centerTold", desc := "(I)I" } : Jvm.MethodName) prog_19_method_72_code (2 : Nat) (Option.some Jvm.ClassFile.FieldType.int)) ∈ lw_all := lw_g (lw_at lw_m10 131 rfl) rfl
theorem q2397 : (Jvm.Cond.instanceMethod ({ cls := "NetworkCentersModel", name := "critical", desc := "(I)I" } : Jvm.MethodName)) ∈ lw_all := lw_g (lw_at lw_m10 133 rfl) rfl
theorem q2398 : (Jvm.Cond.selects "NetworkCentersModel" ({ cls := "NetworkCentersModel", name := "critical", desc := "(I)I" } : Jvm.MethodName) ({ cls := "NetworkCentersModel", name := "critical", desc := "(I)I" } : Jvm.MethodName)) ∈ lw_all := lw_g (lw_at lw_m10 134 rfl) rfl
theorem q2399 : (Jvm.Cond.code ({ cls := "NetworkCentersModel", name := "critical", desc := "(I)I" } : Jvm.MethodName) prog_19_method_75_code (2 : Nat) (Option.some Jvm.ClassFile.FieldType.int)) ∈ lw_all := lw_g (lw_at lw_m10 135 rfl) rfl
theorem q2400 : (Jvm.Cond.methodLink "NetworkCentersModel" (245 : Nat) ({ cls := "NetworkCentersModel", name := "criticalNow", desc := "(I)I" } : Jvm.MethodName)) ∈ lw_all := lw_g (lw_at lw_m10 136 rfl) rfl
theorem q2401 : (Jvm.Cond.privateMethod ({ cls := "NetworkCentersModel", name := "criticalNow", desc := "(I)I" } : Jvm.MethodName)) ∈ lw_tbl := lw_at lw_m10 137 rfl
theorem q2402 : (Jvm.Cond.instanceMethod ({ cls := "NetworkCentersModel", name := "criticalNow", desc := "(I)I" } : Jvm.MethodName)) ∈ lw_all := lw_g (lw_at lw_m10 138 rfl) rfl
theorem q2403 : (Jvm.Cond.code ({ cls := "NetworkCentersModel", name := "criticalNow", desc := "(I)I" } : Jvm.MethodName) prog_19_method_74_code (4 : Nat) (Option.some Jvm.ClassFile.FieldType.int)) ∈ lw_all := lw_g (lw_at lw_m10 139 rfl) rfl
theorem q2405 : (Jvm.Cond.instanceMethod ({ cls := "NetworkCentersModel", name := "median", desc := "(I)I" } : Jvm.MethodName)) ∈ lw_all := lw_g (lw_at lw_m10 141 rfl) rfl
theorem q2406 : (Jvm.Cond.selects "NetworkCentersModel" ({ cls := "NetworkCentersModel", name := "median", desc := "(I)I" } : Jvm.MethodName) ({ cls := "NetworkCentersModel", name := "median", desc := "(I)I" } : Jvm.MethodName)) ∈ lw_all := lw_g (lw_at lw_m10 142 rfl) rfl
theorem q2407 : (Jvm.Cond.code ({ cls := "NetworkCentersModel", name := "median", desc := "(I)I" } : Jvm.MethodName) prog_19_method_78_code (2 : Nat) (Option.some Jvm.ClassFile.FieldType.int)) ∈ lw_all := lw_g (lw_at lw_m10 143 rfl) rfl
theorem q2408 : (Jvm.Cond.methodLink "NetworkCentersModel" (248 : Nat) ({ cls := "NetworkCentersModel", name := "medians", desc := "()V" } : Jvm.MethodName)) ∈ lw_all := lw_g (lw_at lw_m10 144 rfl) rfl
theorem q2409 : (Jvm.Cond.privateMethod ({ cls := "NetworkCentersModel", name := "medians", desc := "()V" } : Jvm.MethodName)) ∈ lw_tbl := lw_at lw_m10 145 rfl
theorem q2410 : (Jvm.Cond.instanceMethod ({ cls := "NetworkCentersModel", name := "medians", desc := "()V" } : Jvm.MethodName)) ∈ lw_all := lw_g (lw_at lw_m10 146 rfl) rfl
theorem q2411 : (Jvm.Cond.code ({ cls := "NetworkCentersModel", name := "medians", desc := "()V" } : Jvm.MethodName) prog_19_method_76_code (3 : Nat) (Option.none : Option Jvm.ClassFile.FieldType)) ∈ lw_all := lw_g (lw_at lw_m10 147 rfl) rfl
theorem q2412 : (Jvm.Cond.methodLink "NetworkCentersModel" (251 : Nat) ({ cls := "NetworkCentersModel", name := "medianTold", desc := "(I)I" } : Jvm.MethodName)) ∈ lw_all := lw_g (lw_at lw_m10 148 rfl) rfl
theorem q2413 : (Jvm.Cond.privateMethod ({ cls := "NetworkCentersModel", name := "medianTold", desc := "(I)I" } : Jvm.MethodName)) ∈ lw_tbl := lw_at lw_m10 149 rfl
theorem q2414 : (Jvm.Cond.instanceMethod ({ cls := "NetworkCentersModel", name := "medianTold", desc := "(I)I" } : Jvm.MethodName)) ∈ lw_all := lw_g (lw_at lw_m10 150 rfl) rfl
theorem q2415 : (Jvm.Cond.code ({ cls := "NetworkCentersModel", name := "medianTold", desc := "(I)I" } : Jvm.MethodName) prog_19_method_77_code (2 : Nat) (Option.some Jvm.ClassFile.FieldType.int)) ∈ lw_all := lw_g (lw_at lw_m10 151 rfl) rfl
theorem q2417 : (Jvm.Cond.instanceMethod ({ cls := "NetworkCentersModel", name := "radiusOf", desc := "(II)I" } : Jvm.MethodName)) ∈ lw_all := lw_g (lw_at lw_m10 153 rfl) rfl
theorem q2418 : (Jvm.Cond.selects "NetworkCentersModel" ({ cls := "NetworkCentersModel", name := "radiusOf", desc := "(II)I" } : Jvm.MethodName) ({ cls := "NetworkCentersModel", name := "radiusOf", desc := "(II)I" } : Jvm.MethodName)) ∈ lw_all := lw_g (lw_at lw_m10 154 rfl) rfl
theorem q2419 : (Jvm.Cond.code ({ cls := "NetworkCentersModel", name := "radiusOf", desc := "(II)I" } : Jvm.MethodName) prog_19_method_82_code (3 : Nat) (Option.some Jvm.ClassFile.FieldType.int)) ∈ lw_all := lw_g (lw_at lw_m10 155 rfl) rfl
theorem q2420 : (Jvm.Cond.methodLink "NetworkCentersModel" (266 : Nat) ({ cls := "NetworkCentersModel", name := "laysBound", desc := "(I)V" } : Jvm.MethodName)) ∈ lw_all := lw_g (lw_at lw_m10 156 rfl) rfl
theorem q2421 : (Jvm.Cond.privateMethod ({ cls := "NetworkCentersModel", name := "laysBound", desc := "(I)V" } : Jvm.MethodName)) ∈ lw_tbl := lw_at lw_m10 157 rfl
theorem q2422 : (Jvm.Cond.instanceMethod ({ cls := "NetworkCentersModel", name := "laysBound", desc := "(I)V" } : Jvm.MethodName)) ∈ lw_all := lw_g (lw_at lw_m10 158 rfl) rfl
theorem q2423 : (Jvm.Cond.code ({ cls := "NetworkCentersModel", name := "laysBound", desc := "(I)V" } : Jvm.MethodName) prog_19_method_81_code (9 : Nat) (Option.none : Option Jvm.ClassFile.FieldType)) ∈ lw_all := lw_g (lw_at lw_m10 159 rfl) rfl
theorem q2424 : (Jvm.Cond.methodLink "NetworkCentersModel" (254 : Nat) ({ cls := "NetworkCentersModel", name := "laysRadii", desc := "()V" } : Jvm.MethodName)) ∈ lw_all := lw_g (lw_at lw_m10 160 rfl) rfl
theorem q2425 : (Jvm.Cond.privateMethod ({ cls := "NetworkCentersModel", name := "laysRadii", desc := "()V" } : Jvm.MethodName)) ∈ lw_tbl := lw_at lw_m10 161 rfl
theorem q2426 : (Jvm.Cond.instanceMethod ({ cls := "NetworkCentersModel", name := "laysRadii", desc := "()V" } : Jvm.MethodName)) ∈ lw_all := lw_g (lw_at lw_m10 162 rfl) rfl
theorem q2427 : (Jvm.Cond.code ({ cls := "NetworkCentersModel", name := "laysRadii", desc := "()V" } : Jvm.MethodName) prog_19_method_79_code (2 : Nat) (Option.none : Option Jvm.ClassFile.FieldType)) ∈ lw_all := lw_g (lw_at lw_m10 163 rfl) rfl
theorem q2428 : (Jvm.Cond.methodLink "NetworkCentersModel" (257 : Nat) ({ cls := "NetworkCentersModel", name := "laysTwo", desc := "()V" } : Jvm.MethodName)) ∈ lw_all := lw_g (lw_at lw_m10 164 rfl) rfl
theorem q2429 : (Jvm.Cond.privateMethod ({ cls := "NetworkCentersModel", name := "laysTwo", desc := "()V" } : Jvm.MethodName)) ∈ lw_tbl := lw_at lw_m10 165 rfl
theorem q2430 : (Jvm.Cond.instanceMethod ({ cls := "NetworkCentersModel", name := "laysTwo", desc := "()V" } : Jvm.MethodName)) ∈ lw_all := lw_g (lw_at lw_m10 166 rfl) rfl
theorem q2431 : (Jvm.Cond.code ({ cls := "NetworkCentersModel", name := "laysTwo", desc := "()V" } : Jvm.MethodName) prog_19_method_80_code (4 : Nat) (Option.none : Option Jvm.ClassFile.FieldType)) ∈ lw_all := lw_g (lw_at lw_m10 167 rfl) rfl
theorem q2433 : (Jvm.Cond.instanceMethod ({ cls := "NetworkCentersModel", name := "group", desc := "(II)I" } : Jvm.MethodName)) ∈ lw_all := lw_g (lw_at lw_m10 169 rfl) rfl
theorem q2434 : (Jvm.Cond.selects "NetworkCentersModel" ({ cls := "NetworkCentersModel", name := "group", desc := "(II)I" } : Jvm.MethodName) ({ cls := "NetworkCentersModel", name := "group", desc := "(II)I" } : Jvm.MethodName)) ∈ lw_all := lw_g (lw_at lw_m10 170 rfl) rfl
theorem q2435 : (Jvm.Cond.code ({ cls := "NetworkCentersModel", name := "group", desc := "(II)I" } : Jvm.MethodName) prog_19_method_85_code (3 : Nat) (Option.some Jvm.ClassFile.FieldType.int)) ∈ lw_all := lw_g (lw_at lw_m10 171 rfl) rfl
theorem q2436 : (Jvm.Cond.methodLink "NetworkCentersModel" (272 : Nat) ({ cls := "NetworkCentersModel", name := "groupTold", desc := "(II)I" } : Jvm.MethodName)) ∈ lw_all := lw_g (lw_at lw_m10 172 rfl) rfl
theorem q2437 : (Jvm.Cond.privateMethod ({ cls := "NetworkCentersModel", name := "groupTold", desc := "(II)I" } : Jvm.MethodName)) ∈ lw_tbl := lw_at lw_m10 173 rfl
theorem q2438 : (Jvm.Cond.instanceMethod ({ cls := "NetworkCentersModel", name := "groupTold", desc := "(II)I" } : Jvm.MethodName)) ∈ lw_all := lw_g (lw_at lw_m10 174 rfl) rfl
theorem q2439 : (Jvm.Cond.code ({ cls := "NetworkCentersModel", name := "groupTold", desc := "(II)I" } : Jvm.MethodName) prog_19_method_84_code (7 : Nat) (Option.some Jvm.ClassFile.FieldType.int)) ∈ lw_all := lw_g (lw_at lw_m10 175 rfl) rfl
theorem q2440 : (Jvm.Cond.methodLink "NetworkCentersModel" (269 : Nat) ({ cls := "NetworkCentersModel", name := "isEnough", desc := "(II)Z" } : Jvm.MethodName)) ∈ lw_all := lw_g (lw_at lw_m10 176 rfl) rfl
theorem q2441 : (Jvm.Cond.privateMethod ({ cls := "NetworkCentersModel", name := "isEnough", desc := "(II)Z" } : Jvm.MethodName)) ∈ lw_tbl := lw_at lw_m10 177 rfl
theorem q2442 : (Jvm.Cond.instanceMethod ({ cls := "NetworkCentersModel", name := "isEnough", desc := "(II)Z" } : Jvm.MethodName)) ∈ lw_all := lw_g (lw_at lw_m10 178 rfl) rfl
theorem q2443 : (Jvm.Cond.code ({ cls := "NetworkCentersModel", name := "isEnough", desc := "(II)Z" } : Jvm.MethodName) prog_19_method_83_code (3 : Nat) (Option.some Jvm.ClassFile.FieldType.boolean)) ∈ lw_all := lw_g (lw_at lw_m10 179 rfl) rfl
theorem q2445 : (Jvm.Cond.instanceMethod ({ cls := "NetworkCentersModel", name := "covering", desc := "(II)I" } : Jvm.MethodName)) ∈ lw_all := lw_g (lw_at lw_m10 181 rfl) rfl
theorem q2446 : (Jvm.Cond.selects "NetworkCentersModel" ({ cls := "NetworkCentersModel", name := "covering", desc := "(II)I" } : Jvm.MethodName) ({ cls := "NetworkCentersModel", name := "covering", desc := "(II)I" } : Jvm.MethodName)) ∈ lw_all := lw_g (lw_at lw_m10 182 rfl) rfl
theorem q2447 : (Jvm.Cond.code ({ cls := "NetworkCentersModel", name := "covering", desc := "(II)I" } : Jvm.MethodName) prog_19_method_86_code (5 : Nat) (Option.some Jvm.ClassFile.FieldType.int)) ∈ lw_all := lw_g (lw_at lw_m10 183 rfl) rfl
theorem q2449 : (Jvm.Cond.instanceMethod ({ cls := "NetworkCentersModel", name := "covered", desc := "(III)I" } : Jvm.MethodName)) ∈ lw_all := lw_g (lw_at lw_m10 185 rfl) rfl
theorem q2450 : (Jvm.Cond.selects "NetworkCentersModel" ({ cls := "NetworkCentersModel", name := "covered", desc := "(III)I" } : Jvm.MethodName) ({ cls := "NetworkCentersModel", name := "covered", desc := "(III)I" } : Jvm.MethodName)) ∈ lw_all := lw_g (lw_at lw_m10 186 rfl) rfl
theorem q2451 : (Jvm.Cond.code ({ cls := "NetworkCentersModel", name := "covered", desc := "(III)I" } : Jvm.MethodName) prog_19_method_87_code (7 : Nat) (Option.some Jvm.ClassFile.FieldType.int)) ∈ lw_all := lw_g (lw_at lw_m10 187 rfl) rfl
theorem q2453 : (Jvm.Cond.instanceMethod ({ cls := "NetworkCentersModel", name := "changedRadius", desc := "(II)I" } : Jvm.MethodName)) ∈ lw_all := lw_g (lw_at lw_m10 189 rfl) rfl
theorem q2454 : (Jvm.Cond.selects "NetworkCentersModel" ({ cls := "NetworkCentersModel", name := "changedRadius", desc := "(II)I" } : Jvm.MethodName) ({ cls := "NetworkCentersModel", name := "changedRadius", desc := "(II)I" } : Jvm.MethodName)) ∈ lw_all := lw_g (lw_at lw_m10 190 rfl) rfl
theorem q2455 : (Jvm.Cond.code ({ cls := "NetworkCentersModel", name := "changedRadius", desc := "(II)I" } : Jvm.MethodName) prog_19_method_88_code (3 : Nat) (Option.some Jvm.ClassFile.FieldType.int)) ∈ lw_all := lw_g (lw_at lw_m10 191 rfl) rfl
theorem q2457 : (Jvm.Cond.instanceMethod ({ cls := "NetworkCentersModel", name := "radiusWithout", desc := "(II)I" } : Jvm.MethodName)) ∈ lw_all := lw_g (lw_at lw_m10 193 rfl) rfl
theorem q2458 : (Jvm.Cond.selects "NetworkCentersModel" ({ cls := "NetworkCentersModel", name := "radiusWithout", desc := "(II)I" } : Jvm.MethodName) ({ cls := "NetworkCentersModel", name := "radiusWithout", desc := "(II)I" } : Jvm.MethodName)) ∈ lw_all := lw_g (lw_at lw_m10 194 rfl) rfl
theorem q2459 : (Jvm.Cond.code ({ cls := "NetworkCentersModel", name := "radiusWithout", desc := "(II)I" } : Jvm.MethodName) prog_19_method_89_code (5 : Nat) (Option.some Jvm.ClassFile.FieldType.int)) ∈ lw_all := lw_g (lw_at lw_m10 195 rfl) rfl
theorem q2461 : (Jvm.Cond.instanceMethod ({ cls := "NetworkCentersModel", name := "type", desc := "(I)I" } : Jvm.MethodName)) ∈ lw_all := lw_g (lw_at lw_m10 197 rfl) rfl
theorem q2462 : (Jvm.Cond.selects "NetworkCentersModel" ({ cls := "NetworkCentersModel", name := "type", desc := "(I)I" } : Jvm.MethodName) ({ cls := "NetworkCentersModel", name := "type", desc := "(I)I" } : Jvm.MethodName)) ∈ lw_all := lw_g (lw_at lw_m10 198 rfl) rfl
theorem q2463 : (Jvm.Cond.code ({ cls := "NetworkCentersModel", name := "type", desc := "(I)I" } : Jvm.MethodName) prog_19_method_90_code (2 : Nat) (Option.some Jvm.ClassFile.FieldType.int)) ∈ lw_all := lw_g (lw_at lw_m10 199 rfl) rfl
theorem q2465 : (Jvm.Cond.instanceMethod ({ cls := "NetworkCentersModel", name := "clearText", desc := "()I" } : Jvm.MethodName)) ∈ lw_all := lw_g (lw_at lw_m10 201 rfl) rfl
theorem q2466 : (Jvm.Cond.selects "NetworkCentersModel" ({ cls := "NetworkCentersModel", name := "clearText", desc := "()I" } : Jvm.MethodName) ({ cls := "NetworkCentersModel", name := "clearText", desc := "()I" } : Jvm.MethodName)) ∈ lw_all := lw_g (lw_at lw_m10 202 rfl) rfl
theorem q2467 : (Jvm.Cond.code ({ cls := "NetworkCentersModel", name := "clearText", desc := "()I" } : Jvm.MethodName) prog_19_method_91_code (2 : Nat) (Option.some Jvm.ClassFile.FieldType.int)) ∈ lw_all := lw_g (lw_at lw_m10 203 rfl) rfl
theorem q2469 : (Jvm.Cond.instanceMethod ({ cls := "NetworkCentersModel", name := "fault", desc := "()I" } : Jvm.MethodName)) ∈ lw_all := lw_g (lw_at lw_m10 205 rfl) rfl
theorem q2470 : (Jvm.Cond.selects "NetworkCentersModel" ({ cls := "NetworkCentersModel", name := "fault", desc := "()I" } : Jvm.MethodName) ({ cls := "NetworkCentersModel", name := "fault", desc := "()I" } : Jvm.MethodName)) ∈ lw_all := lw_g (lw_at lw_m10 206 rfl) rfl
theorem q2471 : (Jvm.Cond.code ({ cls := "NetworkCentersModel", name := "fault", desc := "()I" } : Jvm.MethodName) prog_19_method_99_code (1 : Nat) (Option.some Jvm.ClassFile.FieldType.int)) ∈ lw_all := lw_g (lw_at lw_m10 207 rfl) rfl
theorem q2472 : (Jvm.Cond.methodLink "NetworkCentersModel" (306 : Nat) ({ cls := "NetworkCentersModel", name := "goes", desc := "(Z)I" } : Jvm.MethodName)) ∈ lw_all := lw_g (lw_at lw_m10 208 rfl) rfl
theorem q2473 : (Jvm.Cond.privateMethod ({ cls := "NetworkCentersModel", name := "goes", desc := "(Z)I" } : Jvm.MethodName)) ∈ lw_tbl := lw_at lw_m10 209 rfl
theorem q2474 : (Jvm.Cond.instanceMethod ({ cls := "NetworkCentersModel", name := "goes", desc := "(Z)I" } : Jvm.MethodName)) ∈ lw_all := lw_g (lw_at lw_m10 210 rfl) rfl
theorem q2475 : (Jvm.Cond.code ({ cls := "NetworkCentersModel", name := "goes", desc := "(Z)I" } : Jvm.MethodName) prog_19_method_97_code (7 : Nat) (Option.some Jvm.ClassFile.FieldType.int)) ∈ lw_all := lw_g (lw_at lw_m10 211 rfl) rfl
theorem q2476 : (Jvm.Cond.methodLink "NetworkCentersModel" (281 : Nat) ({ cls := "NetworkCentersModel", name := "looking", desc := "()I" } : Jvm.MethodName)) ∈ lw_all := lw_g (lw_at lw_m10 212 rfl) rfl
theorem q2477 : (Jvm.Cond.privateMethod ({ cls := "NetworkCentersModel", name := "looking", desc := "()I" } : Jvm.MethodName)) ∈ lw_tbl := lw_at lw_m10 213 rfl
theorem q2478 : (Jvm.Cond.instanceMethod ({ cls := "NetworkCentersModel", name := "looking", desc := "()I" } : Jvm.MethodName)) ∈ lw_all := lw_g (lw_at lw_m10 214 rfl) rfl
theorem q2479 : (Jvm.Cond.code ({ cls := "NetworkCentersModel", name := "looking", desc := "()I" } : Jvm.MethodName) prog_19_method_92_code (1 : Nat) (Option.some Jvm.ClassFile.FieldType.int)) ∈ lw_all := lw_g (lw_at lw_m10 215 rfl) rfl
theorem q2480 : (Jvm.Cond.methodLink "NetworkCentersModel" (296 : Nat) ({ cls := "NetworkCentersModel", name := "number", desc := "()I" } : Jvm.MethodName)) ∈ lw_all := lw_g (lw_at lw_m10 216 rfl) rfl
theorem q2481 : (Jvm.Cond.privateMethod ({ cls := "NetworkCentersModel", name := "number", desc := "()I" } : Jvm.MethodName)) ∈ lw_tbl := lw_at lw_m10 217 rfl
theorem q2482 : (Jvm.Cond.instanceMethod ({ cls := "NetworkCentersModel", name := "number", desc := "()I" } : Jvm.MethodName)) ∈ lw_all := lw_g (lw_at lw_m10 218 rfl) rfl
theorem q2483 : (Jvm.Cond.code ({ cls := "NetworkCentersModel", name := "number", desc := "()I" } : Jvm.MethodName) prog_19_method_94_code (2 : Nat) (Option.some Jvm.ClassFile.FieldType.int)) ∈ lw_all := lw_g (lw_at lw_m10 219 rfl) rfl
theorem q2484 : (Jvm.Cond.methodLink "NetworkCentersModel" (287 : Nat) ({ cls := "NetworkCentersModel", name := "isDigit", desc := "()Z" } : Jvm.MethodName)) ∈ lw_all := lw_g (lw_at lw_m10 220 rfl) rfl
theorem q2485 : (Jvm.Cond.privateMethod ({ cls := "NetworkCentersModel", name := "isDigit", desc := "()Z" } : Jvm.MethodName)) ∈ lw_tbl := lw_at lw_m10 221 rfl
theorem q2486 : (Jvm.Cond.instanceMethod ({ cls := "NetworkCentersModel", name := "isDigit", desc := "()Z" } : Jvm.MethodName)) ∈ lw_all := lw_g (lw_at lw_m10 222 rfl) rfl
theorem q2487 : (Jvm.Cond.code ({ cls := "NetworkCentersModel", name := "isDigit", desc := "()Z" } : Jvm.MethodName) prog_19_method_93_code (1 : Nat) (Option.some Jvm.ClassFile.FieldType.boolean)) ∈ lw_all := lw_g (lw_at lw_m10 223 rfl) rfl
theorem q2488 : (Jvm.Cond.methodLink "NetworkCentersModel" (290 : Nat) ({ cls := "NetworkCentersModel", name := "fails", desc := "()V" } : Jvm.MethodName)) ∈ lw_all := lw_g (lw_at lw_m10 224 rfl) rfl
theorem q2489 : (Jvm.Cond.privateMethod ({ cls := "NetworkCentersModel", name := "fails", desc := "()V" } : Jvm.MethodName)) ∈ lw_tbl := lw_at lw_m10 225 rfl
theorem q2490 : (Jvm.Cond.instanceMethod ({ cls := "NetworkCentersModel", name := "fails", desc := "()V" } : Jvm.MethodName)) ∈ lw_all := lw_g (lw_at lw_m10 226 rfl) rfl
theorem q2491 : (Jvm.Cond.code ({ cls := "NetworkCentersModel", name := "fails", desc := "()V" } : Jvm.MethodName) prog_19_method_95_code (1 : Nat) (Option.none : Option Jvm.ClassFile.FieldType)) ∈ lw_all := lw_g (lw_at lw_m10 227 rfl) rfl
theorem q2492 : (Jvm.Cond.methodLink "NetworkCentersModel" (299 : Nat) ({ cls := "NetworkCentersModel", name := "sign", desc := "(I)V" } : Jvm.MethodName)) ∈ lw_all := lw_g (lw_at lw_m10 228 rfl) rfl
theorem q2493 : (Jvm.Cond.privateMethod ({ cls := "NetworkCentersModel", name := "sign", desc := "(I)V" } : Jvm.MethodName)) ∈ lw_tbl := lw_at lw_m10 229 rfl
theorem q2494 : (Jvm.Cond.instanceMethod ({ cls := "NetworkCentersModel", name := "sign", desc := "(I)V" } : Jvm.MethodName)) ∈ lw_all := lw_g (lw_at lw_m10 230 rfl) rfl
theorem q2495 : (Jvm.Cond.code ({ cls := "NetworkCentersModel", name := "sign", desc := "(I)V" } : Jvm.MethodName) prog_19_method_96_code (2 : Nat) (Option.none : Option Jvm.ClassFile.FieldType)) ∈ lw_all := lw_g (lw_at lw_m10 231 rfl) rfl
theorem q2496 : (Jvm.Cond.methodLink "NetworkCentersModel" (302 : Nat) ({ cls := "NetworkCentersModel", name := "isDone", desc := "(IIII)Z" } : Jvm.MethodName)) ∈ lw_all := lw_g (lw_at lw_m10 232 rfl) rfl
theorem q2497 : (Jvm.Cond.privateMethod ({ cls := "NetworkCentersModel", name := "isDone", desc := "(IIII)Z" } : Jvm.MethodName)) ∈ lw_tbl := lw_at lw_m10 233 rfl
theorem q2498 : (Jvm.Cond.instanceMethod ({ cls := "NetworkCentersModel", name := "isDone", desc := "(IIII)Z" } : Jvm.MethodName)) ∈ lw_all := lw_g (lw_at lw_m10 234 rfl) rfl
theorem q2499 : (Jvm.Cond.code ({ cls := "NetworkCentersModel", name := "isDone", desc := "(IIII)Z" } : Jvm.MethodName) prog_19_method_98_code (6 : Nat) (Option.some Jvm.ClassFile.FieldType.boolean)) ∈ lw_all := lw_g (lw_at lw_m10 235 rfl) rfl
theorem q2501 : (Jvm.Cond.instanceMethod ({ cls := "NetworkCentersModel", name := "run", desc := "()I" } : Jvm.MethodName)) ∈ lw_all := lw_g (lw_at lw_m10 237 rfl) rfl
theorem q2502 : (Jvm.Cond.selects "NetworkCentersModel" ({ cls := "NetworkCentersModel", name := "run", desc := "()I" } : Jvm.MethodName) ({ cls := "NetworkCentersModel", name := "run", desc := "()I" } : Jvm.MethodName)) ∈ lw_all := lw_g (lw_at lw_m10 238 rfl) rfl
theorem q2503 : (Jvm.Cond.code ({ cls := "NetworkCentersModel", name := "run", desc := "()I" } : Jvm.MethodName) prog_19_method_100_code (1 : Nat) (Option.some Jvm.ClassFile.FieldType.int)) ∈ lw_all := lw_g (lw_at lw_m10 239 rfl) rfl
theorem q2505 : (Jvm.Cond.instanceMethod ({ cls := "NetworkCentersModel", name := "checksum", desc := "()J" } : Jvm.MethodName)) ∈ lw_all := lw_g (lw_at lw_m11 1 rfl) rfl
theorem q2506 : (Jvm.Cond.selects "NetworkCentersModel" ({ cls := "NetworkCentersModel", name := "checksum", desc := "()J" } : Jvm.MethodName) ({ cls := "NetworkCentersModel", name := "checksum", desc := "()J" } : Jvm.MethodName)) ∈ lw_all := lw_g (lw_at lw_m11 2 rfl) rfl
theorem q2507 : (Jvm.Cond.code ({ cls := "NetworkCentersModel", name := "checksum", desc := "()J" } : Jvm.MethodName) prog_19_method_103_code (3 : Nat) (Option.some Jvm.ClassFile.FieldType.long)) ∈ lw_all := lw_g (lw_at lw_m11 3 rfl) rfl
theorem q2508 : (Jvm.Cond.constantLong "NetworkCentersModel" (319 : Nat) (18473 : Int64)) ∈ lw_all := lw_g (lw_at lw_m11 4 rfl) rfl
theorem q2509 : (Jvm.Cond.methodLink "NetworkCentersModel" (315 : Nat) ({ cls := "NetworkCentersModel", name := "mix", desc := "(J)V" } : Jvm.MethodName)) ∈ lw_all := lw_g (lw_at lw_m11 5 rfl) rfl
theorem q2510 : (Jvm.Cond.privateMethod ({ cls := "NetworkCentersModel", name := "mix", desc := "(J)V" } : Jvm.MethodName)) ∈ lw_tbl := lw_at lw_m11 6 rfl
theorem q2511 : (Jvm.Cond.instanceMethod ({ cls := "NetworkCentersModel", name := "mix", desc := "(J)V" } : Jvm.MethodName)) ∈ lw_all := lw_g (lw_at lw_m11 7 rfl) rfl
theorem q2512 : (Jvm.Cond.code ({ cls := "NetworkCentersModel", name := "mix", desc := "(J)V" } : Jvm.MethodName) prog_19_method_101_code (3 : Nat) (Option.none : Option Jvm.ClassFile.FieldType)) ∈ lw_all := lw_g (lw_at lw_m11 8 rfl) rfl
theorem q2513 : (Jvm.Cond.constantLong "NetworkCentersModel" (310 : Nat) (31 : Int64)) ∈ lw_all := lw_g (lw_at lw_m11 9 rfl) rfl
theorem q2514 : (Jvm.Cond.methodLink "NetworkCentersModel" (321 : Nat) ({ cls := "NetworkCentersModel", name := "mixCenters", desc := "()V" } : Jvm.MethodName)) ∈ lw_all := lw_g (lw_at lw_m11 10 rfl) rfl
theorem q2515 : (Jvm.Cond.privateMethod ({ cls := "NetworkCentersModel", name := "mixCenters", desc := "()V" } : Jvm.MethodName)) ∈ lw_tbl := lw_at lw_m11 11 rfl
theorem q2516 : (Jvm.Cond.instanceMethod ({ cls := "NetworkCentersModel", name := "mixCenters", desc := "()V" } : Jvm.MethodName)) ∈ lw_all := lw_g (lw_at lw_m11 12 rfl) rfl
theorem q2517 : (Jvm.Cond.code ({ cls := "NetworkCentersModel", name := "mixCenters", desc := "()V" } : Jvm.MethodName) prog_19_method_102_code (4 : Nat) (Option.none : Option Jvm.ClassFile.FieldType)) ∈ lw_all := lw_g (lw_at lw_m11 13 rfl) rfl
theorem q2544 : (Jvm.Cond.castable "NetworkCentersModel" "java/lang/Object") ∈ lw_tbl := lw_at lw_m11 40 rfl
theorem in_X4 : ∀ w ∈ wsX40, w ∈ lw_all := lw_in wsX40 [2058, 2060, 2062, 2064, 2066, 2068, 2070, 2072, 2074, 2076, 2078, 2080, 2082, 2084, 2086, 2088, 2090, 2092, 2094, 2096, 2098, 2100, 2102, 2104, 2106, 2108, 2110] (by decide +kernel) (by decide +kernel)
