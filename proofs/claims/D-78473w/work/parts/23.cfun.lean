/-! THE CLASS AND ITS JDK METHODS, AS PURE PARTIAL FUNCTIONS (by program) -/
set_option maxRecDepth 100000
/- java/util/AbstractCollection <init>()V -/
def C_J1_init (x0 : Nat) : Option Unit :=
  some ()
/- java/util/Arrays copyOf([BI)[B -/
def C_J12_copyOf (S : St) (x0 : Nat) (x1 : Int32) : Option (Nat × St) :=
  (aN S 2 x0) >>= fun y1 =>
  if x1 = y1 then (
  none)
  else (
  (nI_ S 2 x1) >>= fun r2 =>
  (aN r2.2 2 x0) >>= fun y3 =>
  (cB_ r2.2 x0 (r2.1) 0 0 (if x1 < y3 then x1 else y3)) >>= fun S4 =>
  some (r2.1, S4))
/- java/lang/AbstractStringBuilder <init>(I)V -/
def C_J3_init (S : St) (x0 : Nat) (x1 : Int32) : Option St :=
  if (1 : Int32) = 0 then (
  none)
  else (
  (nI_ S 2 x1) >>= fun r1 =>
  (gP r1.2 12 x0 0 (.ref (r1.1))) >>= fun S2 =>
  (gP S2 12 x0 1 (.int 0)) >>= fun S3 =>
  some S3)
/- java/lang/StringBuilder <init>()V -/
def C_J4_init (S : St) (x0 : Nat) : Option St :=
  (C_J3_init S x0 16) >>= fun r1 =>
  some r1
/- jdk/internal/util/ArraysSupport hugeLength(II)I -/
def C_J19_hugeLength (x0 : Int32) (x1 : Int32) : Option Int32 :=
  (some (x0 + x1)) >>= fun y1 =>
  if 0 ≤ y1 then (
  if 2147483639 < y1 then (
  some y1)
  else (
  some 2147483639))
  else (
  none)
/- jdk/internal/util/ArraysSupport newLength(III)I -/
def C_J19_newLength_21 (x0 : Int32) (x1 : Int32) : Option Int32 :=
  (C_J19_hugeLength x0 x1) >>= fun r2 =>
  some r2
def C_J19_newLength (x0 : Int32) (x1 : Int32) (x2 : Int32) : Option Int32 :=
  (some (x0 + (if x1 < x2 then x2 else x1))) >>= fun y1 =>
  if y1 ≤ (0 : Int32) then (
  C_J19_newLength_21 x0 x1)
  else (
  if 2147483639 < y1 then (
  C_J19_newLength_21 x0 x1)
  else (
  some y1))
/- java/lang/AbstractStringBuilder newCapacity(I)I -/
def C_J3_newCapacity (S : St) (x0 : Nat) (x1 : Int32) : Option Int32 :=
  (gO S 12 x0) >>= fun _ =>
  (gA S 12 x0 0) >>= fun y1 =>
  (aN S 2 y1) >>= fun y2 =>
  (gI S 12 x0 1) >>= fun y3 =>
  (some (x1 <<< (y3 &&& 31))) >>= fun y4 =>
  (some (y4 - y2)) >>= fun y5 =>
  (gI S 12 x0 1) >>= fun y6 =>
  (C_J19_newLength y2 y5 (y2 + (2 <<< (y6 &&& 31)))) >>= fun r7 =>
  if r7 = 2147483647 then (
  none)
  else (
  (gI S 12 x0 1) >>= fun y8 =>
  some (r7 >>> (y8 &&& 31)))
theorem rc_J3_newCapacity {S : St} {x0 : Nat} {x1 : Int32} {r : Int32} (h : C_J3_newCapacity S x0 x1 = some r) : ∃ fs, gO S 12 x0 = some fs := by
  unfold C_J3_newCapacity at h
  obtain ⟨fs, h1, -⟩ := ob h
  exact ⟨fs, h1⟩
/- java/lang/AbstractStringBuilder ensureCapacityInternal(I)V -/
def C_J3_ensureCapacityInternal (S : St) (x0 : Nat) (x1 : Int32) : Option St :=
  (gO S 12 x0) >>= fun _ =>
  (gA S 12 x0 0) >>= fun y1 =>
  (aN S 2 y1) >>= fun y2 =>
  (gI S 12 x0 1) >>= fun y3 =>
  (some (y2 >>> (y3 &&& 31))) >>= fun y4 =>
  if x1 - y4 ≤ 0 then (
  some S)
  else (
  (gA S 12 x0 0) >>= fun y5 =>
  (C_J3_newCapacity S x0 x1) >>= fun r6 =>
  (gI S 12 x0 1) >>= fun y7 =>
  (C_J12_copyOf S y5 (r6 <<< (y7 &&& 31))) >>= fun r8 =>
  (gP r8.2 12 x0 0 (.ref (r8.1))) >>= fun S9 =>
  some S9)
theorem rc_J3_ensureCapacityInternal {S : St} {x0 : Nat} {x1 : Int32} {r : St} (h : C_J3_ensureCapacityInternal S x0 x1 = some r) : ∃ fs, gO S 12 x0 = some fs := by
  unfold C_J3_ensureCapacityInternal at h
  obtain ⟨fs, h1, -⟩ := ob h
  exact ⟨fs, h1⟩
/- java/lang/AbstractStringBuilder isLatin1()Z -/
def C_J3_isLatin1 (S : St) (x0 : Nat) : Option Int32 :=
  (gO S 12 x0) >>= fun _ =>
  if (1 : Int32) = 0 then (
  some 0)
  else (
  (gI S 12 x0 1) >>= fun y1 =>
  if y1 = 0 then (
  some 1)
  else (
  some 0))
theorem rc_J3_isLatin1 {S : St} {x0 : Nat} {r : Int32} (h : C_J3_isLatin1 S x0 = some r) : ∃ fs, gO S 12 x0 = some fs := by
  unfold C_J3_isLatin1 at h
  obtain ⟨fs, h1, -⟩ := ob h
  exact ⟨fs, h1⟩
/- java/lang/Integer getChars(II[B)I -/
def C_J22_getChars_72 (F : Nat) (x0 : Int32) (x2 : Nat) (x5 : Int32) (x6 : Int32) (S : St) : Option (Int32 × St) :=
  (some (x5 + (-1))) >>= fun y5 =>
  none
def C_J22_getChars_22 (F : Nat) (x2 : Nat) (x6 : Int32) : Nat → Int32 → Int32 → St → Option (Int32 × St)
  | 0, _, _, _ => none
  | n + 1, x0, x5, S =>
    if (-100) < x0 then (
    C_J22_getChars_72 F x0 x2 x5 x6 S)
    else (
    if (100 : Int32) = 0 then none else
    (some (x0 / 100)) >>= fun y2 =>
    (some ((y2 * 100) - x0)) >>= fun y3 =>
    (some (x5 + (-1))) >>= fun y4 =>
    none)
def C_J22_getChars_12 (F : Nat) (x0 : Int32) (x2 : Nat) (x5 : Int32) (s0 : Int32) (S : St) : Option (Int32 × St) :=
  if s0 = 0 then (
  (some (-x0)) >>= fun y1 =>
  C_J22_getChars_22 F x2 s0 F y1 x5 S)
  else (
  C_J22_getChars_22 F x2 s0 F x0 x5 S)
def C_J22_getChars (F : Nat) (S : St) (x0 : Int32) (x1 : Int32) (x2 : Nat) : Option (Int32 × St) :=
  if 0 ≤ x0 then (
  C_J22_getChars_12 F x0 x2 x1 0 S)
  else (
  C_J22_getChars_12 F x0 x2 x1 1 S)
/- java/lang/Integer stringSize(I)I -/
def C_J22_stringSize_27 (F : Nat) (x1 : Int32) (x3 : Int32) : Option Int32 :=
  some (x3 + x1)
def C_J22_stringSize_42 (F : Nat) (x1 : Int32) : Option Int32 :=
  some (10 + x1)
def C_J22_stringSize_16 (F : Nat) (x0 : Int32) (x1 : Int32) : Nat → Int32 → Int32 → Option Int32
  | 0, _, _ => none
  | n + 1, x2, x3 =>
    if 10 ≤ x3 then (
    C_J22_stringSize_42 F x1)
    else (
    if x0 ≤ x2 then (
    (some (10 * x2)) >>= fun y2 =>
    (some (x3 + 1)) >>= fun y3 =>
    C_J22_stringSize_16 F x0 x1 n y2 y3)
    else (
    C_J22_stringSize_27 F x1 x3))
def C_J22_stringSize_11 (F : Nat) (x0 : Int32) (x1 : Int32) : Option Int32 :=
  C_J22_stringSize_16 F x0 x1 F (-10) 1
def C_J22_stringSize (F : Nat) (x0 : Int32) : Option Int32 :=
  if x0 < 0 then (
  C_J22_stringSize_11 F x0 1)
  else (
  (some (-x0)) >>= fun y1 =>
  C_J22_stringSize_11 F y1 0)
/- java/lang/AbstractStringBuilder append(I)Ljava/lang/AbstractStringBuilder; -/
def C_J3_append_2_48 (F : Nat) (x0 : Nat) (x3 : Int32) (S : St) : Option (Nat × St) :=
  (gP S 12 x0 3 (.int x3)) >>= fun S9 =>
  some (x0, S9)
def C_J3_append_2 (F : Nat) (S : St) (x0 : Nat) (x1 : Int32) : Option (Nat × St) :=
  (gO S 12 x0) >>= fun _ =>
  (gI S 12 x0 3) >>= fun y1 =>
  (C_J22_stringSize F x1) >>= fun r2 =>
  (some (y1 + r2)) >>= fun y3 =>
  (C_J3_ensureCapacityInternal S x0 y3) >>= fun r4 =>
  (C_J3_isLatin1 r4 x0) >>= fun r5 =>
  if r5 = 0 then (
  (gA r4 12 x0 0) >>= fun y6 =>
  none)
  else (
  (gA r4 12 x0 0) >>= fun y7 =>
  (C_J22_getChars F r4 x1 y3 y7) >>= fun r8 =>
  C_J3_append_2_48 F x0 y3 r8.2)
theorem rc_J3_append_2 {F : Nat} {S : St} {x0 : Nat} {x1 : Int32} {r : Nat × St} (h : C_J3_append_2 F S x0 x1 = some r) : ∃ fs, gO S 12 x0 = some fs := by
  unfold C_J3_append_2 at h
  obtain ⟨fs, h1, -⟩ := ob h
  exact ⟨fs, h1⟩
/- java/lang/StringBuilder append(I)Ljava/lang/StringBuilder; -/
def C_J4_append_2 (F : Nat) (S : St) (x0 : Nat) (x1 : Int32) : Option (Nat × St) :=
  (gO S 12 x0) >>= fun _ =>
  (C_J3_append_2 F S x0 x1) >>= fun r1 =>
  some (x0, r1.2)
theorem rc_J4_append_2 {F : Nat} {S : St} {x0 : Nat} {x1 : Int32} {r : Nat × St} (h : C_J4_append_2 F S x0 x1 = some r) : ∃ fs, gO S 12 x0 = some fs := by
  unfold C_J4_append_2 at h
  obtain ⟨fs, h1, -⟩ := ob h
  exact ⟨fs, h1⟩
/- java/lang/AbstractStringBuilder appendNull()Ljava/lang/AbstractStringBuilder; -/
def C_J3_appendNull_76 (x0 : Nat) (x1 : Int32) (S : St) : Option (Nat × St) :=
  (gP S 12 x0 3 (.int x1)) >>= fun S14 =>
  some (x0, S14)
def C_J3_appendNull (S : St) (x0 : Nat) : Option (Nat × St) :=
  (gO S 12 x0) >>= fun _ =>
  (gI S 12 x0 3) >>= fun y1 =>
  (C_J3_ensureCapacityInternal S x0 (y1 + 4)) >>= fun r2 =>
  (gI r2 12 x0 3) >>= fun y3 =>
  (gA r2 12 x0 0) >>= fun y4 =>
  (C_J3_isLatin1 r2 x0) >>= fun r5 =>
  if r5 = 0 then (
  none)
  else (
  (some (y3 + 1)) >>= fun y6 =>
  (tI r2 2 y4 y3 (vp_nar .byte 110)) >>= fun S7 =>
  (some (y6 + 1)) >>= fun y8 =>
  (tI S7 2 y4 y6 (vp_nar .byte 117)) >>= fun S9 =>
  (some (y8 + 1)) >>= fun y10 =>
  (tI S9 2 y4 y8 (vp_nar .byte 108)) >>= fun S11 =>
  (some (y10 + 1)) >>= fun y12 =>
  (tI S11 2 y4 y10 (vp_nar .byte 108)) >>= fun S13 =>
  C_J3_appendNull_76 x0 y12 S13)
theorem rc_J3_appendNull {S : St} {x0 : Nat} {r : Nat × St} (h : C_J3_appendNull S x0 = some r) : ∃ fs, gO S 12 x0 = some fs := by
  unfold C_J3_appendNull at h
  obtain ⟨fs, h1, -⟩ := ob h
  exact ⟨fs, h1⟩
/- java/lang/StringLatin1 inflate([BI[BII)V -/
def C_J21_inflate (x0 : Nat) (x1 : Int32) (x2 : Nat) (x3 : Int32) (x4 : Int32) : Option Unit :=
  none
/- java/lang/AbstractStringBuilder inflate()V -/
def C_J3_inflate (S : St) (x0 : Nat) : Option St :=
  (gO S 12 x0) >>= fun _ =>
  (C_J3_isLatin1 S x0) >>= fun r1 =>
  if r1 = 0 then (
  some S)
  else (
  (gA S 12 x0 0) >>= fun y2 =>
  (aN S 2 y2) >>= fun y3 =>
  none)
theorem rc_J3_inflate {S : St} {x0 : Nat} {r : St} (h : C_J3_inflate S x0 = some r) : ∃ fs, gO S 12 x0 = some fs := by
  unfold C_J3_inflate at h
  obtain ⟨fs, h1, -⟩ := ob h
  exact ⟨fs, h1⟩
/- java/lang/AbstractStringBuilder inflateIfNeededFor(Ljava/lang/String;)V -/
def C_J3_inflateIfNeededFor (S : St) (x0 : Nat) (x1 : Nat) : Option St :=
  (gO S 12 x0) >>= fun _ =>
  if (1 : Int32) = 0 then (
  some S)
  else (
  (gI S 12 x0 1) >>= fun y1 =>
  none)
theorem rc_J3_inflateIfNeededFor {S : St} {x0 : Nat} {x1 : Nat} {r : St} (h : C_J3_inflateIfNeededFor S x0 x1 = some r) : ∃ fs, gO S 12 x0 = some fs := by
  unfold C_J3_inflateIfNeededFor at h
  obtain ⟨fs, h1, -⟩ := ob h
  exact ⟨fs, h1⟩
/- java/lang/AbstractStringBuilder putStringAt(ILjava/lang/String;)V -/
def C_J3_putStringAt (S : St) (x0 : Nat) (x1 : Int32) (x2 : Nat) : Option St :=
  (gO S 12 x0) >>= fun _ =>
  none
theorem rc_J3_putStringAt {S : St} {x0 : Nat} {x1 : Int32} {x2 : Nat} {r : St} (h : C_J3_putStringAt S x0 x1 x2 = some r) : ∃ fs, gO S 12 x0 = some fs := by
  unfold C_J3_putStringAt at h
  obtain ⟨fs, h1, -⟩ := ob h
  exact ⟨fs, h1⟩
/- java/lang/AbstractStringBuilder append(Ljava/lang/String;)Ljava/lang/AbstractStringBuilder; -/
def C_J3_append (S : St) (x0 : Nat) (x1 : Nat) : Option (Nat × St) :=
  (gO S 12 x0) >>= fun _ =>
  none
theorem rc_J3_append {S : St} {x0 : Nat} {x1 : Nat} {r : Nat × St} (h : C_J3_append S x0 x1 = some r) : ∃ fs, gO S 12 x0 = some fs := by
  unfold C_J3_append at h
  obtain ⟨fs, h1, -⟩ := ob h
  exact ⟨fs, h1⟩
/- java/lang/StringBuilder append(Ljava/lang/String;)Ljava/lang/StringBuilder; -/
def C_J4_append (S : St) (x0 : Nat) (x1 : Nat) : Option (Nat × St) :=
  (gO S 12 x0) >>= fun _ =>
  (C_J3_append S x0 x1) >>= fun r1 =>
  some (x0, r1.2)
theorem rc_J4_append {S : St} {x0 : Nat} {x1 : Nat} {r : Nat × St} (h : C_J4_append S x0 x1 = some r) : ∃ fs, gO S 12 x0 = some fs := by
  unfold C_J4_append at h
  obtain ⟨fs, h1, -⟩ := ob h
  exact ⟨fs, h1⟩
/- java/lang/AbstractStringBuilder getValue()[B -/
def C_J3_getValue (S : St) (x0 : Nat) : Option Nat :=
  (gO S 12 x0) >>= fun _ =>
  (gA S 12 x0 0) >>= fun y1 =>
  some y1
theorem rc_J3_getValue {S : St} {x0 : Nat} {r : Nat} (h : C_J3_getValue S x0 = some r) : ∃ fs, gO S 12 x0 = some fs := by
  unfold C_J3_getValue at h
  obtain ⟨fs, h1, -⟩ := ob h
  exact ⟨fs, h1⟩
/- java/lang/AbstractStringBuilder length()I -/
def C_J3_length (S : St) (x0 : Nat) : Option Int32 :=
  (gO S 12 x0) >>= fun _ =>
  (gI S 12 x0 3) >>= fun y1 =>
  some y1
theorem rc_J3_length {S : St} {x0 : Nat} {r : Int32} (h : C_J3_length S x0 = some r) : ∃ fs, gO S 12 x0 = some fs := by
  unfold C_J3_length at h
  obtain ⟨fs, h1, -⟩ := ob h
  exact ⟨fs, h1⟩
/- java/lang/String <init>(Ljava/lang/AbstractStringBuilder;Ljava/lang/Void;)V -/
def C_J5_init_2 (F : Nat) (S : St) (x0 : Nat) (x1 : Nat) (x2 : Nat) : Option St :=
  (C_J3_getValue S x1) >>= fun r1 =>
  none
/- java/lang/String <init>(Ljava/lang/StringBuilder;)V -/
def C_J5_init (F : Nat) (S : St) (x0 : Nat) (x1 : Nat) : Option St :=
  none
/- java/lang/StringBuilder toString()Ljava/lang/String; -/
def C_J4_toString (F : Nat) (S : St) (x0 : Nat) : Option (Nat × St) :=
  (gO S 12 x0) >>= fun _ =>
  none
theorem rc_J4_toString {F : Nat} {S : St} {x0 : Nat} {r : Nat × St} (h : C_J4_toString F S x0 = some r) : ∃ fs, gO S 12 x0 = some fs := by
  unfold C_J4_toString at h
  obtain ⟨fs, h1, -⟩ := ob h
  exact ⟨fs, h1⟩
/- java/util/Arrays checkLength(II)V -/
def C_J12_checkLength (F : Nat) (S : St) (x0 : Int32) (x1 : Int32) : Option St :=
  if x0 ≤ x1 then (
  some S)
  else (
  none)
/- java/util/Arrays copyOfRangeByte([BII)[B -/
def C_J12_copyOfRangeByte (F : Nat) (S : St) (x0 : Nat) (x1 : Int32) (x2 : Int32) : Option (Nat × St) :=
  (C_J12_checkLength F S x1 x2) >>= fun r1 =>
  (some (x2 - x1)) >>= fun y2 =>
  (nI_ r1 2 y2) >>= fun r3 =>
  (aN r3.2 2 x0) >>= fun y4 =>
  (cB_ r3.2 x0 (r3.1) x1 0 (if y2 < (y4 - x1) then y2 else (y4 - x1))) >>= fun S5 =>
  some (r3.1, S5)
/- java/util/Arrays copyOfRange([BII)[B -/
def C_J12_copyOfRange_10 (F : Nat) (x0 : Nat) (x1 : Int32) (x2 : Int32) (S : St) : Option (Nat × St) :=
  (C_J12_copyOfRangeByte F S x0 x1 x2) >>= fun r2 =>
  some (r2.1, r2.2)
def C_J12_copyOfRange (F : Nat) (S : St) (x0 : Nat) (x1 : Int32) (x2 : Int32) : Option (Nat × St) :=
  if x1 = 0 then (
  (aN S 2 x0) >>= fun y1 =>
  if x2 = y1 then (
  none)
  else (
  C_J12_copyOfRange_10 F x0 x1 x2 S))
  else (
  C_J12_copyOfRange_10 F x0 x1 x2 S)
/- java/util/Arrays rangeCheck(III)V -/
def C_J12_rangeCheck (F : Nat) (S : St) (x0 : Int32) (x1 : Int32) (x2 : Int32) : Option St :=
  if x1 ≤ x2 then (
  if 0 ≤ x1 then (
  if x2 ≤ x0 then (
  some S)
  else (
  none))
  else (
  none))
  else (
  none)
/- java/util/Arrays fill([BIIB)V -/
def C_J12_fill_10 (F : Nat) (x0 : Nat) (x2 : Int32) (x3 : Int32) : Nat → Int32 → St → Option St
  | 0, _, _ => none
  | n + 1, x4, S =>
    if x2 ≤ x4 then (
    some S)
    else (
    (tI S 2 x0 x4 (vp_nar .byte x3)) >>= fun S3 =>
    (some (x4 + 1)) >>= fun y4 =>
    C_J12_fill_10 F x0 x2 x3 n y4 S3)
def C_J12_fill (F : Nat) (S : St) (x0 : Nat) (x1 : Int32) (x2 : Int32) (x3 : Int32) : Option St :=
  (aN S 2 x0) >>= fun y1 =>
  (C_J12_rangeCheck F S y1 x1 x2) >>= fun r2 =>
  C_J12_fill_10 F x0 x2 x3 F x1 r2
/- java/util/Arrays copyOf([JI)[J -/
def C_J12_copyOf_2 (S : St) (x0 : Nat) (x1 : Int32) : Option (Nat × St) :=
  (aN S 1 x0) >>= fun y1 =>
  if x1 = y1 then (
  none)
  else (
  (nJ_ S 1 x1) >>= fun r2 =>
  (aN r2.2 1 x0) >>= fun y3 =>
  (cJ_ r2.2 1 x0 (r2.1) 0 0 (if x1 < y3 then x1 else y3)) >>= fun S4 =>
  some (r2.1, S4))
/- java/util/Arrays copyOf([Ljava/lang/Object;ILjava/lang/Class;)[Ljava/lang/Object; -/
def C_J12_copyOf_4 (S : St) (x0 : Nat) (x1 : Int32) (x2 : Nat) : Option (Nat × St) :=
  none
/- java/util/Arrays copyOf([Ljava/lang/Object;I)[Ljava/lang/Object; -/
def C_J12_copyOf_3 (S : St) (x0 : Nat) (x1 : Int32) : Option (Nat × St) :=
  none
/- java/util/AbstractList <init>()V -/
def C_J15_init (S : St) (x0 : Nat) : Option St :=
  (C_J1_init x0) >>= fun r1 =>
  (gP S 13 x0 0 (.int 0)) >>= fun S2 =>
  some S2
/- java/util/LinkedList isPositionIndex(I)Z -/
def C_J17_isPositionIndex (S : St) (x0 : Nat) (x1 : Int32) : Option Int32 :=
  (gO S 13 x0) >>= fun _ =>
  if x1 < 0 then (
  some 0)
  else (
  (gI S 13 x0 1) >>= fun y1 =>
  if y1 < x1 then (
  some 0)
  else (
  some 1))
theorem rc_J17_isPositionIndex {S : St} {x0 : Nat} {x1 : Int32} {r : Int32} (h : C_J17_isPositionIndex S x0 x1 = some r) : ∃ fs, gO S 13 x0 = some fs := by
  unfold C_J17_isPositionIndex at h
  obtain ⟨fs, h1, -⟩ := ob h
  exact ⟨fs, h1⟩
/- java/util/LinkedList outOfBoundsMsg(I)Ljava/lang/String; -/
def C_J17_outOfBoundsMsg (F : Nat) (S : St) (x0 : Nat) (x1 : Int32) : Option (Nat × St) :=
  (gO S 13 x0) >>= fun _ =>
  (some (nO S 12 df_12 4)) >>= fun r1 =>
  (C_J4_init r1.2 (r1.1)) >>= fun r2 =>
  none
theorem rc_J17_outOfBoundsMsg {F : Nat} {S : St} {x0 : Nat} {x1 : Int32} {r : Nat × St} (h : C_J17_outOfBoundsMsg F S x0 x1 = some r) : ∃ fs, gO S 13 x0 = some fs := by
  unfold C_J17_outOfBoundsMsg at h
  obtain ⟨fs, h1, -⟩ := ob h
  exact ⟨fs, h1⟩
/- java/util/LinkedList checkPositionIndex(I)V -/
def C_J17_checkPositionIndex (F : Nat) (S : St) (x0 : Nat) (x1 : Int32) : Option St :=
  (gO S 13 x0) >>= fun _ =>
  (C_J17_isPositionIndex S x0 x1) >>= fun r1 =>
  if r1 = 0 then (
  none)
  else (
  some S)
theorem rc_J17_checkPositionIndex {F : Nat} {S : St} {x0 : Nat} {x1 : Int32} {r : St} (h : C_J17_checkPositionIndex F S x0 x1 = some r) : ∃ fs, gO S 13 x0 = some fs := by
  unfold C_J17_checkPositionIndex at h
  obtain ⟨fs, h1, -⟩ := ob h
  exact ⟨fs, h1⟩
/- java/util/LinkedList node(I)Ljava/util/LinkedList$Node; -/
def C_J17_node_17 (F : Nat) (S : St) (x1 : Int32) : Nat → (Option Nat) → Int32 → Option Nat
  | 0, _, _ => none
  | n + 1, x2, x3 =>
    if x1 ≤ x3 then (
    x2 >>= fun a10 =>
    some a10)
    else (
    x2 >>= fun a11 =>
    (gQ S 14 a11 1) >>= fun y12 =>
    (some (x3 + 1)) >>= fun y13 =>
    C_J17_node_17 F S x1 n y12 y13)
def C_J17_node_47 (F : Nat) (S : St) (x1 : Int32) : Nat → (Option Nat) → Int32 → Option Nat
  | 0, _, _ => none
  | n + 1, x2, x3 =>
    if x3 ≤ x1 then (
    x2 >>= fun a6 =>
    some a6)
    else (
    x2 >>= fun a7 =>
    (gQ S 14 a7 2) >>= fun y8 =>
    (some (x3 + (-1))) >>= fun y9 =>
    C_J17_node_47 F S x1 n y8 y9)
def C_J17_node (F : Nat) (S : St) (x0 : Nat) (x1 : Int32) : Option Nat :=
  (gO S 13 x0) >>= fun _ =>
  (gI S 13 x0 1) >>= fun y1 =>
  if y1 >>> (1 &&& 31) ≤ x1 then (
  (gQ S 13 x0 3) >>= fun y2 =>
  (gI S 13 x0 1) >>= fun y3 =>
  (some (y3 - 1)) >>= fun y4 =>
  C_J17_node_47 F S x1 F y2 y4)
  else (
  (gQ S 13 x0 2) >>= fun y5 =>
  C_J17_node_17 F S x1 F y5 0)
theorem rc_J17_node {F : Nat} {S : St} {x0 : Nat} {x1 : Int32} {r : Nat} (h : C_J17_node F S x0 x1 = some r) : ∃ fs, gO S 13 x0 = some fs := by
  unfold C_J17_node at h
  obtain ⟨fs, h1, -⟩ := ob h
  exact ⟨fs, h1⟩
/- java/util/LinkedList$ListItr <init>(Ljava/util/LinkedList;I)V -/
def C_J24_init_38 (F : Nat) (x0 : Nat) (x2 : Int32) (s0 : Nat) (s1 : (Option Nat)) (S : St) : Option St :=
  (gP S 15 s0 1 (va_rf s1)) >>= fun S7 =>
  (gP S7 15 x0 2 (.int x2)) >>= fun S8 =>
  some S8
def C_J24_init (F : Nat) (S : St) (x0 : Nat) (x1 : Nat) (x2 : Int32) : Option St :=
  (gP S 15 x0 4 (.ref x1)) >>= fun S1 =>
  (gA S1 15 x0 4) >>= fun y2 =>
  (gI S1 13 y2 0) >>= fun y3 =>
  (gP S1 15 x0 3 (.int y3)) >>= fun S4 =>
  (gI S4 13 x1 1) >>= fun y5 =>
  if x2 = y5 then (
  C_J24_init_38 F x0 x2 x0 none S4)
  else (
  (C_J17_node F S4 x1 x2) >>= fun r6 =>
  C_J24_init_38 F x0 x2 x0 (some r6) S4)
/- java/util/LinkedList listIterator(I)Ljava/util/ListIterator; -/
def C_J17_listIterator (F : Nat) (S : St) (x0 : Nat) (x1 : Int32) : Option (Nat × St) :=
  (gO S 13 x0) >>= fun _ =>
  (C_J17_checkPositionIndex F S x0 x1) >>= fun r1 =>
  (some (nO r1 15 df_15 5)) >>= fun r2 =>
  (C_J24_init F r2.2 (r2.1) x0 x1) >>= fun r3 =>
  some (r2.1, r3)
theorem rc_J17_listIterator {F : Nat} {S : St} {x0 : Nat} {x1 : Int32} {r : Nat × St} (h : C_J17_listIterator F S x0 x1 = some r) : ∃ fs, gO S 13 x0 = some fs := by
  unfold C_J17_listIterator at h
  obtain ⟨fs, h1, -⟩ := ob h
  exact ⟨fs, h1⟩
/- java/util/AbstractList listIterator()Ljava/util/ListIterator; -/
def C_J15_listIterator (F : Nat) (S : St) (x0 : Nat) : Option (Nat × St) :=
  (gO S 13 x0) >>= fun _ =>
  (C_J17_listIterator F S x0 0) >>= fun r1 =>
  some (r1.1, r1.2)
theorem rc_J15_listIterator {F : Nat} {S : St} {x0 : Nat} {r : Nat × St} (h : C_J15_listIterator F S x0 = some r) : ∃ fs, gO S 13 x0 = some fs := by
  unfold C_J15_listIterator at h
  obtain ⟨fs, h1, -⟩ := ob h
  exact ⟨fs, h1⟩
/- java/util/AbstractSequentialList <init>()V -/
def C_J16_init (S : St) (x0 : Nat) : Option St :=
  (C_J15_init S x0) >>= fun r1 =>
  some r1
/- java/util/AbstractSequentialList iterator()Ljava/util/Iterator; -/
def C_J16_iterator (F : Nat) (S : St) (x0 : Nat) : Option (Nat × St) :=
  (gO S 13 x0) >>= fun _ =>
  (C_J15_listIterator F S x0) >>= fun r1 =>
  some (r1.1, r1.2)
theorem rc_J16_iterator {F : Nat} {S : St} {x0 : Nat} {r : Nat × St} (h : C_J16_iterator F S x0 = some r) : ∃ fs, gO S 13 x0 = some fs := by
  unfold C_J16_iterator at h
  obtain ⟨fs, h1, -⟩ := ob h
  exact ⟨fs, h1⟩
/- java/util/LinkedList <init>()V -/
def C_J17_init (S : St) (x0 : Nat) : Option St :=
  (C_J16_init S x0) >>= fun r1 =>
  (gP r1 13 x0 1 (.int 0)) >>= fun S2 =>
  some S2
/- java/util/LinkedList$Node <init>(Ljava/util/LinkedList$Node;Ljava/lang/Object;Ljava/util/LinkedList$Node;)V -/
def C_J18_init (S : St) (x0 : Nat) (x1 : Option Nat) (x2 : Nat) (x3 : Option Nat) : Option St :=
  (gP S 14 x0 0 (.ref x2)) >>= fun S1 =>
  (gP S1 14 x0 1 (va_rf x3)) >>= fun S2 =>
  (gP S2 14 x0 2 (va_rf x1)) >>= fun S3 =>
  some S3
/- java/util/LinkedList linkLast(Ljava/lang/Object;)V -/
def C_J17_linkLast_38 (x0 : Nat) (S : St) : Option St :=
  (gI S 13 x0 1) >>= fun y8 =>
  (gP S 13 x0 1 (.int (y8 + 1))) >>= fun S9 =>
  (gI S9 13 x0 0) >>= fun y10 =>
  (gP S9 13 x0 0 (.int (y10 + 1))) >>= fun S11 =>
  some S11
def C_J17_linkLast (S : St) (x0 : Nat) (x1 : Nat) : Option St :=
  (gO S 13 x0) >>= fun _ =>
  (gQ S 13 x0 3) >>= fun y1 =>
  (some (nO S 14 df_14 3)) >>= fun r2 =>
  (C_J18_init r2.2 (r2.1) y1 x1 none) >>= fun r3 =>
  (gP r3 13 x0 3 (.ref (r2.1))) >>= fun S4 =>
  if y1 = none then (
  (gP S4 13 x0 2 (.ref (r2.1))) >>= fun S5 =>
  C_J17_linkLast_38 x0 S5)
  else (
  y1 >>= fun a6 =>
  (gP S4 14 a6 1 (.ref (r2.1))) >>= fun S7 =>
  C_J17_linkLast_38 x0 S7)
theorem rc_J17_linkLast {S : St} {x0 : Nat} {x1 : Nat} {r : St} (h : C_J17_linkLast S x0 x1 = some r) : ∃ fs, gO S 13 x0 = some fs := by
  unfold C_J17_linkLast at h
  obtain ⟨fs, h1, -⟩ := ob h
  exact ⟨fs, h1⟩
/- java/util/LinkedList add(Ljava/lang/Object;)Z -/
def C_J17_add (S : St) (x0 : Nat) (x1 : Nat) : Option (Int32 × St) :=
  (gO S 13 x0) >>= fun _ =>
  (C_J17_linkLast S x0 x1) >>= fun r1 =>
  some (1, r1)
theorem rc_J17_add {S : St} {x0 : Nat} {x1 : Nat} {r : Int32 × St} (h : C_J17_add S x0 x1 = some r) : ∃ fs, gO S 13 x0 = some fs := by
  unfold C_J17_add at h
  obtain ⟨fs, h1, -⟩ := ob h
  exact ⟨fs, h1⟩
/- java/util/LinkedList size()I -/
def C_J17_size (S : St) (x0 : Nat) : Option Int32 :=
  (gO S 13 x0) >>= fun _ =>
  (gI S 13 x0 1) >>= fun y1 =>
  some y1
theorem rc_J17_size {S : St} {x0 : Nat} {r : Int32} (h : C_J17_size S x0 = some r) : ∃ fs, gO S 13 x0 = some fs := by
  unfold C_J17_size at h
  obtain ⟨fs, h1, -⟩ := ob h
  exact ⟨fs, h1⟩
/- java/util/LinkedList isElementIndex(I)Z -/
def C_J17_isElementIndex (S : St) (x0 : Nat) (x1 : Int32) : Option Int32 :=
  (gO S 13 x0) >>= fun _ =>
  if x1 < 0 then (
  some 0)
  else (
  (gI S 13 x0 1) >>= fun y1 =>
  if y1 ≤ x1 then (
  some 0)
  else (
  some 1))
theorem rc_J17_isElementIndex {S : St} {x0 : Nat} {x1 : Int32} {r : Int32} (h : C_J17_isElementIndex S x0 x1 = some r) : ∃ fs, gO S 13 x0 = some fs := by
  unfold C_J17_isElementIndex at h
  obtain ⟨fs, h1, -⟩ := ob h
  exact ⟨fs, h1⟩
/- java/util/LinkedList checkElementIndex(I)V -/
def C_J17_checkElementIndex (F : Nat) (S : St) (x0 : Nat) (x1 : Int32) : Option St :=
  (gO S 13 x0) >>= fun _ =>
  (C_J17_isElementIndex S x0 x1) >>= fun r1 =>
  if r1 = 0 then (
  none)
  else (
  some S)
theorem rc_J17_checkElementIndex {F : Nat} {S : St} {x0 : Nat} {x1 : Int32} {r : St} (h : C_J17_checkElementIndex F S x0 x1 = some r) : ∃ fs, gO S 13 x0 = some fs := by
  unfold C_J17_checkElementIndex at h
  obtain ⟨fs, h1, -⟩ := ob h
  exact ⟨fs, h1⟩
/- java/util/LinkedList get(I)Ljava/lang/Object; -/
def C_J17_get (F : Nat) (S : St) (x0 : Nat) (x1 : Int32) : Option (Nat × St) :=
  (gO S 13 x0) >>= fun _ =>
  (C_J17_checkElementIndex F S x0 x1) >>= fun r1 =>
  (C_J17_node F r1 x0 x1) >>= fun r2 =>
  (gA r1 14 r2 0) >>= fun y3 =>
  some (y3, r1)
theorem rc_J17_get {F : Nat} {S : St} {x0 : Nat} {x1 : Int32} {r : Nat × St} (h : C_J17_get F S x0 x1 = some r) : ∃ fs, gO S 13 x0 = some fs := by
  unfold C_J17_get at h
  obtain ⟨fs, h1, -⟩ := ob h
  exact ⟨fs, h1⟩
/- java/util/LinkedList unlink(Ljava/util/LinkedList$Node;)Ljava/lang/Object; -/
def C_J17_unlink_64 (x0 : Nat) (x1 : Nat) (x2 : Nat) (S : St) : Option (Nat × St) :=
  (gP S 14 x1 0 (va_rf none)) >>= fun S12 =>
  (gI S12 13 x0 1) >>= fun y13 =>
  (gP S12 13 x0 1 (.int (y13 - 1))) >>= fun S14 =>
  (gI S14 13 x0 0) >>= fun y15 =>
  (gP S14 13 x0 0 (.int (y15 + 1))) >>= fun S16 =>
  some (x2, S16)
def C_J17_unlink_40 (x0 : Nat) (x1 : Nat) (x2 : Nat) (x3 : Option Nat) (x4 : Option Nat) (S : St) : Option (Nat × St) :=
  if x3 = none then (
  (gP S 13 x0 3 (va_rf x4)) >>= fun S8 =>
  C_J17_unlink_64 x0 x1 x2 S8)
  else (
  x3 >>= fun a9 =>
  (gP S 14 a9 2 (va_rf x4)) >>= fun S10 =>
  (gP S10 14 x1 1 (va_rf none)) >>= fun S11 =>
  C_J17_unlink_64 x0 x1 x2 S11)
def C_J17_unlink (S : St) (x0 : Nat) (x1 : Nat) : Option (Nat × St) :=
  (gO S 13 x0) >>= fun _ =>
  (gA S 14 x1 0) >>= fun y1 =>
  (gQ S 14 x1 1) >>= fun y2 =>
  (gQ S 14 x1 2) >>= fun y3 =>
  if y3 = none then (
  (gP S 13 x0 2 (va_rf y2)) >>= fun S4 =>
  C_J17_unlink_40 x0 x1 y1 y2 y3 S4)
  else (
  y3 >>= fun a5 =>
  (gP S 14 a5 1 (va_rf y2)) >>= fun S6 =>
  (gP S6 14 x1 2 (va_rf none)) >>= fun S7 =>
  C_J17_unlink_40 x0 x1 y1 y2 (some a5) S7)
theorem rc_J17_unlink {S : St} {x0 : Nat} {x1 : Nat} {r : Nat × St} (h : C_J17_unlink S x0 x1 = some r) : ∃ fs, gO S 13 x0 = some fs := by
  unfold C_J17_unlink at h
  obtain ⟨fs, h1, -⟩ := ob h
  exact ⟨fs, h1⟩
/- java/util/LinkedList remove(I)Ljava/lang/Object; -/
def C_J17_remove (F : Nat) (S : St) (x0 : Nat) (x1 : Int32) : Option (Nat × St) :=
  (gO S 13 x0) >>= fun _ =>
  (C_J17_checkElementIndex F S x0 x1) >>= fun r1 =>
  (C_J17_node F r1 x0 x1) >>= fun r2 =>
  (C_J17_unlink r1 x0 r2) >>= fun r3 =>
  some (r3.1, r3.2)
theorem rc_J17_remove {F : Nat} {S : St} {x0 : Nat} {x1 : Int32} {r : Nat × St} (h : C_J17_remove F S x0 x1 = some r) : ∃ fs, gO S 13 x0 = some fs := by
  unfold C_J17_remove at h
  obtain ⟨fs, h1, -⟩ := ob h
  exact ⟨fs, h1⟩
/- java/util/LinkedList unlinkFirst(Ljava/util/LinkedList$Node;)Ljava/lang/Object; -/
def C_J17_unlinkFirst_42 (x0 : Nat) (x2 : Nat) (S : St) : Option (Nat × St) :=
  (gI S 13 x0 1) >>= fun y9 =>
  (gP S 13 x0 1 (.int (y9 - 1))) >>= fun S10 =>
  (gI S10 13 x0 0) >>= fun y11 =>
  (gP S10 13 x0 0 (.int (y11 + 1))) >>= fun S12 =>
  some (x2, S12)
def C_J17_unlinkFirst (S : St) (x0 : Nat) (x1 : Nat) : Option (Nat × St) :=
  (gO S 13 x0) >>= fun _ =>
  (gA S 14 x1 0) >>= fun y1 =>
  (gQ S 14 x1 1) >>= fun y2 =>
  (gP S 14 x1 0 (va_rf none)) >>= fun S3 =>
  (gP S3 14 x1 1 (va_rf none)) >>= fun S4 =>
  (gP S4 13 x0 2 (va_rf y2)) >>= fun S5 =>
  if y2 = none then (
  (gP S5 13 x0 3 (va_rf none)) >>= fun S6 =>
  C_J17_unlinkFirst_42 x0 y1 S6)
  else (
  y2 >>= fun a7 =>
  (gP S5 14 a7 2 (va_rf none)) >>= fun S8 =>
  C_J17_unlinkFirst_42 x0 y1 S8)
theorem rc_J17_unlinkFirst {S : St} {x0 : Nat} {x1 : Nat} {r : Nat × St} (h : C_J17_unlinkFirst S x0 x1 = some r) : ∃ fs, gO S 13 x0 = some fs := by
  unfold C_J17_unlinkFirst at h
  obtain ⟨fs, h1, -⟩ := ob h
  exact ⟨fs, h1⟩
/- java/util/LinkedList removeFirst()Ljava/lang/Object; -/
def C_J17_removeFirst (S : St) (x0 : Nat) : Option (Nat × St) :=
  (gO S 13 x0) >>= fun _ =>
  (gQ S 13 x0 2) >>= fun y1 =>
  if y1 = none then (
  none)
  else (
  y1 >>= fun a2 =>
  (C_J17_unlinkFirst S x0 a2) >>= fun r3 =>
  some (r3.1, r3.2))
theorem rc_J17_removeFirst {S : St} {x0 : Nat} {r : Nat × St} (h : C_J17_removeFirst S x0 = some r) : ∃ fs, gO S 13 x0 = some fs := by
  unfold C_J17_removeFirst at h
  obtain ⟨fs, h1, -⟩ := ob h
  exact ⟨fs, h1⟩
/- java/util/ArrayDeque <init>()V -/
def C_J2_init (S : St) (x0 : Nat) : Option St :=
  (C_J1_init x0) >>= fun r1 =>
  (nQ_ S 6 17) >>= fun r2 =>
  (gP r2.2 11 x0 0 (.ref (r2.1))) >>= fun S3 =>
  some S3
/- java/util/ArrayDeque sub(III)I -/
def C_J2_sub (x0 : Int32) (x1 : Int32) (x2 : Int32) : Option Int32 :=
  (some (x0 - x1)) >>= fun y1 =>
  if 0 ≤ y1 then (
  some y1)
  else (
  (some (y1 + x2)) >>= fun y2 =>
  some y2)
/- java/util/ArrayDeque size()I -/
def C_J2_size (S : St) (x0 : Nat) : Option Int32 :=
  (gO S 11 x0) >>= fun _ =>
  (gI S 11 x0 2) >>= fun y1 =>
  (gI S 11 x0 1) >>= fun y2 =>
  (gA S 11 x0 0) >>= fun y3 =>
  (aN S 6 y3) >>= fun y4 =>
  (C_J2_sub y1 y2 y4) >>= fun r5 =>
  some r5
theorem rc_J2_size {S : St} {x0 : Nat} {r : Int32} (h : C_J2_size S x0 = some r) : ∃ fs, gO S 11 x0 = some fs := by
  unfold C_J2_size at h
  obtain ⟨fs, h1, -⟩ := ob h
  exact ⟨fs, h1⟩
/- java/util/ArrayDeque elementAt([Ljava/lang/Object;I)Ljava/lang/Object; -/
def C_J2_elementAt (S : St) (x0 : Nat) (x1 : Int32) : Option (Option Nat) :=
  (lQ S 6 x0 x1) >>= fun y1 =>
  some y1
/- java/util/ArrayDeque inc(II)I -/
def C_J2_inc (x0 : Int32) (x1 : Int32) : Option Int32 :=
  (some (x0 + 1)) >>= fun y1 =>
  if y1 < x1 then (
  some y1)
  else (
  some 0)
/- java/util/ArrayDeque pollFirst()Ljava/lang/Object; -/
def C_J2_pollFirst (S : St) (x0 : Nat) : Option (Option Nat × St) :=
  (gO S 11 x0) >>= fun _ =>
  (gA S 11 x0 0) >>= fun y1 =>
  (gI S 11 x0 1) >>= fun y2 =>
  (C_J2_elementAt S y1 y2) >>= fun r3 =>
  if r3 = none then (
  some (r3, S))
  else (
  (tQ S 6 y1 y2 none) >>= fun S4 =>
  (aN S4 6 y1) >>= fun y5 =>
  (C_J2_inc y2 y5) >>= fun r6 =>
  (gP S4 11 x0 1 (.int r6)) >>= fun S7 =>
  some (r3, S7))
theorem rc_J2_pollFirst {S : St} {x0 : Nat} {r : Option Nat × St} (h : C_J2_pollFirst S x0 = some r) : ∃ fs, gO S 11 x0 = some fs := by
  unfold C_J2_pollFirst at h
  obtain ⟨fs, h1, -⟩ := ob h
  exact ⟨fs, h1⟩
/- java/util/ArrayDeque removeFirst()Ljava/lang/Object; -/
def C_J2_removeFirst (S : St) (x0 : Nat) : Option (Nat × St) :=
  (gO S 11 x0) >>= fun _ =>
  (C_J2_pollFirst S x0) >>= fun r1 =>
  (some (r1.1)) >>= fun y2 =>
  if y2 = none then (
  none)
  else (
  y2 >>= fun a3 =>
  some (a3, r1.2))
theorem rc_J2_removeFirst {S : St} {x0 : Nat} {r : Nat × St} (h : C_J2_removeFirst S x0 = some r) : ∃ fs, gO S 11 x0 = some fs := by
  unfold C_J2_removeFirst at h
  obtain ⟨fs, h1, -⟩ := ob h
  exact ⟨fs, h1⟩
/- java/util/ArrayDeque newCapacity(II)I -/
def C_J2_newCapacity (S : St) (x0 : Nat) (x1 : Int32) (x2 : Int32) : Option Int32 :=
  (gO S 11 x0) >>= fun _ =>
  (gA S 11 x0 0) >>= fun y1 =>
  (aN S 6 y1) >>= fun y2 =>
  (some (y2 + x1)) >>= fun y3 =>
  if y3 - 2147483639 ≤ 0 then (
  if x1 ≤ x2 then (
  if 0 ≤ (y2 + x2) - 2147483639 then (
  some 2147483639)
  else (
  some (y2 + x2)))
  else (
  some y3))
  else (
  if 0 ≤ y3 then (
  some 2147483647)
  else (
  none))
theorem rc_J2_newCapacity {S : St} {x0 : Nat} {x1 : Int32} {x2 : Int32} {r : Int32} (h : C_J2_newCapacity S x0 x1 x2 = some r) : ∃ fs, gO S 11 x0 = some fs := by
  unfold C_J2_newCapacity at h
  obtain ⟨fs, h1, -⟩ := ob h
  exact ⟨fs, h1⟩
/- java/util/ArrayDeque grow(I)V -/
def C_J2_grow_96 (F : Nat) (x0 : Nat) (x2 : Int32) (x3 : Int32) (x5 : Nat) (S : St) : Option St :=
  (some (x3 - x2)) >>= fun y14 =>
  (gI S 11 x0 1) >>= fun y15 =>
  (gI S 11 x0 1) >>= fun y16 =>
  (gI S 11 x0 1) >>= fun y17 =>
  none
def C_J2_grow_49 (F : Nat) (x0 : Nat) (x2 : Int32) (x3 : Int32) (S : St) : Option St :=
  (gA S 11 x0 0) >>= fun y5 =>
  (C_J12_copyOf_3 S y5 x3) >>= fun r6 =>
  (gP r6.2 11 x0 0 (.ref (r6.1))) >>= fun S7 =>
  (gI S7 11 x0 2) >>= fun y8 =>
  (gI S7 11 x0 1) >>= fun y9 =>
  if y8 < y9 then (
  C_J2_grow_96 F x0 x2 x3 (r6.1) S7)
  else (
  (gI S7 11 x0 2) >>= fun y10 =>
  (gI S7 11 x0 1) >>= fun y11 =>
  if y10 = y11 then (
  (gI S7 11 x0 1) >>= fun y12 =>
  (lQ S7 6 (r6.1) y12) >>= fun y13 =>
  if y13 = none then (
  some S7)
  else (
  C_J2_grow_96 F x0 x2 x3 (r6.1) S7))
  else (
  some S7))
def C_J2_grow_41 (F : Nat) (x0 : Nat) (x1 : Int32) (x2 : Int32) (x4 : Int32) (S : St) : Option St :=
  (C_J2_newCapacity S x0 x1 x4) >>= fun r4 =>
  C_J2_grow_49 F x0 x2 r4 S
def C_J2_grow_21 (F : Nat) (x0 : Nat) (x1 : Int32) (x2 : Int32) (s0 : Int32) (S : St) : Option St :=
  if s0 < x1 then (
  C_J2_grow_41 F x0 x1 x2 s0 S)
  else (
  (some (x2 + s0)) >>= fun y3 =>
  if y3 - 2147483639 ≤ 0 then (
  C_J2_grow_49 F x0 x2 y3 S)
  else (
  C_J2_grow_41 F x0 x1 x2 s0 S))
def C_J2_grow (F : Nat) (S : St) (x0 : Nat) (x1 : Int32) : Option St :=
  (gO S 11 x0) >>= fun _ =>
  (gA S 11 x0 0) >>= fun y1 =>
  (aN S 6 y1) >>= fun y2 =>
  if 64 ≤ y2 then (
  C_J2_grow_21 F x0 x1 y2 (y2 >>> (1 &&& 31)) S)
  else (
  C_J2_grow_21 F x0 x1 y2 (y2 + 2) S)
theorem rc_J2_grow {F : Nat} {S : St} {x0 : Nat} {x1 : Int32} {r : St} (h : C_J2_grow F S x0 x1 = some r) : ∃ fs, gO S 11 x0 = some fs := by
  unfold C_J2_grow at h
  obtain ⟨fs, h1, -⟩ := ob h
  exact ⟨fs, h1⟩
/- java/util/ArrayDeque addLast(Ljava/lang/Object;)V -/
def C_J2_addLast (F : Nat) (S : St) (x0 : Nat) (x1 : Nat) : Option St :=
  (gO S 11 x0) >>= fun _ =>
  (gA S 11 x0 0) >>= fun y1 =>
  (gI S 11 x0 2) >>= fun y2 =>
  (tA S 6 y1 y2 2 x1) >>= fun S3 =>
  (gI S3 11 x0 1) >>= fun y4 =>
  (gI S3 11 x0 2) >>= fun y5 =>
  (aN S3 6 y1) >>= fun y6 =>
  (C_J2_inc y5 y6) >>= fun r7 =>
  (gP S3 11 x0 2 (.int r7)) >>= fun S8 =>
  if y4 = r7 then (
  (C_J2_grow F S8 x0 1) >>= fun r9 =>
  some r9)
  else (
  some S8)
theorem rc_J2_addLast {F : Nat} {S : St} {x0 : Nat} {x1 : Nat} {r : St} (h : C_J2_addLast F S x0 x1 = some r) : ∃ fs, gO S 11 x0 = some fs := by
  unfold C_J2_addLast at h
  obtain ⟨fs, h1, -⟩ := ob h
  exact ⟨fs, h1⟩
/- java/util/ArrayDeque isEmpty()Z -/
def C_J2_isEmpty (S : St) (x0 : Nat) : Option Int32 :=
  (gO S 11 x0) >>= fun _ =>
  (gI S 11 x0 1) >>= fun y1 =>
  (gI S 11 x0 2) >>= fun y2 =>
  if y1 = y2 then (
  some 1)
  else (
  some 0)
theorem rc_J2_isEmpty {S : St} {x0 : Nat} {r : Int32} (h : C_J2_isEmpty S x0 = some r) : ∃ fs, gO S 11 x0 = some fs := by
  unfold C_J2_isEmpty at h
  obtain ⟨fs, h1, -⟩ := ob h
  exact ⟨fs, h1⟩
/- java/util/ArrayDeque dec(II)I -/
def C_J2_dec (x0 : Int32) (x1 : Int32) : Option Int32 :=
  (some (x0 + (-1))) >>= fun y1 =>
  if 0 ≤ y1 then (
  some y1)
  else (
  (some (x1 - 1)) >>= fun y2 =>
  some y2)
/- java/util/ArrayDeque pollLast()Ljava/lang/Object; -/
def C_J2_pollLast (S : St) (x0 : Nat) : Option (Option Nat × St) :=
  (gO S 11 x0) >>= fun _ =>
  (gA S 11 x0 0) >>= fun y1 =>
  (gI S 11 x0 2) >>= fun y2 =>
  (aN S 6 y1) >>= fun y3 =>
  (C_J2_dec y2 y3) >>= fun r4 =>
  (C_J2_elementAt S y1 r4) >>= fun r5 =>
  if r5 = none then (
  some (r5, S))
  else (
  (gP S 11 x0 2 (.int r4)) >>= fun S6 =>
  (tQ S6 6 y1 r4 none) >>= fun S7 =>
  some (r5, S7))
theorem rc_J2_pollLast {S : St} {x0 : Nat} {r : Option Nat × St} (h : C_J2_pollLast S x0 = some r) : ∃ fs, gO S 11 x0 = some fs := by
  unfold C_J2_pollLast at h
  obtain ⟨fs, h1, -⟩ := ob h
  exact ⟨fs, h1⟩
/- java/util/ArrayDeque removeLast()Ljava/lang/Object; -/
def C_J2_removeLast (S : St) (x0 : Nat) : Option (Nat × St) :=
  (gO S 11 x0) >>= fun _ =>
  (C_J2_pollLast S x0) >>= fun r1 =>
  (some (r1.1)) >>= fun y2 =>
  if y2 = none then (
  none)
  else (
  y2 >>= fun a3 =>
  some (a3, r1.2))
theorem rc_J2_removeLast {S : St} {x0 : Nat} {r : Nat × St} (h : C_J2_removeLast S x0 = some r) : ∃ fs, gO S 11 x0 = some fs := by
  unfold C_J2_removeLast at h
  obtain ⟨fs, h1, -⟩ := ob h
  exact ⟨fs, h1⟩
/- jdk/internal/util/Preconditions checkFromToIndex(IIILjava/util/function/BiFunction;)I -/
def C_J20_checkFromToIndex_14 (x0 : Int32) (x1 : Int32) (x2 : Int32) (x3 : Nat) : Option Int32 :=
  none
def C_J20_checkFromToIndex (x0 : Int32) (x1 : Int32) (x2 : Int32) (x3 : Nat) : Option Int32 :=
  if x0 < 0 then (
  C_J20_checkFromToIndex_14 x0 x1 x2 x3)
  else (
  if x1 < x0 then (
  C_J20_checkFromToIndex_14 x0 x1 x2 x3)
  else (
  if x1 ≤ x2 then (
  some x0)
  else (
  C_J20_checkFromToIndex_14 x0 x1 x2 x3)))
/- jdk/internal/util/Preconditions checkFromIndexSize(IIILjava/util/function/BiFunction;)I -/
def C_J20_checkFromIndexSize_15 (x0 : Int32) (x1 : Int32) (x2 : Int32) (x3 : Nat) : Option Int32 :=
  none
def C_J20_checkFromIndexSize (x0 : Int32) (x1 : Int32) (x2 : Int32) (x3 : Nat) : Option Int32 :=
  if (x2 ||| x0) ||| x1 < 0 then (
  C_J20_checkFromIndexSize_15 x0 x1 x2 x3)
  else (
  if x1 ≤ x2 - x0 then (
  some x0)
  else (
  C_J20_checkFromIndexSize_15 x0 x1 x2 x3))
/- jdk/internal/util/Preconditions checkIndex(IILjava/util/function/BiFunction;)I -/
def C_J20_checkIndex_9 (x0 : Int32) (x1 : Int32) (x2 : Nat) : Option Int32 :=
  none
def C_J20_checkIndex (x0 : Int32) (x1 : Int32) (x2 : Nat) : Option Int32 :=
  if x0 < 0 then (
  C_J20_checkIndex_9 x0 x1 x2)
  else (
  if x0 < x1 then (
  some x0)
  else (
  C_J20_checkIndex_9 x0 x1 x2))
/- java/lang/StringLatin1 fillNull([BII)V -/
def C_J21_fillNull (F : Nat) (S : St) (x0 : Nat) (x1 : Int32) (x2 : Int32) : Option St :=
  (C_J12_fill F S x0 x1 x2 0) >>= fun r1 =>
  some r1
/- java/lang/String checkIndex(II)V -/
def C_J5_checkIndex (ek : Nat → Nat) (x0 : Int32) (x1 : Int32) : Option Unit :=
  (C_J20_checkIndex x0 x1 (ek 4)) >>= fun r1 =>
  some ()
/- java/lang/StringLatin1 charAt([BI)C -/
def C_J21_charAt (ek : Nat → Nat) (S : St) (x0 : Nat) (x1 : Int32) : Option Int32 :=
  (aN S 2 x0) >>= fun y1 =>
  (C_J5_checkIndex ek x1 y1) >>= fun r2 =>
  (lI S 2 x0 x1) >>= fun y3 =>
  (zc (((y3 &&& 255).toUInt32 % 65536).toInt32)) >>= fun b4 => some b4
/- java/lang/StringLatin1 canEncode(C)Z -/
def C_J21_canEncode (x0 : Int32) : Option Int32 :=
  if 255 < x0 then (
  some 0)
  else (
  some 1)
/- java/lang/Integer numberOfTrailingZeros(I)I -/
def C_J22_numberOfTrailingZeros_74 (x0 : Int32) (x1 : Int32) : Option Int32 :=
  some (x1 + ((((x0) : Int32).toUInt32 >>> (((1) : Int32).toUInt32 &&& Int32.toUInt32 31)).toInt32))
def C_J22_numberOfTrailingZeros_62 (x0 : Int32) (x1 : Int32) : Option Int32 :=
  if x0 ≤ 4 then (
  C_J22_numberOfTrailingZeros_74 x0 x1)
  else (
  (some (x1 + 2)) >>= fun y8 =>
  (some ((((x0) : Int32).toUInt32 >>> (((2) : Int32).toUInt32 &&& Int32.toUInt32 31)).toInt32)) >>= fun y9 =>
  C_J22_numberOfTrailingZeros_74 y9 y8)
def C_J22_numberOfTrailingZeros_49 (x0 : Int32) (x1 : Int32) : Option Int32 :=
  if x0 ≤ 16 then (
  C_J22_numberOfTrailingZeros_62 x0 x1)
  else (
  (some (x1 + 4)) >>= fun y6 =>
  (some ((((x0) : Int32).toUInt32 >>> (((4) : Int32).toUInt32 &&& Int32.toUInt32 31)).toInt32)) >>= fun y7 =>
  C_J22_numberOfTrailingZeros_62 y7 y6)
def C_J22_numberOfTrailingZeros_34 (x0 : Int32) (x1 : Int32) : Option Int32 :=
  if x0 ≤ 256 then (
  C_J22_numberOfTrailingZeros_49 x0 x1)
  else (
  (some (x1 + 8)) >>= fun y4 =>
  (some ((((x0) : Int32).toUInt32 >>> (((8) : Int32).toUInt32 &&& Int32.toUInt32 31)).toInt32)) >>= fun y5 =>
  C_J22_numberOfTrailingZeros_49 y5 y4)
def C_J22_numberOfTrailingZeros (x0 : Int32) : Option Int32 :=
  (some ((x0 ^^^ (-1)) &&& (x0 - 1))) >>= fun y1 =>
  if 0 < y1 then (
  if y1 ≤ 65536 then (
  C_J22_numberOfTrailingZeros_34 y1 1)
  else (
  (some (1 + 16)) >>= fun y2 =>
  (some ((((y1) : Int32).toUInt32 >>> (((16) : Int32).toUInt32 &&& Int32.toUInt32 31)).toInt32)) >>= fun y3 =>
  C_J22_numberOfTrailingZeros_34 y3 y2))
  else (
  some (y1 &&& 32))
/- java/util/LinkedList$ListItr hasNext()Z -/
def C_J24_hasNext (S : St) (x0 : Nat) : Option Int32 :=
  (gO S 15 x0) >>= fun _ =>
  (gI S 15 x0 2) >>= fun y1 =>
  (gA S 15 x0 4) >>= fun y2 =>
  (gI S 13 y2 1) >>= fun y3 =>
  if y3 ≤ y1 then (
  some 0)
  else (
  some 1)
theorem rc_J24_hasNext {S : St} {x0 : Nat} {r : Int32} (h : C_J24_hasNext S x0 = some r) : ∃ fs, gO S 15 x0 = some fs := by
  unfold C_J24_hasNext at h
  obtain ⟨fs, h1, -⟩ := ob h
  exact ⟨fs, h1⟩
/- java/util/LinkedList$ListItr checkForComodification()V -/
def C_J24_checkForComodification (S : St) (x0 : Nat) : Option Unit :=
  (gO S 15 x0) >>= fun _ =>
  (gA S 15 x0 4) >>= fun y1 =>
  (gI S 13 y1 0) >>= fun y2 =>
  (gI S 15 x0 3) >>= fun y3 =>
  if y2 = y3 then (
  some ())
  else (
  none)
theorem rc_J24_checkForComodification {S : St} {x0 : Nat} {r : Unit} (h : C_J24_checkForComodification S x0 = some r) : ∃ fs, gO S 15 x0 = some fs := by
  unfold C_J24_checkForComodification at h
  obtain ⟨fs, h1, -⟩ := ob h
  exact ⟨fs, h1⟩
/- java/util/LinkedList$ListItr next()Ljava/lang/Object; -/
def C_J24_next (S : St) (x0 : Nat) : Option (Nat × St) :=
  (gO S 15 x0) >>= fun _ =>
  (C_J24_checkForComodification S x0) >>= fun r1 =>
  (C_J24_hasNext S x0) >>= fun r2 =>
  if r2 = 0 then (
  none)
  else (
  (gQ S 15 x0 1) >>= fun y3 =>
  (gP S 15 x0 0 (va_rf y3)) >>= fun S4 =>
  (gQ S4 15 x0 1) >>= fun y5 =>
  y5 >>= fun a6 =>
  (gQ S4 14 a6 1) >>= fun y7 =>
  (gP S4 15 x0 1 (va_rf y7)) >>= fun S8 =>
  (gI S8 15 x0 2) >>= fun y9 =>
  (gP S8 15 x0 2 (.int (y9 + 1))) >>= fun S10 =>
  (gQ S10 15 x0 0) >>= fun y11 =>
  y11 >>= fun a12 =>
  (gA S10 14 a12 0) >>= fun y13 =>
  some (y13, S10))
theorem rc_J24_next {S : St} {x0 : Nat} {r : Nat × St} (h : C_J24_next S x0 = some r) : ∃ fs, gO S 15 x0 = some fs := by
  unfold C_J24_next at h
  obtain ⟨fs, h1, -⟩ := ob h
  exact ⟨fs, h1⟩
/- java/util/LinkedList$ListItr remove()V -/
def C_J24_remove_68 (x0 : Nat) (S : St) : Option St :=
  (gP S 15 x0 0 (va_rf none)) >>= fun S15 =>
  (gI S15 15 x0 3) >>= fun y16 =>
  (gP S15 15 x0 3 (.int (y16 + 1))) >>= fun S17 =>
  some S17
def C_J24_remove (S : St) (x0 : Nat) : Option St :=
  (gO S 15 x0) >>= fun _ =>
  (C_J24_checkForComodification S x0) >>= fun r1 =>
  (gQ S 15 x0 0) >>= fun y2 =>
  if y2 = none then (
  none)
  else (
  (gQ S 15 x0 0) >>= fun y3 =>
  y3 >>= fun a4 =>
  (gQ S 14 a4 1) >>= fun y5 =>
  (gA S 15 x0 4) >>= fun y6 =>
  (gQ S 15 x0 0) >>= fun y7 =>
  y7 >>= fun a8 =>
  (C_J17_unlink S y6 a8) >>= fun r9 =>
  (gQ r9.2 15 x0 1) >>= fun y10 =>
  (gQ r9.2 15 x0 0) >>= fun y11 =>
  if y10 = y11 then (
  (gP r9.2 15 x0 1 (va_rf y5)) >>= fun S12 =>
  C_J24_remove_68 x0 S12)
  else (
  (gI r9.2 15 x0 2) >>= fun y13 =>
  (gP r9.2 15 x0 2 (.int (y13 - 1))) >>= fun S14 =>
  C_J24_remove_68 x0 S14))
theorem rc_J24_remove {S : St} {x0 : Nat} {r : St} (h : C_J24_remove S x0 = some r) : ∃ fs, gO S 15 x0 = some fs := by
  unfold C_J24_remove at h
  obtain ⟨fs, h1, -⟩ := ob h
  exact ⟨fs, h1⟩
/- java/util/BitSet wordIndex(I)I -/
def C_J27_wordIndex (x0 : Int32) : Option Int32 :=
  some (x0 >>> (6 &&& 31))
/- java/util/BitSet initWords(I)V -/
def C_J27_initWords (S : St) (x0 : Nat) (x1 : Int32) : Option St :=
  (gO S 16 x0) >>= fun _ =>
  (C_J27_wordIndex (x1 - 1)) >>= fun r1 =>
  (nJ_ S 1 (r1 + 1)) >>= fun r2 =>
  (gP r2.2 16 x0 0 (.ref (r2.1))) >>= fun S3 =>
  some S3
theorem rc_J27_initWords {S : St} {x0 : Nat} {x1 : Int32} {r : St} (h : C_J27_initWords S x0 x1 = some r) : ∃ fs, gO S 16 x0 = some fs := by
  unfold C_J27_initWords at h
  obtain ⟨fs, h1, -⟩ := ob h
  exact ⟨fs, h1⟩
/- java/util/BitSet <init>()V -/
def C_J27_init (S : St) (x0 : Nat) : Option St :=
  (gP S 16 x0 1 (.int 0)) >>= fun S1 =>
  (gP S1 16 x0 2 (.int 0)) >>= fun S2 =>
  (C_J27_initWords S2 x0 64) >>= fun r3 =>
  (gP r3 16 x0 2 (.int 0)) >>= fun S4 =>
  some S4
/- java/util/BitSet checkInvariants()V -/
def C_J27_checkInvariants_62 (S : St) : Option Unit :=
  none
def C_J27_checkInvariants_70 (S : St) (x0 : Nat) : Option Unit :=
  if (1 : Int32) = 0 then (
  (gI S 16 x0 1) >>= fun y9 =>
  (gA S 16 x0 0) >>= fun y10 =>
  (aN S 1 y10) >>= fun y11 =>
  if y9 = y11 then (
  some ())
  else (
  (gA S 16 x0 0) >>= fun y12 =>
  (gI S 16 x0 1) >>= fun y13 =>
  (lJ S 1 y12 y13) >>= fun y14 =>
  if y14 = 0 then (
  some ())
  else (
  none)))
  else (
  some ())
def C_J27_checkInvariants_37 (S : St) (x0 : Nat) : Option Unit :=
  if (1 : Int32) = 0 then (
  (gI S 16 x0 1) >>= fun y5 =>
  if y5 < 0 then (
  C_J27_checkInvariants_62 S)
  else (
  (gI S 16 x0 1) >>= fun y6 =>
  (gA S 16 x0 0) >>= fun y7 =>
  (aN S 1 y7) >>= fun y8 =>
  if y6 ≤ y8 then (
  C_J27_checkInvariants_70 S x0)
  else (
  C_J27_checkInvariants_62 S)))
  else (
  C_J27_checkInvariants_70 S x0)
def C_J27_checkInvariants (S : St) (x0 : Nat) : Option Unit :=
  (gO S 16 x0) >>= fun _ =>
  if (1 : Int32) = 0 then (
  (gI S 16 x0 1) >>= fun y1 =>
  if y1 = 0 then (
  C_J27_checkInvariants_37 S x0)
  else (
  (gA S 16 x0 0) >>= fun y2 =>
  (gI S 16 x0 1) >>= fun y3 =>
  (lJ S 1 y2 (y3 - 1)) >>= fun y4 =>
  if y4 = 0 then (
  none)
  else (
  C_J27_checkInvariants_37 S x0)))
  else (
  C_J27_checkInvariants_37 S x0)
theorem rc_J27_checkInvariants {S : St} {x0 : Nat} {r : Unit} (h : C_J27_checkInvariants S x0 = some r) : ∃ fs, gO S 16 x0 = some fs := by
  unfold C_J27_checkInvariants at h
  obtain ⟨fs, h1, -⟩ := ob h
  exact ⟨fs, h1⟩
/- java/util/BitSet ensureCapacity(I)V -/
def C_J27_ensureCapacity (S : St) (x0 : Nat) (x1 : Int32) : Option St :=
  (gO S 16 x0) >>= fun _ =>
  (gA S 16 x0 0) >>= fun y1 =>
  (aN S 1 y1) >>= fun y2 =>
  if x1 ≤ y2 then (
  some S)
  else (
  (gA S 16 x0 0) >>= fun y3 =>
  (aN S 1 y3) >>= fun y4 =>
  (some ((if (2 * y4) < x1 then x1 else (2 * y4)))) >>= fun y5 =>
  (gA S 16 x0 0) >>= fun y6 =>
  (C_J12_copyOf_2 S y6 y5) >>= fun r7 =>
  (gP r7.2 16 x0 0 (.ref (r7.1))) >>= fun S8 =>
  (gP S8 16 x0 2 (.int 0)) >>= fun S9 =>
  some S9)
theorem rc_J27_ensureCapacity {S : St} {x0 : Nat} {x1 : Int32} {r : St} (h : C_J27_ensureCapacity S x0 x1 = some r) : ∃ fs, gO S 16 x0 = some fs := by
  unfold C_J27_ensureCapacity at h
  obtain ⟨fs, h1, -⟩ := ob h
  exact ⟨fs, h1⟩
/- java/util/BitSet expandTo(I)V -/
def C_J27_expandTo (S : St) (x0 : Nat) (x1 : Int32) : Option St :=
  (gO S 16 x0) >>= fun _ =>
  (some (x1 + 1)) >>= fun y1 =>
  (gI S 16 x0 1) >>= fun y2 =>
  if y1 ≤ y2 then (
  some S)
  else (
  (C_J27_ensureCapacity S x0 y1) >>= fun r3 =>
  (gP r3 16 x0 1 (.int y1)) >>= fun S4 =>
  some S4)
theorem rc_J27_expandTo {S : St} {x0 : Nat} {x1 : Int32} {r : St} (h : C_J27_expandTo S x0 x1 = some r) : ∃ fs, gO S 16 x0 = some fs := by
  unfold C_J27_expandTo at h
  obtain ⟨fs, h1, -⟩ := ob h
  exact ⟨fs, h1⟩
/- java/util/BitSet set(I)V -/
def C_J27_set (F : Nat) (S : St) (x0 : Nat) (x1 : Int32) : Option St :=
  (gO S 16 x0) >>= fun _ =>
  if 0 ≤ x1 then (
  (C_J27_wordIndex x1) >>= fun r1 =>
  (C_J27_expandTo S x0 r1) >>= fun r2 =>
  (gA r2 16 x0 0) >>= fun y3 =>
  (lJ r2 1 y3 r1) >>= fun y4 =>
  (tJ r2 1 y3 r1 (y4 ||| (((1) : Int64) <<< (((x1) : Int32).toInt64 &&& 63)))) >>= fun S5 =>
  (C_J27_checkInvariants S5 x0) >>= fun r6 =>
  some S5)
  else (
  none)
theorem rc_J27_set {F : Nat} {S : St} {x0 : Nat} {x1 : Int32} {r : St} (h : C_J27_set F S x0 x1 = some r) : ∃ fs, gO S 16 x0 = some fs := by
  unfold C_J27_set at h
  obtain ⟨fs, h1, -⟩ := ob h
  exact ⟨fs, h1⟩
/- java/lang/Long numberOfTrailingZeros(J)I -/
def C_J28_numberOfTrailingZeros (x0 : Int64) : Option Int32 :=
  (some (x0.toInt32)) >>= fun y1 =>
  if y1 = 0 then (
  (C_J22_numberOfTrailingZeros (((x0.toUInt64 >>> (((32) : Int32).toInt64.toUInt64 &&& Int64.toUInt64 63)).toInt64).toInt32)) >>= fun r2 =>
  some (32 + r2))
  else (
  (C_J22_numberOfTrailingZeros y1) >>= fun r3 =>
  some r3)
/- java/util/BitSet nextSetBit(I)I -/
def C_J27_nextSetBit_69 (F : Nat) (x2 : Int32) (x3 : Int64) (S : St) : Option (Int32 × St) :=
  (C_J28_numberOfTrailingZeros x3) >>= fun r11 =>
  some ((x2 * 64) + r11, S)
def C_J27_nextSetBit_63 (F : Nat) (x0 : Nat) : Nat → Int32 → Int64 → St → Option (Int32 × St)
  | 0, _, _, _ => none
  | n + 1, x2, x3, S =>
    if x3 = 0 then (
    (some (x2 + 1)) >>= fun y7 =>
    (gI S 16 x0 1) >>= fun y8 =>
    if y7 = y8 then (
    some ((-1), S))
    else (
    (gA S 16 x0 0) >>= fun y9 =>
    (lJ S 1 y9 y7) >>= fun y10 =>
    C_J27_nextSetBit_63 F x0 n y7 y10 S))
    else (
    C_J27_nextSetBit_69 F x2 x3 S)
def C_J27_nextSetBit (F : Nat) (S : St) (x0 : Nat) (x1 : Int32) : Option (Int32 × St) :=
  (gO S 16 x0) >>= fun _ =>
  if 0 ≤ x1 then (
  (C_J27_checkInvariants S x0) >>= fun r1 =>
  (C_J27_wordIndex x1) >>= fun r2 =>
  (gI S 16 x0 1) >>= fun y3 =>
  if r2 < y3 then (
  (gA S 16 x0 0) >>= fun y4 =>
  (lJ S 1 y4 r2) >>= fun y5 =>
  (some (y5 &&& ((((-1)) : Int64) <<< (((x1) : Int32).toInt64 &&& 63)))) >>= fun y6 =>
  C_J27_nextSetBit_63 F x0 F r2 y6 S)
  else (
  some ((-1), S)))
  else (
  none)
theorem rc_J27_nextSetBit {F : Nat} {S : St} {x0 : Nat} {x1 : Int32} {r : Int32 × St} (h : C_J27_nextSetBit F S x0 x1 = some r) : ∃ fs, gO S 16 x0 = some fs := by
  unfold C_J27_nextSetBit at h
  obtain ⟨fs, h1, -⟩ := ob h
  exact ⟨fs, h1⟩
/- java/lang/AbstractStringBuilder setLength(I)V -/
def C_J3_setLength_76 (F : Nat) (x0 : Nat) (x1 : Int32) (S : St) : Option St :=
  (gP S 12 x0 3 (.int x1)) >>= fun S11 =>
  some S11
def C_J3_setLength (F : Nat) (S : St) (x0 : Nat) (x1 : Int32) : Option St :=
  (gO S 12 x0) >>= fun _ =>
  if 0 ≤ x1 then (
  (C_J3_ensureCapacityInternal S x0 x1) >>= fun r1 =>
  (gI r1 12 x0 3) >>= fun y2 =>
  if x1 ≤ y2 then (
  (gI r1 12 x0 3) >>= fun y3 =>
  if y3 ≤ x1 then (
  C_J3_setLength_76 F x0 x1 r1)
  else (
  (gP r1 12 x0 2 (.int 1)) >>= fun S4 =>
  C_J3_setLength_76 F x0 x1 S4))
  else (
  (C_J3_isLatin1 r1 x0) >>= fun r5 =>
  if r5 = 0 then (
  (gA r1 12 x0 0) >>= fun y6 =>
  (gI r1 12 x0 3) >>= fun y7 =>
  none)
  else (
  (gA r1 12 x0 0) >>= fun y8 =>
  (gI r1 12 x0 3) >>= fun y9 =>
  (C_J21_fillNull F r1 y8 y9 x1) >>= fun r10 =>
  C_J3_setLength_76 F x0 x1 r10)))
  else (
  none)
theorem rc_J3_setLength {F : Nat} {S : St} {x0 : Nat} {x1 : Int32} {r : St} (h : C_J3_setLength F S x0 x1 = some r) : ∃ fs, gO S 12 x0 = some fs := by
  unfold C_J3_setLength at h
  obtain ⟨fs, h1, -⟩ := ob h
  exact ⟨fs, h1⟩
/- java/lang/AbstractStringBuilder charAt(I)C -/
def C_J3_charAt (ek : Nat → Nat) (S : St) (x0 : Nat) (x1 : Int32) : Option Int32 :=
  (gO S 12 x0) >>= fun _ =>
  (gI S 12 x0 1) >>= fun y1 =>
  (gA S 12 x0 0) >>= fun y2 =>
  (gI S 12 x0 3) >>= fun y3 =>
  (aN S 2 y2) >>= fun y4 =>
  (some (y4 >>> (y1 &&& 31))) >>= fun y5 =>
  (some ((if y5 < y3 then y5 else y3))) >>= fun y6 =>
  (C_J5_checkIndex ek x1 y6) >>= fun r7 =>
  if y1 = 0 then (
  (lI S 2 y2 x1) >>= fun y8 =>
  (zc (((y8 &&& 255).toUInt32 % 65536).toInt32)) >>= fun b9 => some b9)
  else (
  none)
theorem rc_J3_charAt {ek : Nat → Nat} {S : St} {x0 : Nat} {x1 : Int32} {r : Int32} (h : C_J3_charAt ek S x0 x1 = some r) : ∃ fs, gO S 12 x0 = some fs := by
  unfold C_J3_charAt at h
  obtain ⟨fs, h1, -⟩ := ob h
  exact ⟨fs, h1⟩
/- java/lang/AbstractStringBuilder append(C)Ljava/lang/AbstractStringBuilder; -/
def C_J3_append_3_56 (x0 : Nat) (x1 : Int32) (S : St) : Option (Nat × St) :=
  (gA S 12 x0 0) >>= fun y11 =>
  (gI S 12 x0 3) >>= fun y12 =>
  (gP S 12 x0 3 (.int (y12 + 1))) >>= fun S13 =>
  none
def C_J3_append_3_45 (x0 : Nat) (x1 : Int32) (S : St) : Option (Nat × St) :=
  (C_J3_isLatin1 S x0) >>= fun r9 =>
  if r9 = 0 then (
  C_J3_append_3_56 x0 x1 S)
  else (
  none)
def C_J3_append_3 (S : St) (x0 : Nat) (x1 : Int32) : Option (Nat × St) :=
  (gO S 12 x0) >>= fun _ =>
  (gI S 12 x0 3) >>= fun y1 =>
  (C_J3_ensureCapacityInternal S x0 (y1 + 1)) >>= fun r2 =>
  (C_J3_isLatin1 r2 x0) >>= fun r3 =>
  if r3 = 0 then (
  C_J3_append_3_45 x0 x1 r2)
  else (
  (C_J21_canEncode x1) >>= fun r4 =>
  if r4 = 0 then (
  C_J3_append_3_45 x0 x1 r2)
  else (
  (gA r2 12 x0 0) >>= fun y5 =>
  (gI r2 12 x0 3) >>= fun y6 =>
  (gP r2 12 x0 3 (.int (y6 + 1))) >>= fun S7 =>
  (tI S7 2 y5 y6 (vp_nar .byte (x1.toInt8.toInt32))) >>= fun S8 =>
  some (x0, S8)))
theorem rc_J3_append_3 {S : St} {x0 : Nat} {x1 : Int32} {r : Nat × St} (h : C_J3_append_3 S x0 x1 = some r) : ∃ fs, gO S 12 x0 = some fs := by
  unfold C_J3_append_3 at h
  obtain ⟨fs, h1, -⟩ := ob h
  exact ⟨fs, h1⟩
/- java/lang/StringBuilder length()I -/
def C_J4_length (S : St) (x0 : Nat) : Option Int32 :=
  (gO S 12 x0) >>= fun _ =>
  (C_J3_length S x0) >>= fun r1 =>
  some r1
theorem rc_J4_length {S : St} {x0 : Nat} {r : Int32} (h : C_J4_length S x0 = some r) : ∃ fs, gO S 12 x0 = some fs := by
  unfold C_J4_length at h
  obtain ⟨fs, h1, -⟩ := ob h
  exact ⟨fs, h1⟩
/- java/lang/StringBuilder setLength(I)V -/
def C_J4_setLength (F : Nat) (S : St) (x0 : Nat) (x1 : Int32) : Option St :=
  (gO S 12 x0) >>= fun _ =>
  (C_J3_setLength F S x0 x1) >>= fun r1 =>
  some r1
theorem rc_J4_setLength {F : Nat} {S : St} {x0 : Nat} {x1 : Int32} {r : St} (h : C_J4_setLength F S x0 x1 = some r) : ∃ fs, gO S 12 x0 = some fs := by
  unfold C_J4_setLength at h
  obtain ⟨fs, h1, -⟩ := ob h
  exact ⟨fs, h1⟩
/- java/lang/StringBuilder charAt(I)C -/
def C_J4_charAt (ek : Nat → Nat) (S : St) (x0 : Nat) (x1 : Int32) : Option Int32 :=
  (gO S 12 x0) >>= fun _ =>
  (C_J3_charAt ek S x0 x1) >>= fun r1 =>
  (zc r1) >>= fun b2 => some b2
theorem rc_J4_charAt {ek : Nat → Nat} {S : St} {x0 : Nat} {x1 : Int32} {r : Int32} (h : C_J4_charAt ek S x0 x1 = some r) : ∃ fs, gO S 12 x0 = some fs := by
  unfold C_J4_charAt at h
  obtain ⟨fs, h1, -⟩ := ob h
  exact ⟨fs, h1⟩
/- java/lang/StringBuilder append(C)Ljava/lang/StringBuilder; -/
def C_J4_append_3 (S : St) (x0 : Nat) (x1 : Int32) : Option (Nat × St) :=
  (gO S 12 x0) >>= fun _ =>
  (C_J3_append_3 S x0 x1) >>= fun r1 =>
  some (x0, r1.2)
theorem rc_J4_append_3 {S : St} {x0 : Nat} {x1 : Int32} {r : Nat × St} (h : C_J4_append_3 S x0 x1 = some r) : ∃ fs, gO S 12 x0 = some fs := by
  unfold C_J4_append_3 at h
  obtain ⟨fs, h1, -⟩ := ob h
  exact ⟨fs, h1⟩
/- java/lang/String checkBoundsBeginEnd(III)V -/
def C_J5_checkBoundsBeginEnd (ek : Nat → Nat) (x0 : Int32) (x1 : Int32) (x2 : Int32) : Option Unit :=
  (C_J20_checkFromToIndex x0 x1 x2 (ek 4)) >>= fun r1 =>
  some ()
/- java/lang/String checkBoundsOffCount(III)I -/
def C_J5_checkBoundsOffCount (ek : Nat → Nat) (x0 : Int32) (x1 : Int32) (x2 : Int32) : Option Int32 :=
  (C_J20_checkFromIndexSize x0 x1 x2 (ek 4)) >>= fun r1 =>
  some r1
/- java/lang/Throwable <init>(Ljava/lang/String;Ljava/lang/Throwable;ZZ)V -/
def C_J7_init_3_41 (ek : Nat → Nat) (x0 : Nat) (x1 : Nat) (x2 : Option Nat) (x3 : Int32) (S : St) : Option St :=
  (gP S 10 x0 3 (.ref x1)) >>= fun S5 =>
  (gP S5 10 x0 0 (va_rf x2)) >>= fun S6 =>
  if x3 = 0 then (
  (gP S6 10 x0 2 (va_rf none)) >>= fun S7 =>
  some S7)
  else (
  some S6)
def C_J7_init_3 (ek : Nat → Nat) (S : St) (x0 : Nat) (x1 : Nat) (x2 : Option Nat) (x3 : Int32) (x4 : Int32) : Option St :=
  (gP S 10 x0 0 (.ref x0)) >>= fun S1 =>
  (gP S1 10 x0 1 (.ref (ek 5))) >>= fun S2 =>
  (gP S2 10 x0 2 (.ref (ek 6))) >>= fun S3 =>
  if x4 = 0 then (
  (gP S3 10 x0 1 (va_rf none)) >>= fun S4 =>
  C_J7_init_3_41 ek x0 x1 x2 x3 S4)
  else (
  none)
/- java/lang/Exception <init>(Ljava/lang/String;Ljava/lang/Throwable;ZZ)V -/
def C_J8_init_2 (ek : Nat → Nat) (S : St) (x0 : Nat) (x1 : Nat) (x2 : Option Nat) (x3 : Int32) (x4 : Int32) : Option St :=
  (C_J7_init_3 ek S x0 x1 x2 x3 x4) >>= fun r1 =>
  some r1
/- NetworkCenters$Network <init>([I[I[LNetworkCenters$Edge;[LNetworkCenters$Stretch;)V -/
def C_X2_init_2 (S : St) (x0 : Nat) (x1 : Nat) (x2 : Nat) (x3 : Nat) (x4 : Nat) : Option St :=
  (gP S 2 x0 0 (.ref x1)) >>= fun S1 =>
  (gP S1 2 x0 1 (.ref x2)) >>= fun S2 =>
  (gP S2 2 x0 2 (.ref x3)) >>= fun S3 =>
  (gP S3 2 x0 3 (.ref x4)) >>= fun S4 =>
  some S4
/- NetworkCenters$Network <init>(I)V -/
def C_X2_init_20 (F : Nat) (x0 : Nat) (x1 : Int32) : Nat → Int32 → St → Option St
  | 0, _, _ => none
  | n + 1, x2, S =>
    if x1 ≤ x2 then (
    some S)
    else (
    (gA S 2 x0 0) >>= fun y6 =>
    (tI S 0 y6 x2 1) >>= fun S7 =>
    (some (x2 + 1)) >>= fun y8 =>
    C_X2_init_20 F x0 x1 n y8 S7)
def C_X2_init (F : Nat) (S : St) (x0 : Nat) (x1 : Int32) : Option St :=
  (nI_ S 0 x1) >>= fun r1 =>
  (nI_ r1.2 0 x1) >>= fun r2 =>
  (nQ_ r2.2 3 0) >>= fun r3 =>
  (nQ_ r3.2 4 0) >>= fun r4 =>
  (C_X2_init_2 r4.2 x0 (r1.1) (r2.1) (r3.1) (r4.1)) >>= fun r5 =>
  C_X2_init_20 F x0 x1 F 0 r5
/- NetworkCenters$Network size()I -/
def C_X2_size (S : St) (x0 : Nat) : Option Int32 :=
  (gO S 2 x0) >>= fun _ =>
  (gA S 2 x0 0) >>= fun y1 =>
  (aN S 0 y1) >>= fun y2 =>
  some y2
theorem rc_X2_size {S : St} {x0 : Nat} {r : Int32} (h : C_X2_size S x0 = some r) : ∃ fs, gO S 2 x0 = some fs := by
  unfold C_X2_size at h
  obtain ⟨fs, h1, -⟩ := ob h
  exact ⟨fs, h1⟩
/- NetworkCenters$Plan distance(II)I -/
def C_X3_distance (S : St) (x0 : Nat) (x1 : Int32) (x2 : Int32) : Option Int32 :=
  (gO S 3 x0) >>= fun _ =>
  (gA S 3 x0 2) >>= fun y1 =>
  (gI S 3 x0 1) >>= fun y2 =>
  (lI S 0 y1 ((y2 * x1) + x2)) >>= fun y3 =>
  some y3
theorem rc_X3_distance {S : St} {x0 : Nat} {x1 : Int32} {x2 : Int32} {r : Int32} (h : C_X3_distance S x0 x1 x2 = some r) : ∃ fs, gO S 3 x0 = some fs := by
  unfold C_X3_distance at h
  obtain ⟨fs, h1, -⟩ := ob h
  exact ⟨fs, h1⟩
/- NetworkCenters$Plan <init>(LNetworkCenters$Network;)V -/
def C_X3_init_69 (F : Nat) (k34 : Int32 → St → Option St) (x0 : Nat) (x1 : Nat) (x2 : Int32) (s0 : Nat) (s1 : Int32) (s2 : Int32) (S : St) : Option St :=
  (tI S 0 s0 s1 s2) >>= fun S13 =>
  (some (x2 + 1)) >>= fun y14 =>
  k34 y14 S13
def C_X3_init_211 (F : Nat) (k148 : Int32 → St → Option St) (x0 : Nat) (x2 : Int32) (S : St) : Option St :=
  (some (x2 + 1)) >>= fun y45 =>
  k148 y45 S
def C_X3_init_158 (F : Nat) (k148 : Int32 → St → Option St) (x0 : Nat) (x2 : Int32) : Nat → Int32 → St → Option St
  | 0, _, _ => none
  | n + 1, x3, S =>
    (gA S 3 x0 2) >>= fun y33 =>
    (aN S 0 y33) >>= fun y34 =>
    if y34 ≤ x3 then (
    C_X3_init_211 F k148 x0 x2 S)
    else (
    (gA S 3 x0 2) >>= fun y35 =>
    (gA S 3 x0 2) >>= fun y36 =>
    (lI S 0 y36 x3) >>= fun y37 =>
    (gI S 3 x0 1) >>= fun y38 =>
    if (y38 : Int32) = 0 then none else
    (C_X3_distance S x0 (x3 / y38) x2) >>= fun r39 =>
    (gI S 3 x0 1) >>= fun y40 =>
    if (y40 : Int32) = 0 then none else
    (C_X3_distance S x0 x2 (x3 - x3 / y40 * y40)) >>= fun r41 =>
    (some (r39 + r41)) >>= fun y42 =>
    (tI S 0 y35 x3 (if y42 < y37 then y42 else y37)) >>= fun S43 =>
    (some (x3 + 1)) >>= fun y44 =>
    C_X3_init_158 F k148 x0 x2 n y44 S43)
def C_X3_init_148 (F : Nat) (x0 : Nat) : Nat → Int32 → St → Option St
  | 0, _, _ => none
  | n + 1, x2, S =>
    (gI S 3 x0 1) >>= fun y32 =>
    if y32 ≤ x2 then (
    some S)
    else (
    C_X3_init_158 F (C_X3_init_148 F x0 n) x0 x2 F 0 S)
def C_X3_init_146 (F : Nat) (x0 : Nat) (S : St) : Option St :=
  C_X3_init_148 F x0 F 0 S
def C_X3_init_78 (F : Nat) (x0 : Nat) (x1 : Nat) : Nat → Int32 → St → Option St
  | 0, _, _ => none
  | n + 1, x2, S =>
    (gA S 2 x1 2) >>= fun y15 =>
    (aN S 3 y15) >>= fun y16 =>
    if y16 ≤ x2 then (
    C_X3_init_146 F x0 S)
    else (
    (gA S 2 x1 2) >>= fun y17 =>
    (lA S 3 y17 x2) >>= fun y18 =>
    (gA S 3 x0 2) >>= fun y19 =>
    (gI S 3 x0 1) >>= fun y20 =>
    (gI S 4 y18 0) >>= fun y21 =>
    (gI S 4 y18 1) >>= fun y22 =>
    (gI S 4 y18 2) >>= fun y23 =>
    (tI S 0 y19 ((y20 * y21) + y22) y23) >>= fun S24 =>
    (gA S24 3 x0 2) >>= fun y25 =>
    (gI S24 3 x0 1) >>= fun y26 =>
    (gI S24 4 y18 1) >>= fun y27 =>
    (gI S24 4 y18 0) >>= fun y28 =>
    (gI S24 4 y18 2) >>= fun y29 =>
    (tI S24 0 y25 ((y26 * y27) + y28) y29) >>= fun S30 =>
    (some (x2 + 1)) >>= fun y31 =>
    C_X3_init_78 F x0 x1 n y31 S30)
def C_X3_init_76 (F : Nat) (x0 : Nat) (x1 : Nat) (S : St) : Option St :=
  C_X3_init_78 F x0 x1 F 0 S
def C_X3_init_34 (F : Nat) (x0 : Nat) (x1 : Nat) : Nat → Int32 → St → Option St
  | 0, _, _ => none
  | n + 1, x2, S =>
    (gA S 3 x0 2) >>= fun y8 =>
    (aN S 0 y8) >>= fun y9 =>
    if y9 ≤ x2 then (
    C_X3_init_76 F x0 x1 S)
    else (
    (gA S 3 x0 2) >>= fun y10 =>
    (gI S 3 x0 1) >>= fun y11 =>
    if (y11 : Int32) = 0 then none else
    (gI S 3 x0 1) >>= fun y12 =>
    if (y12 : Int32) = 0 then none else
    if x2 / y11 = x2 - x2 / y12 * y12 then (
    C_X3_init_69 F (C_X3_init_34 F x0 x1 n) x0 x1 x2 y10 x2 0 S)
    else (
    C_X3_init_69 F (C_X3_init_34 F x0 x1 n) x0 x1 x2 y10 x2 100000 S))
def C_X3_init (F : Nat) (S : St) (x0 : Nat) (x1 : Nat) : Option St :=
  (gP S 3 x0 0 (.ref x1)) >>= fun S1 =>
  (C_X2_size S1 x1) >>= fun r2 =>
  (gP S1 3 x0 1 (.int r2)) >>= fun S3 =>
  (gI S3 3 x0 1) >>= fun y4 =>
  (gI S3 3 x0 1) >>= fun y5 =>
  (nI_ S3 0 (y4 * y5)) >>= fun r6 =>
  (gP r6.2 3 x0 2 (.ref (r6.1))) >>= fun S7 =>
  C_X3_init_34 F x0 x1 F 0 S7
/- NetworkCenters <init>()V -/
def C_X1_init (F : Nat) (S : St) (x0 : Nat) : Option St :=
  (some (nO S 2 df_2 4)) >>= fun r1 =>
  (C_X2_init F r1.2 (r1.1) 4) >>= fun r2 =>
  (gP r2 1 x0 0 (.ref (r1.1))) >>= fun S3 =>
  (some (nO S3 3 df_3 7)) >>= fun r4 =>
  (gA r4.2 1 x0 0) >>= fun y5 =>
  (C_X3_init F r4.2 (r4.1) y5) >>= fun r6 =>
  (gP r6 1 x0 1 (.ref (r4.1))) >>= fun S7 =>
  (some (nO S7 11 df_11 3)) >>= fun r8 =>
  (C_J2_init r8.2 (r8.1)) >>= fun r9 =>
  (gP r9 1 x0 2 (.ref (r8.1))) >>= fun S10 =>
  (some (nO S10 12 df_12 4)) >>= fun r11 =>
  (C_J4_init r11.2 (r11.1)) >>= fun r12 =>
  (gP r12 1 x0 3 (.ref (r11.1))) >>= fun S13 =>
  some S13
/- NetworkCenters diameter()I -/
def C_X1_diameter_36 (F : Nat) (S : St) (x1 : Int32) : Option Int32 :=
  if 100000 ≤ x1 then (
  some (-1))
  else (
  some x1)
def C_X1_diameter_4 (F : Nat) (S : St) (x0 : Nat) : Nat → Int32 → Int32 → Option Int32
  | 0, _, _ => none
  | n + 1, x1, x2 =>
    (gA S 1 x0 1) >>= fun y1 =>
    (gA S 3 y1 2) >>= fun y2 =>
    (aN S 0 y2) >>= fun y3 =>
    if y3 ≤ x2 then (
    C_X1_diameter_36 F S x1)
    else (
    (gA S 1 x0 1) >>= fun y4 =>
    (gA S 3 y4 2) >>= fun y5 =>
    (lI S 0 y5 x2) >>= fun y6 =>
    (some ((if x1 < y6 then y6 else x1))) >>= fun y7 =>
    (some (x2 + 1)) >>= fun y8 =>
    C_X1_diameter_4 F S x0 n y7 y8)
def C_X1_diameter (F : Nat) (S : St) (x0 : Nat) : Option Int32 :=
  (gO S 1 x0) >>= fun _ =>
  C_X1_diameter_4 F S x0 F 0 0
theorem rc_X1_diameter {F : Nat} {S : St} {x0 : Nat} {r : Int32} (h : C_X1_diameter F S x0 = some r) : ∃ fs, gO S 1 x0 = some fs := by
  unfold C_X1_diameter at h
  obtain ⟨fs, h1, -⟩ := ob h
  exact ⟨fs, h1⟩
/- NetworkCenters clearText()I -/
def C_X1_clearText (F : Nat) (S : St) (x0 : Nat) : Option (Int32 × St) :=
  (gO S 1 x0) >>= fun _ =>
  (gA S 1 x0 3) >>= fun y1 =>
  (C_J4_length S y1) >>= fun r2 =>
  (gA S 1 x0 3) >>= fun y3 =>
  (C_J4_setLength F S y3 0) >>= fun r4 =>
  some (r2, r4)
theorem rc_X1_clearText {F : Nat} {S : St} {x0 : Nat} {r : Int32 × St} (h : C_X1_clearText F S x0 = some r) : ∃ fs, gO S 1 x0 = some fs := by
  unfold C_X1_clearText at h
  obtain ⟨fs, h1, -⟩ := ob h
  exact ⟨fs, h1⟩
/- NetworkCenters isIn(III)Z -/
def C_X1_isIn (x0 : Int32) (x1 : Int32) (x2 : Int32) : Option Int32 :=
  if x0 < x1 then (
  some 0)
  else (
  if x2 < x0 then (
  some 0)
  else (
  some 1))
/- NetworkCenters$Plan isConnected()Z -/
def C_X3_isConnected_29 (F : Nat) (k4 : Int32 → Int32 → Option Int32) (S : St) (x0 : Nat) (x2 : Int32) (s0 : Int32) (s1 : Int32) : Option Int32 :=
  (some (s0 &&& s1)) >>= fun y4 =>
  (some (x2 + 1)) >>= fun y5 =>
  k4 y4 y5
def C_X3_isConnected_4 (F : Nat) (S : St) (x0 : Nat) : Nat → Int32 → Int32 → Option Int32
  | 0, _, _ => none
  | n + 1, x1, x2 =>
    (gI S 3 x0 1) >>= fun y1 =>
    if y1 ≤ x2 then (
    (zz x1) >>= fun b2 => some b2)
    else (
    (C_X3_distance S x0 0 x2) >>= fun r3 =>
    if 100000 ≤ r3 then (
    C_X3_isConnected_29 F (C_X3_isConnected_4 F S x0 n) S x0 x2 x1 0)
    else (
    C_X3_isConnected_29 F (C_X3_isConnected_4 F S x0 n) S x0 x2 x1 1))
def C_X3_isConnected (F : Nat) (S : St) (x0 : Nat) : Option Int32 :=
  (gO S 3 x0) >>= fun _ =>
  C_X3_isConnected_4 F S x0 F 1 0
theorem rc_X3_isConnected {F : Nat} {S : St} {x0 : Nat} {r : Int32} (h : C_X3_isConnected F S x0 = some r) : ∃ fs, gO S 3 x0 = some fs := by
  unfold C_X3_isConnected at h
  obtain ⟨fs, h1, -⟩ := ob h
  exact ⟨fs, h1⟩
/- NetworkCenters counted(I)I -/
def C_X1_counted (F : Nat) (S : St) (x0 : Nat) (x1 : Int32) : Option Int32 :=
  (gO S 1 x0) >>= fun _ =>
  if x1 = 0 then (
  (gA S 1 x0 0) >>= fun y1 =>
  (C_X2_size S y1) >>= fun r2 =>
  some r2)
  else (
  if x1 = 1 then (
  (gA S 1 x0 0) >>= fun y3 =>
  (gA S 2 y3 2) >>= fun y4 =>
  (aN S 3 y4) >>= fun y5 =>
  some y5)
  else (
  if x1 = 2 then (
  (gA S 1 x0 0) >>= fun y6 =>
  (gA S 2 y6 3) >>= fun y7 =>
  (aN S 4 y7) >>= fun y8 =>
  some y8)
  else (
  (gA S 1 x0 1) >>= fun y9 =>
  (C_X3_isConnected F S y9) >>= fun r10 =>
  if r10 = 0 then (
  some 0)
  else (
  some 1))))
theorem rc_X1_counted {F : Nat} {S : St} {x0 : Nat} {x1 : Int32} {r : Int32} (h : C_X1_counted F S x0 x1 = some r) : ∃ fs, gO S 1 x0 = some fs := by
  unfold C_X1_counted at h
  obtain ⟨fs, h1, -⟩ := ob h
  exact ⟨fs, h1⟩
/- NetworkCenters mix(I)V -/
def C_X1_mix (S : St) (x0 : Nat) (x1 : Int32) : Option St :=
  (gO S 1 x0) >>= fun _ =>
  (gJ S 1 x0 4) >>= fun y1 =>
  (gP S 1 x0 4 (.long ((31 * y1) + (((x1) : Int32).toInt64)))) >>= fun S2 =>
  some S2
theorem rc_X1_mix {S : St} {x0 : Nat} {x1 : Int32} {r : St} (h : C_X1_mix S x0 x1 = some r) : ∃ fs, gO S 1 x0 = some fs := by
  unfold C_X1_mix at h
  obtain ⟨fs, h1, -⟩ := ob h
  exact ⟨fs, h1⟩
/- NetworkCenters divisor(JJ)J -/
def C_X1_divisor_b (kR : Int64 → Int64 → Option Int64) (x0 : Int64) (x2 : Int64) : Option Int64 :=
  if x2 = 0 then (
  some (if 0 < x0 then x0 else -x0))
  else (
  if (x2 : Int64) = 0 then none else
  (kR x2 (x0 - x0 / x2 * x2)) >>= fun r1 =>
  some r1)
def C_X1_divisor_d  : Nat → Int64 → Int64 → Option Int64
  | 0, _, _ => none
  | d + 1, x0, x2 => C_X1_divisor_b  (C_X1_divisor_d  d) x0 x2
def C_X1_divisor (x0 : Int64) (x2 : Int64) : Option Int64 := C_X1_divisor_d  40 x0 x2
/- NetworkCenters partOf(JJI)I -/
def C_X1_partOf (x0 : Int64) (x2 : Int64) (x4 : Int32) : Option Int32 :=
  (C_X1_divisor x0 x2) >>= fun r1 =>
  if x4 = 0 then (
  if (r1 : Int64) = 0 then none else
  some ((x0 / r1).toInt32))
  else (
  if (r1 : Int64) = 0 then none else
  some ((x2 / r1).toInt32))
/- NetworkCenters$Stretch contains(IJJ)Z -/
def C_X6_contains (S : St) (x0 : Nat) (x1 : Int32) (x2 : Int64) (x4 : Int64) : Option Int32 :=
  (gO S 5 x0) >>= fun _ =>
  (gI S 5 x0 0) >>= fun y1 =>
  if y1 = x1 then (
  (gI S 5 x0 1) >>= fun y2 =>
  if x2 ≤ (((y2) : Int32).toInt64) * x4 then (
  some 0)
  else (
  (gI S 5 x0 2) >>= fun y3 =>
  if (((y3) : Int32).toInt64) * x4 ≤ x2 then (
  some 0)
  else (
  some 1)))
  else (
  some 0)
theorem rc_X6_contains {S : St} {x0 : Nat} {x1 : Int32} {x2 : Int64} {x4 : Int64} {r : Int32} (h : C_X6_contains S x0 x1 x2 x4 = some r) : ∃ fs, gO S 5 x0 = some fs := by
  unfold C_X6_contains at h
  obtain ⟨fs, h1, -⟩ := ob h
  exact ⟨fs, h1⟩
/- NetworkCenters$Network isAllowed(IJJ)Z -/
def C_X2_isAllowed_40 (F : Nat) (k6 : Int32 → Int32 → Option Int32) (S : St) (x0 : Nat) (x1 : Int32) (x2 : Int64) (x4 : Int64) (x7 : Int32) (s0 : Int32) (s1 : Int32) : Option Int32 :=
  (some (s0 &&& s1)) >>= fun y7 =>
  (some (x7 + 1)) >>= fun y8 =>
  k6 y7 y8
def C_X2_isAllowed_6 (F : Nat) (S : St) (x0 : Nat) (x1 : Int32) (x2 : Int64) (x4 : Int64) : Nat → Int32 → Int32 → Option Int32
  | 0, _, _ => none
  | n + 1, x6, x7 =>
    (gA S 2 x0 3) >>= fun y1 =>
    (aN S 4 y1) >>= fun y2 =>
    if y2 ≤ x7 then (
    (zz x6) >>= fun b3 => some b3)
    else (
    (gA S 2 x0 3) >>= fun y4 =>
    (lA S 4 y4 x7) >>= fun y5 =>
    (C_X6_contains S y5 x1 x2 x4) >>= fun r6 =>
    if r6 = 0 then (
    C_X2_isAllowed_40 F (C_X2_isAllowed_6 F S x0 x1 x2 x4 n) S x0 x1 x2 x4 x7 x6 1)
    else (
    C_X2_isAllowed_40 F (C_X2_isAllowed_6 F S x0 x1 x2 x4 n) S x0 x1 x2 x4 x7 x6 0))
def C_X2_isAllowed (F : Nat) (S : St) (x0 : Nat) (x1 : Int32) (x2 : Int64) (x4 : Int64) : Option Int32 :=
  (gO S 2 x0) >>= fun _ =>
  C_X2_isAllowed_6 F S x0 x1 x2 x4 F 1 0
theorem rc_X2_isAllowed {F : Nat} {S : St} {x0 : Nat} {x1 : Int32} {x2 : Int64} {x4 : Int64} {r : Int32} (h : C_X2_isAllowed F S x0 x1 x2 x4 = some r) : ∃ fs, gO S 2 x0 = some fs := by
  unfold C_X2_isAllowed at h
  obtain ⟨fs, h1, -⟩ := ob h
  exact ⟨fs, h1⟩
/- NetworkCenters$Falling <init>(II)V -/
def C_X9_init (S : St) (x0 : Nat) (x1 : Int32) (x2 : Int32) : Option St :=
  (gP S 8 x0 0 (.int x1)) >>= fun S1 =>
  (gP S1 8 x0 1 (.int x2)) >>= fun S2 =>
  some S2
/- NetworkCenters$Points longer([I)[I -/
def C_X7_longer (S : St) (x0 : Nat) : Option (Nat × St) :=
  (aN S 0 x0) >>= fun y1 =>
  (nI_ S 0 (2 * y1)) >>= fun r2 =>
  (aN r2.2 0 x0) >>= fun y3 =>
  (cI_ r2.2 0 x0 (r2.1) 0 0 y3) >>= fun S4 =>
  some (r2.1, S4)
/- NetworkCenters$Points enter(IJJ)V -/
def C_X7_enter_225 (F : Nat) (x0 : Nat) (x1 : Int32) (x8 : Int32) (x9 : Int32) (x10 : Int32) (S : St) : Option St :=
  (gA S 6 x0 0) >>= fun y39 =>
  (gI S 6 x0 3) >>= fun y40 =>
  (tI S 0 y39 y40 x1) >>= fun S41 =>
  (gA S41 6 x0 1) >>= fun y42 =>
  (tI S41 0 y42 x10 x8) >>= fun S43 =>
  (gA S43 6 x0 2) >>= fun y44 =>
  (tI S43 0 y44 x10 x9) >>= fun S45 =>
  (gI S45 6 x0 3) >>= fun y46 =>
  (gP S45 6 x0 3 (.int (y46 + 1))) >>= fun S47 =>
  some S47
def C_X7_enter_180 (F : Nat) (x0 : Nat) (x1 : Int32) (x8 : Int32) (x9 : Int32) (x10 : Int32) : Nat → Int32 → St → Option St
  | 0, _, _ => none
  | n + 1, x11, S =>
    if x11 ≤ x10 then (
    C_X7_enter_225 F x0 x1 x8 x9 x10 S)
    else (
    (gA S 6 x0 1) >>= fun y30 =>
    (gA S 6 x0 1) >>= fun y31 =>
    (lI S 0 y31 (x11 - 1)) >>= fun y32 =>
    (tI S 0 y30 x11 y32) >>= fun S33 =>
    (gA S33 6 x0 2) >>= fun y34 =>
    (gA S33 6 x0 2) >>= fun y35 =>
    (lI S33 0 y35 (x11 - 1)) >>= fun y36 =>
    (tI S33 0 y34 x11 y36) >>= fun S37 =>
    (some (x11 + (-1))) >>= fun y38 =>
    C_X7_enter_180 F x0 x1 x8 x9 x10 n y38 S37)
def C_X7_enter_174 (F : Nat) (x0 : Nat) (x1 : Int32) (x8 : Int32) (x9 : Int32) (x10 : Int32) (S : St) : Option St :=
  (gI S 6 x0 3) >>= fun y29 =>
  C_X7_enter_180 F x0 x1 x8 x9 x10 F y29 S
def C_X7_enter_129 (F : Nat) (x0 : Nat) (x1 : Int32) (x8 : Int32) (x9 : Int32) (x10 : Int32) (S : St) : Option St :=
  (gI S 6 x0 3) >>= fun y17 =>
  (gA S 6 x0 0) >>= fun y18 =>
  (aN S 0 y18) >>= fun y19 =>
  if y17 = y19 then (
  (gA S 6 x0 0) >>= fun y20 =>
  (C_X7_longer S y20) >>= fun r21 =>
  (gP r21.2 6 x0 0 (.ref (r21.1))) >>= fun S22 =>
  (gA S22 6 x0 1) >>= fun y23 =>
  (C_X7_longer S22 y23) >>= fun r24 =>
  (gP r24.2 6 x0 1 (.ref (r24.1))) >>= fun S25 =>
  (gA S25 6 x0 2) >>= fun y26 =>
  (C_X7_longer S25 y26) >>= fun r27 =>
  (gP r27.2 6 x0 2 (.ref (r27.1))) >>= fun S28 =>
  C_X7_enter_174 F x0 x1 x8 x9 x10 S28)
  else (
  C_X7_enter_174 F x0 x1 x8 x9 x10 S)
def C_X7_enter_91 (F : Nat) (x0 : Nat) (x1 : Int32) (x8 : Int32) (x9 : Int32) (x10 : Int32) (S : St) : Option St :=
  (gI S 6 x0 4) >>= fun y12 =>
  if x10 ≤ y12 then (
  C_X7_enter_129 F x0 x1 x8 x9 x10 S)
  else (
  (gA S 6 x0 1) >>= fun y13 =>
  (lI S 0 y13 (x10 - 1)) >>= fun y14 =>
  if y14 = x8 then (
  (gA S 6 x0 2) >>= fun y15 =>
  (lI S 0 y15 (x10 - 1)) >>= fun y16 =>
  if y16 = x9 then (
  some S)
  else (
  C_X7_enter_129 F x0 x1 x8 x9 x10 S))
  else (
  C_X7_enter_129 F x0 x1 x8 x9 x10 S))
def C_X7_enter_44 (F : Nat) (x0 : Nat) (x1 : Int32) (x8 : Int32) (x9 : Int32) : Nat → Int32 → St → Option St
  | 0, _, _ => none
  | n + 1, x10, S =>
    (gI S 6 x0 4) >>= fun y6 =>
    if x10 ≤ y6 then (
    C_X7_enter_91 F x0 x1 x8 x9 x10 S)
    else (
    (gA S 6 x0 2) >>= fun y7 =>
    (lI S 0 y7 (x10 - 1)) >>= fun y8 =>
    (gA S 6 x0 1) >>= fun y9 =>
    (lI S 0 y9 (x10 - 1)) >>= fun y10 =>
    if (((y10) : Int32).toInt64) * (((x9) : Int32).toInt64) ≤ (((x8) : Int32).toInt64) * (((y8) : Int32).toInt64) then (
    C_X7_enter_91 F x0 x1 x8 x9 x10 S)
    else (
    (some (x10 + (-1))) >>= fun y11 =>
    C_X7_enter_44 F x0 x1 x8 x9 n y11 S))
def C_X7_enter_20 (F : Nat) (x0 : Nat) (x1 : Int32) (x2 : Int64) (x4 : Int64) (s0 : Int64) (s1 : Int64) (S : St) : Option St :=
  (some (s0 * s1)) >>= fun y2 =>
  if (y2 : Int64) = 0 then none else
  (some ((x2 / y2).toInt32)) >>= fun y3 =>
  if (y2 : Int64) = 0 then none else
  (some ((x4 / y2).toInt32)) >>= fun y4 =>
  (gI S 6 x0 3) >>= fun y5 =>
  C_X7_enter_44 F x0 x1 y3 y4 F y5 S
def C_X7_enter (F : Nat) (S : St) (x0 : Nat) (x1 : Int32) (x2 : Int64) (x4 : Int64) : Option St :=
  (gO S 6 x0) >>= fun _ =>
  (C_X1_divisor x2 x4) >>= fun r1 =>
  if 0 ≤ x4 then (
  C_X7_enter_20 F x0 x1 x2 x4 r1 1 S)
  else (
  C_X7_enter_20 F x0 x1 x2 x4 r1 (-1) S)
theorem rc_X7_enter {F : Nat} {S : St} {x0 : Nat} {x1 : Int32} {x2 : Int64} {x4 : Int64} {r : St} (h : C_X7_enter F S x0 x1 x2 x4 = some r) : ∃ fs, gO S 6 x0 = some fs := by
  unfold C_X7_enter at h
  obtain ⟨fs, h1, -⟩ := ob h
  exact ⟨fs, h1⟩
/- NetworkCenters$Plan lambda$layEdge$0(IJJ)V -/
def C_X3_lambda_layEdge_0 (F : Nat) (S : St) (x0 : Nat) (x1 : Int32) (x2 : Int64) (x4 : Int64) : Option St :=
  (gO S 3 x0) >>= fun _ =>
  (gQ S 3 x0 3) >>= fun y1 =>
  y1 >>= fun a2 =>
  (C_X7_enter F S a2 x1 x2 x4) >>= fun r3 =>
  some r3
theorem rc_X3_lambda_layEdge_0 {F : Nat} {S : St} {x0 : Nat} {x1 : Int32} {x2 : Int64} {x4 : Int64} {r : St} (h : C_X3_lambda_layEdge_0 F S x0 x1 x2 x4 = some r) : ∃ fs, gO S 3 x0 = some fs := by
  unfold C_X3_lambda_layEdge_0 at h
  obtain ⟨fs, h1, -⟩ := ob h
  exact ⟨fs, h1⟩
/- NetworkCenters atFirst(LNetworkCenters$Line;)I -/
def C_X1_atFirst (S : St) (x0 : Nat) : Option Int32 :=
  (isX S 8 7 x0) >>= fun y1 =>
  if y1 = 0 then (
  (gO S 7 x0) >>= fun y2 =>
  (gI S 7 x0 0) >>= fun y3 =>
  (gI S 7 x0 1) >>= fun y4 =>
  some (y3 * y4))
  else (
  (gO S 8 x0) >>= fun y5 =>
  (gI S 8 x0 0) >>= fun y6 =>
  (gI S 8 x0 1) >>= fun y7 =>
  some (y6 * y7))
/- NetworkCenters slope(LNetworkCenters$Line;)I -/
def C_X1_slope (S : St) (x0 : Nat) : Option Int32 :=
  (isX S 7 8 x0) >>= fun y1 =>
  if y1 = 0 then (
  (gO S 8 x0) >>= fun y2 =>
  (gI S 8 x0 0) >>= fun y3 =>
  some (-y3))
  else (
  (gO S 7 x0) >>= fun y4 =>
  (gI S 7 x0 0) >>= fun y5 =>
  some y5)
/- NetworkCenters$Plan meet(LNetworkCenters$Line;LNetworkCenters$Line;ILNetworkCenters$Use;)V -/
def C_X3_meet_87 (F : Nat) (x3 : Nat) (x4 : Int64) (x6 : Int64) (s0 : Int32) (S : St) : Option St :=
  if s0 = 0 then (
  some S)
  else (
  (gA S 17 x3 0) >>= fun t7 =>
  (gI S 17 x3 1) >>= fun y8 =>
  (C_X3_lambda_layEdge_0 F S t7 y8 x6 x4) >>= fun r9 =>
  some r9)
def C_X3_meet_53 (F : Nat) (x3 : Nat) (x4 : Int64) (x6 : Int64) (S : St) : Option St :=
  C_X3_meet_87 F x3 x4 x6 0 S
def C_X3_meet_86 (F : Nat) (x3 : Nat) (x4 : Int64) (x6 : Int64) (S : St) : Option St :=
  C_X3_meet_87 F x3 x4 x6 0 S
def C_X3_meet (F : Nat) (S : St) (x0 : Nat) (x1 : Nat) (x2 : Int32) (x3 : Nat) : Option St :=
  (C_X1_slope S x0) >>= fun r1 =>
  (C_X1_slope S x1) >>= fun r2 =>
  (some (((r1 - r2) : Int32).toInt64)) >>= fun y3 =>
  (C_X1_atFirst S x1) >>= fun r4 =>
  (C_X1_atFirst S x0) >>= fun r5 =>
  (some (((r4 - r5) : Int32).toInt64)) >>= fun y6 =>
  if y3 ≤ 0 then (
  if 0 ≤ y3 then (
  C_X3_meet_86 F x3 y3 y6 S)
  else (
  if 0 < y6 then (
  C_X3_meet_86 F x3 y3 y6 S)
  else (
  if y6 < (((x2) : Int32).toInt64) * y3 then (
  C_X3_meet_86 F x3 y3 y6 S)
  else (
  C_X3_meet_87 F x3 y3 y6 1 S))))
  else (
  if y6 < 0 then (
  C_X3_meet_53 F x3 y3 y6 S)
  else (
  if (((x2) : Int32).toInt64) * y3 < y6 then (
  C_X3_meet_53 F x3 y3 y6 S)
  else (
  C_X3_meet_87 F x3 y3 y6 1 S)))
/- NetworkCenters$Rising <init>(II)V -/
def C_X8_init (S : St) (x0 : Nat) (x1 : Int32) (x2 : Int32) : Option St :=
  (gP S 7 x0 0 (.int x1)) >>= fun S1 =>
  (gP S1 7 x0 1 (.int x2)) >>= fun S2 =>
  some S2
/- NetworkCenters$Plan layEdge(I)V -/
def C_X3_layEdge_185 (F : Nat) (k145 : Int32 → St → Option St) (x0 : Nat) (x1 : Int32) (x2 : Nat) (x3 : Nat) (x4 : Nat) (x5 : Int32) (S : St) : Option St :=
  (some (x5 + 1)) >>= fun y60 =>
  k145 y60 S
def C_X3_layEdge_155 (F : Nat) (k145 : Int32 → St → Option St) (x0 : Nat) (x1 : Int32) (x2 : Nat) (x3 : Nat) (x4 : Nat) (x5 : Int32) : Nat → Int32 → St → Option St
  | 0, _, _ => none
  | n + 1, x6, S =>
    if x5 ≤ x6 then (
    C_X3_layEdge_185 F k145 x0 x1 x2 x3 x4 x5 S)
    else (
    (lA S 5 x3 x5) >>= fun y34 =>
    (lA S 5 x3 x6) >>= fun y35 =>
    (gI S 4 x2 2) >>= fun y36 =>
    (C_X3_meet F S y34 y35 y36 x4) >>= fun r37 =>
    (some (x6 + 1)) >>= fun y38 =>
    C_X3_layEdge_155 F k145 x0 x1 x2 x3 x4 x5 n y38 r37)
def C_X3_layEdge_268 (F : Nat) (k194 : Int32 → St → Option St) (x0 : Nat) (x1 : Int32) (x4 : Nat) (x5 : Int32) (S : St) : Option St :=
  (some (x5 + 1)) >>= fun y61 =>
  k194 y61 S
def C_X3_layEdge_194 (F : Nat) (x0 : Nat) (x1 : Int32) (x4 : Nat) : Nat → Int32 → St → Option St
  | 0, _, _ => none
  | n + 1, x5, S =>
    (gA S 3 x0 0) >>= fun y39 =>
    (gA S 2 y39 3) >>= fun y40 =>
    (aN S 4 y40) >>= fun y41 =>
    if y41 ≤ x5 then (
    some S)
    else (
    (gA S 3 x0 0) >>= fun y42 =>
    (gA S 2 y42 3) >>= fun y43 =>
    (lA S 4 y43 x5) >>= fun y44 =>
    (gI S 5 y44 0) >>= fun y45 =>
    if y45 = x1 then (
    (gA S 3 x0 0) >>= fun y46 =>
    (gA S 2 y46 3) >>= fun y47 =>
    (lA S 4 y47 x5) >>= fun y48 =>
    (gI S 5 y48 1) >>= fun y49 =>
    (gA S 17 x4 0) >>= fun t50 =>
    (gI S 17 x4 1) >>= fun y51 =>
    (C_X3_lambda_layEdge_0 F S t50 y51 (((y49) : Int32).toInt64) 1) >>= fun r52 =>
    (gA r52 3 x0 0) >>= fun y53 =>
    (gA r52 2 y53 3) >>= fun y54 =>
    (lA r52 4 y54 x5) >>= fun y55 =>
    (gI r52 5 y55 2) >>= fun y56 =>
    (gA r52 17 x4 0) >>= fun t57 =>
    (gI r52 17 x4 1) >>= fun y58 =>
    (C_X3_lambda_layEdge_0 F r52 t57 y58 (((y56) : Int32).toInt64) 1) >>= fun r59 =>
    C_X3_layEdge_268 F (C_X3_layEdge_194 F x0 x1 x4 n) x0 x1 x4 x5 r59)
    else (
    C_X3_layEdge_268 F (C_X3_layEdge_194 F x0 x1 x4 n) x0 x1 x4 x5 S))
def C_X3_layEdge_191 (F : Nat) (x0 : Nat) (x1 : Int32) (x4 : Nat) (S : St) : Option St :=
  C_X3_layEdge_194 F x0 x1 x4 F 0 S
def C_X3_layEdge_145 (F : Nat) (x0 : Nat) (x1 : Int32) (x2 : Nat) (x3 : Nat) (x4 : Nat) : Nat → Int32 → St → Option St
  | 0, _, _ => none
  | n + 1, x5, S =>
    (aN S 5 x3) >>= fun y33 =>
    if y33 ≤ x5 then (
    C_X3_layEdge_191 F x0 x1 x4 S)
    else (
    C_X3_layEdge_155 F (C_X3_layEdge_145 F x0 x1 x2 x3 x4 n) x0 x1 x2 x3 x4 x5 F 0 S)
def C_X3_layEdge_111 (F : Nat) (x0 : Nat) (x1 : Int32) (x2 : Nat) (x3 : Nat) (S : St) : Option St :=
  (some (nC S (.inr (17, [.ref x0, .int x1])) 2)) >>= fun r25 =>
  (gA r25.2 17 (r25.1) 0) >>= fun t26 =>
  (gI r25.2 17 (r25.1) 1) >>= fun y27 =>
  (C_X3_lambda_layEdge_0 F r25.2 t26 y27 0 1) >>= fun r28 =>
  (gI r28 4 x2 2) >>= fun y29 =>
  (gA r28 17 (r25.1) 0) >>= fun t30 =>
  (gI r28 17 (r25.1) 1) >>= fun y31 =>
  (C_X3_lambda_layEdge_0 F r28 t30 y31 (((y29) : Int32).toInt64) 1) >>= fun r32 =>
  C_X3_layEdge_145 F x0 x1 x2 x3 (r25.1) F 0 r32
def C_X3_layEdge_23 (F : Nat) (x0 : Nat) (x1 : Int32) (x2 : Nat) (x3 : Nat) : Nat → Int32 → St → Option St
  | 0, _, _ => none
  | n + 1, x4, S =>
    (gI S 3 x0 1) >>= fun y6 =>
    if y6 ≤ x4 then (
    C_X3_layEdge_111 F x0 x1 x2 x3 S)
    else (
    (some (nO S 7 df_7 2)) >>= fun r7 =>
    (gA r7.2 3 x0 0) >>= fun y8 =>
    (gA r7.2 2 y8 0) >>= fun y9 =>
    (lI r7.2 0 y9 x4) >>= fun y10 =>
    (gI r7.2 4 x2 0) >>= fun y11 =>
    (C_X3_distance r7.2 x0 x4 y11) >>= fun r12 =>
    (C_X8_init r7.2 (r7.1) y10 r12) >>= fun r13 =>
    (tA r13 5 x3 (2 * x4) 7 (r7.1)) >>= fun S14 =>
    (some (nO S14 8 df_8 2)) >>= fun r15 =>
    (gA r15.2 3 x0 0) >>= fun y16 =>
    (gA r15.2 2 y16 0) >>= fun y17 =>
    (lI r15.2 0 y17 x4) >>= fun y18 =>
    (gI r15.2 4 x2 1) >>= fun y19 =>
    (C_X3_distance r15.2 x0 x4 y19) >>= fun r20 =>
    (gI r15.2 4 x2 2) >>= fun y21 =>
    (C_X9_init r15.2 (r15.1) y18 (r20 + y21)) >>= fun r22 =>
    (tA r22 5 x3 ((2 * x4) + 1) 8 (r15.1)) >>= fun S23 =>
    (some (x4 + 1)) >>= fun y24 =>
    C_X3_layEdge_23 F x0 x1 x2 x3 n y24 S23)
def C_X3_layEdge (F : Nat) (S : St) (x0 : Nat) (x1 : Int32) : Option St :=
  (gO S 3 x0) >>= fun _ =>
  (gA S 3 x0 0) >>= fun y1 =>
  (gA S 2 y1 2) >>= fun y2 =>
  (lA S 3 y2 x1) >>= fun y3 =>
  (gI S 3 x0 1) >>= fun y4 =>
  (nQ_ S 5 (2 * y4)) >>= fun r5 =>
  C_X3_layEdge_23 F x0 x1 y3 (r5.1) F 0 r5.2
theorem rc_X3_layEdge {F : Nat} {S : St} {x0 : Nat} {x1 : Int32} {r : St} (h : C_X3_layEdge F S x0 x1 = some r) : ∃ fs, gO S 3 x0 = some fs := by
  unfold C_X3_layEdge at h
  obtain ⟨fs, h1, -⟩ := ob h
  exact ⟨fs, h1⟩
/- NetworkCenters$Points <init>()V -/
def C_X7_init (S : St) (x0 : Nat) : Option St :=
  (nI_ S 0 64) >>= fun r1 =>
  (gP r1.2 6 x0 0 (.ref (r1.1))) >>= fun S2 =>
  (nI_ S2 0 64) >>= fun r3 =>
  (gP r3.2 6 x0 1 (.ref (r3.1))) >>= fun S4 =>
  (nI_ S4 0 64) >>= fun r5 =>
  (gP r5.2 6 x0 2 (.ref (r5.1))) >>= fun S6 =>
  some S6
/- NetworkCenters$Points turn()V -/
def C_X7_turn (S : St) (x0 : Nat) : Option St :=
  (gO S 6 x0) >>= fun _ =>
  (gI S 6 x0 3) >>= fun y1 =>
  (gP S 6 x0 4 (.int y1)) >>= fun S2 =>
  some S2
theorem rc_X7_turn {S : St} {x0 : Nat} {r : St} (h : C_X7_turn S x0 = some r) : ∃ fs, gO S 6 x0 = some fs := by
  unfold C_X7_turn at h
  obtain ⟨fs, h1, -⟩ := ob h
  exact ⟨fs, h1⟩
/- NetworkCenters$Plan layPoints()V -/
def C_X3_layPoints_122 (F : Nat) (k64 : Int32 → St → Option St) (x0 : Nat) (x1 : Int32) (S : St) : Option St :=
  (some (x1 + 1)) >>= fun y36 =>
  k64 y36 S
def C_X3_layPoints_64 (F : Nat) (x0 : Nat) : Nat → Int32 → St → Option St
  | 0, _, _ => none
  | n + 1, x1, S =>
    (gQ S 3 x0 3) >>= fun y16 =>
    y16 >>= fun a17 =>
    (gI S 6 a17 3) >>= fun y18 =>
    if y18 ≤ x1 then (
    some S)
    else (
    (gA S 3 x0 0) >>= fun y19 =>
    (gQ S 3 x0 3) >>= fun y20 =>
    y20 >>= fun a21 =>
    (gA S 6 a21 0) >>= fun y22 =>
    (lI S 0 y22 x1) >>= fun y23 =>
    (gQ S 3 x0 3) >>= fun y24 =>
    y24 >>= fun a25 =>
    (gA S 6 a25 1) >>= fun y26 =>
    (lI S 0 y26 x1) >>= fun y27 =>
    (gQ S 3 x0 3) >>= fun y28 =>
    y28 >>= fun a29 =>
    (gA S 6 a29 2) >>= fun y30 =>
    (lI S 0 y30 x1) >>= fun y31 =>
    (C_X2_isAllowed F S y19 y23 (((y27) : Int32).toInt64) (((y31) : Int32).toInt64)) >>= fun r32 =>
    if r32 = 0 then (
    C_X3_layPoints_122 F (C_X3_layPoints_64 F x0 n) x0 x1 S)
    else (
    (gQ S 3 x0 4) >>= fun y33 =>
    y33 >>= fun a34 =>
    (C_J27_set F S a34 x1) >>= fun r35 =>
    C_X3_layPoints_122 F (C_X3_layPoints_64 F x0 n) x0 x1 r35))
def C_X3_layPoints_51 (F : Nat) (x0 : Nat) (S : St) : Option St :=
  (some (nO S 16 df_16 3)) >>= fun r13 =>
  (C_J27_init r13.2 (r13.1)) >>= fun r14 =>
  (gP r14 3 x0 4 (.ref (r13.1))) >>= fun S15 =>
  C_X3_layPoints_64 F x0 F 0 S15
def C_X3_layPoints_21 (F : Nat) (x0 : Nat) : Nat → Int32 → St → Option St
  | 0, _, _ => none
  | n + 1, x1, S =>
    (gA S 3 x0 0) >>= fun y5 =>
    (gA S 2 y5 2) >>= fun y6 =>
    (aN S 3 y6) >>= fun y7 =>
    if y7 ≤ x1 then (
    C_X3_layPoints_51 F x0 S)
    else (
    (C_X3_layEdge F S x0 x1) >>= fun r8 =>
    (gQ r8 3 x0 3) >>= fun y9 =>
    y9 >>= fun a10 =>
    (C_X7_turn r8 a10) >>= fun r11 =>
    (some (x1 + 1)) >>= fun y12 =>
    C_X3_layPoints_21 F x0 n y12 r11)
def C_X3_layPoints (F : Nat) (S : St) (x0 : Nat) : Option St :=
  (gO S 3 x0) >>= fun _ =>
  (gQ S 3 x0 3) >>= fun y1 =>
  if y1 = none then (
  (some (nO S 6 df_6 5)) >>= fun r2 =>
  (C_X7_init r2.2 (r2.1)) >>= fun r3 =>
  (gP r3 3 x0 3 (.ref (r2.1))) >>= fun S4 =>
  C_X3_layPoints_21 F x0 F 0 S4)
  else (
  some S)
theorem rc_X3_layPoints {F : Nat} {S : St} {x0 : Nat} {r : St} (h : C_X3_layPoints F S x0 = some r) : ∃ fs, gO S 3 x0 = some fs := by
  unfold C_X3_layPoints at h
  obtain ⟨fs, h1, -⟩ := ob h
  exact ⟨fs, h1⟩
/- NetworkCenters has(II)Z -/
def C_X1_has (x0 : Int32) (x1 : Int32) : Option Int32 :=
  if (x0 >>> (x1 &&& 31)) &&& 1 = 1 then (
  some 1)
  else (
  some 0)
/- NetworkCenters$Plan distanceTo(IIJJ)J -/
def C_X3_distanceTo (S : St) (x0 : Nat) (x1 : Int32) (x2 : Int32) (x3 : Int64) (x5 : Int64) : Option Int64 :=
  (gO S 3 x0) >>= fun _ =>
  (gA S 3 x0 0) >>= fun y1 =>
  (gA S 2 y1 2) >>= fun y2 =>
  (lA S 3 y2 x2) >>= fun y3 =>
  (gI S 4 y3 0) >>= fun y4 =>
  (C_X3_distance S x0 x1 y4) >>= fun r5 =>
  (gI S 4 y3 1) >>= fun y6 =>
  (C_X3_distance S x0 x1 y6) >>= fun r7 =>
  (gI S 4 y3 2) >>= fun y8 =>
  (some (((((r7 + y8) : Int32).toInt64) * x5) - x3)) >>= fun y9 =>
  some (if y9 < (((((r5) : Int32).toInt64) * x5) + x3) then y9 else (((((r5) : Int32).toInt64) * x5) + x3))
theorem rc_X3_distanceTo {S : St} {x0 : Nat} {x1 : Int32} {x2 : Int32} {x3 : Int64} {x5 : Int64} {r : Int64} (h : C_X3_distanceTo S x0 x1 x2 x3 x5 = some r) : ∃ fs, gO S 3 x0 = some fs := by
  unfold C_X3_distanceTo at h
  obtain ⟨fs, h1, -⟩ := ob h
  exact ⟨fs, h1⟩
/- NetworkCenters$Plan height(IIJJ)J -/
def C_X3_height_56 (F : Nat) (k6 : Int64 → Int32 → Option Int64) (S : St) (x0 : Nat) (x1 : Int32) (x2 : Int32) (x3 : Int64) (x5 : Int64) (x9 : Int32) (s0 : Int64) : Option Int64 :=
  (some (x9 + 1)) >>= fun y8 =>
  k6 s0 y8
def C_X3_height_6 (F : Nat) (S : St) (x0 : Nat) (x1 : Int32) (x2 : Int32) (x3 : Int64) (x5 : Int64) : Nat → Int64 → Int32 → Option Int64
  | 0, _, _ => none
  | n + 1, x7, x9 =>
    (gI S 3 x0 1) >>= fun y1 =>
    if y1 ≤ x9 then (
    some x7)
    else (
    (C_X1_has x1 x9) >>= fun r2 =>
    if r2 = 0 then (
    C_X3_height_56 F (C_X3_height_6 F S x0 x1 x2 x3 x5 n) S x0 x1 x2 x3 x5 x9 x7)
    else (
    (gA S 3 x0 0) >>= fun y3 =>
    (gA S 2 y3 0) >>= fun y4 =>
    (lI S 0 y4 x9) >>= fun y5 =>
    (C_X3_distanceTo S x0 x9 x2 x3 x5) >>= fun r6 =>
    (some ((((y5) : Int32).toInt64) * r6)) >>= fun y7 =>
    C_X3_height_56 F (C_X3_height_6 F S x0 x1 x2 x3 x5 n) S x0 x1 x2 x3 x5 x9 (if y7 < x7 then x7 else y7)))
def C_X3_height (F : Nat) (S : St) (x0 : Nat) (x1 : Int32) (x2 : Int32) (x3 : Int64) (x5 : Int64) : Option Int64 :=
  (gO S 3 x0) >>= fun _ =>
  C_X3_height_6 F S x0 x1 x2 x3 x5 F 0 0
theorem rc_X3_height {F : Nat} {S : St} {x0 : Nat} {x1 : Int32} {x2 : Int32} {x3 : Int64} {x5 : Int64} {r : Int64} (h : C_X3_height F S x0 x1 x2 x3 x5 = some r) : ∃ fs, gO S 3 x0 = some fs := by
  unfold C_X3_height at h
  obtain ⟨fs, h1, -⟩ := ob h
  exact ⟨fs, h1⟩
/- NetworkCenters$Plan heightAt(I)J -/
def C_X3_heightAt (F : Nat) (S : St) (x0 : Nat) (x1 : Int32) : Option Int64 :=
  (gO S 3 x0) >>= fun _ =>
  (gI S 3 x0 1) >>= fun y1 =>
  (gQ S 3 x0 3) >>= fun y2 =>
  y2 >>= fun a3 =>
  (gA S 6 a3 0) >>= fun y4 =>
  (lI S 0 y4 x1) >>= fun y5 =>
  (gQ S 3 x0 3) >>= fun y6 =>
  y6 >>= fun a7 =>
  (gA S 6 a7 1) >>= fun y8 =>
  (lI S 0 y8 x1) >>= fun y9 =>
  (gQ S 3 x0 3) >>= fun y10 =>
  y10 >>= fun a11 =>
  (gA S 6 a11 2) >>= fun y12 =>
  (lI S 0 y12 x1) >>= fun y13 =>
  (C_X3_height F S x0 ((1 <<< (y1 &&& 31)) - 1) y5 (((y9) : Int32).toInt64) (((y13) : Int32).toInt64)) >>= fun r14 =>
  some r14
theorem rc_X3_heightAt {F : Nat} {S : St} {x0 : Nat} {x1 : Int32} {r : Int64} (h : C_X3_heightAt F S x0 x1 = some r) : ∃ fs, gO S 3 x0 = some fs := by
  unfold C_X3_heightAt at h
  obtain ⟨fs, h1, -⟩ := ob h
  exact ⟨fs, h1⟩
/- NetworkCenters$Plan turns(I)Z -/
def C_X3_turns (F : Nat) (S : St) (x0 : Nat) (x1 : Int32) : Option Int32 :=
  (gO S 3 x0) >>= fun _ =>
  (gQ S 3 x0 3) >>= fun y1 =>
  y1 >>= fun a2 =>
  (gA S 6 a2 2) >>= fun y3 =>
  (lI S 0 y3 (x1 - 1)) >>= fun y4 =>
  (some (((y4) : Int32).toInt64)) >>= fun y5 =>
  (gQ S 3 x0 3) >>= fun y6 =>
  y6 >>= fun a7 =>
  (gA S 6 a7 2) >>= fun y8 =>
  (lI S 0 y8 x1) >>= fun y9 =>
  (some (((y9) : Int32).toInt64)) >>= fun y10 =>
  (gQ S 3 x0 3) >>= fun y11 =>
  y11 >>= fun a12 =>
  (gA S 6 a12 2) >>= fun y13 =>
  (lI S 0 y13 (x1 + 1)) >>= fun y14 =>
  (some (((y14) : Int32).toInt64)) >>= fun y15 =>
  (C_X3_heightAt F S x0 x1) >>= fun r16 =>
  (C_X3_heightAt F S x0 (x1 - 1)) >>= fun r17 =>
  (some (((r16 * y5) * y15) - ((r17 * y10) * y15))) >>= fun y18 =>
  (gQ S 3 x0 3) >>= fun y19 =>
  y19 >>= fun a20 =>
  (gA S 6 a20 1) >>= fun y21 =>
  (lI S 0 y21 x1) >>= fun y22 =>
  (gQ S 3 x0 3) >>= fun y23 =>
  y23 >>= fun a24 =>
  (gA S 6 a24 1) >>= fun y25 =>
  (lI S 0 y25 (x1 - 1)) >>= fun y26 =>
  (some ((((((y22) : Int32).toInt64) * y5) * y15) - (((((y26) : Int32).toInt64) * y10) * y15))) >>= fun y27 =>
  (C_X3_heightAt F S x0 (x1 + 1)) >>= fun r28 =>
  (C_X3_heightAt F S x0 x1) >>= fun r29 =>
  (some (((r28 * y5) * y10) - ((r29 * y5) * y15))) >>= fun y30 =>
  (gQ S 3 x0 3) >>= fun y31 =>
  y31 >>= fun a32 =>
  (gA S 6 a32 1) >>= fun y33 =>
  (lI S 0 y33 (x1 + 1)) >>= fun y34 =>
  (gQ S 3 x0 3) >>= fun y35 =>
  y35 >>= fun a36 =>
  (gA S 6 a36 1) >>= fun y37 =>
  (lI S 0 y37 x1) >>= fun y38 =>
  (some ((((((y34) : Int32).toInt64) * y5) * y10) - (((((y38) : Int32).toInt64) * y5) * y15))) >>= fun y39 =>
  if y18 * y39 = y30 * y27 then (
  some 0)
  else (
  some 1)
theorem rc_X3_turns {F : Nat} {S : St} {x0 : Nat} {x1 : Int32} {r : Int32} (h : C_X3_turns F S x0 x1 = some r) : ∃ fs, gO S 3 x0 = some fs := by
  unfold C_X3_turns at h
  obtain ⟨fs, h1, -⟩ := ob h
  exact ⟨fs, h1⟩
/- NetworkCenters$Plan corner(II)I -/
def C_X3_corner_108 (F : Nat) (k66 : Int32 → Int32 → St → Option (Int32 × St)) (x0 : Nat) (x3 : Int32) (x4 : Int32) (x5 : Int32) (x6 : Int32) (S : St) : Option (Int32 × St) :=
  (some (x6 + 1)) >>= fun y17 =>
  k66 x5 y17 S
def C_X3_corner_97 (F : Nat) (k66 : Int32 → Int32 → St → Option (Int32 × St)) (x0 : Nat) (x3 : Int32) (x4 : Int32) (x5 : Int32) (x6 : Int32) (S : St) : Option (Int32 × St) :=
  if x5 = 0 then (
  some (x6, S))
  else (
  (some (x5 + (-1))) >>= fun y16 =>
  C_X3_corner_108 F k66 x0 x3 x4 y16 x6 S)
def C_X3_corner_66 (F : Nat) (x0 : Nat) (x3 : Int32) (x4 : Int32) : Nat → Int32 → Int32 → St → Option (Int32 × St)
  | 0, _, _, _ => none
  | n + 1, x5, x6, S =>
    if x4 ≤ x6 then (
    some ((-1), S))
    else (
    if x6 = x3 then (
    C_X3_corner_97 F (C_X3_corner_66 F x0 x3 x4 n) x0 x3 x4 x5 x6 S)
    else (
    if x6 = x4 - 1 then (
    C_X3_corner_97 F (C_X3_corner_66 F x0 x3 x4 n) x0 x3 x4 x5 x6 S)
    else (
    (C_X3_turns F S x0 x6) >>= fun r15 =>
    if r15 = 0 then (
    C_X3_corner_108 F (C_X3_corner_66 F x0 x3 x4 n) x0 x3 x4 x5 x6 S)
    else (
    C_X3_corner_97 F (C_X3_corner_66 F x0 x3 x4 n) x0 x3 x4 x5 x6 S))))
def C_X3_corner_60 (F : Nat) (x0 : Nat) (x2 : Int32) (x3 : Int32) (x4 : Int32) (S : St) : Option (Int32 × St) :=
  C_X3_corner_66 F x0 x3 x4 F x2 x3 S
def C_X3_corner_28 (F : Nat) (x0 : Nat) (x1 : Int32) (x2 : Int32) (x3 : Int32) : Nat → Int32 → St → Option (Int32 × St)
  | 0, _, _ => none
  | n + 1, x4, S =>
    (gQ S 3 x0 3) >>= fun y7 =>
    y7 >>= fun a8 =>
    (gI S 6 a8 3) >>= fun y9 =>
    if y9 ≤ x4 then (
    C_X3_corner_60 F x0 x2 x3 x4 S)
    else (
    (gQ S 3 x0 3) >>= fun y10 =>
    y10 >>= fun a11 =>
    (gA S 6 a11 0) >>= fun y12 =>
    (lI S 0 y12 x4) >>= fun y13 =>
    if y13 = x1 then (
    (some (x4 + 1)) >>= fun y14 =>
    C_X3_corner_28 F x0 x1 x2 x3 n y14 S)
    else (
    C_X3_corner_60 F x0 x2 x3 x4 S))
def C_X3_corner_25 (F : Nat) (x0 : Nat) (x1 : Int32) (x2 : Int32) (x3 : Int32) (S : St) : Option (Int32 × St) :=
  C_X3_corner_28 F x0 x1 x2 x3 F x3 S
def C_X3_corner_6 (F : Nat) (x0 : Nat) (x1 : Int32) (x2 : Int32) : Nat → Int32 → St → Option (Int32 × St)
  | 0, _, _ => none
  | n + 1, x3, S =>
    (gQ S 3 x0 3) >>= fun y2 =>
    y2 >>= fun a3 =>
    (gA S 6 a3 0) >>= fun y4 =>
    (lI S 0 y4 x3) >>= fun y5 =>
    if y5 = x1 then (
    C_X3_corner_25 F x0 x1 x2 x3 S)
    else (
    (some (x3 + 1)) >>= fun y6 =>
    C_X3_corner_6 F x0 x1 x2 n y6 S)
def C_X3_corner (F : Nat) (S : St) (x0 : Nat) (x1 : Int32) (x2 : Int32) : Option (Int32 × St) :=
  (gO S 3 x0) >>= fun _ =>
  (C_X3_layPoints F S x0) >>= fun r1 =>
  C_X3_corner_6 F x0 x1 x2 F 0 r1
theorem rc_X3_corner {F : Nat} {S : St} {x0 : Nat} {x1 : Int32} {x2 : Int32} {r : Int32 × St} (h : C_X3_corner F S x0 x1 x2 = some r) : ∃ fs, gO S 3 x0 = some fs := by
  unfold C_X3_corner at h
  obtain ⟨fs, h1, -⟩ := ob h
  exact ⟨fs, h1⟩
/- NetworkCenters cornerOf(III)I -/
def C_X1_cornerOf_17 (F : Nat) (x0 : Nat) (x3 : Int32) (s0 : Int32) (S : St) : Option (Int32 × St) :=
  if s0 = (-1) then (
  some ((-1), S))
  else (
  (gA S 1 x0 1) >>= fun y3 =>
  (gQ S 3 y3 3) >>= fun y4 =>
  if x3 = 0 then (
  y4 >>= fun a5 =>
  (gA S 6 a5 1) >>= fun y6 =>
  (lI S 0 y6 s0) >>= fun y7 =>
  some (y7, S))
  else (
  if x3 = 1 then (
  y4 >>= fun a8 =>
  (gA S 6 a8 2) >>= fun y9 =>
  (lI S 0 y9 s0) >>= fun y10 =>
  some (y10, S))
  else (
  (gA S 1 x0 1) >>= fun y11 =>
  (C_X3_heightAt F S y11 s0) >>= fun r12 =>
  y4 >>= fun a13 =>
  (gA S 6 a13 2) >>= fun y14 =>
  (lI S 0 y14 s0) >>= fun y15 =>
  (C_X1_partOf r12 (((y15) : Int32).toInt64) (x3 - 2)) >>= fun r16 =>
  some (r16, S))))
def C_X1_cornerOf (F : Nat) (S : St) (x0 : Nat) (x1 : Int32) (x2 : Int32) (x3 : Int32) : Option (Int32 × St) :=
  (gO S 1 x0) >>= fun _ =>
  if 0 ≤ x2 then (
  (gA S 1 x0 1) >>= fun y1 =>
  (C_X3_corner F S y1 x1 x2) >>= fun r2 =>
  C_X1_cornerOf_17 F x0 x3 (r2.1) r2.2)
  else (
  C_X1_cornerOf_17 F x0 x3 (-1) S)
theorem rc_X1_cornerOf {F : Nat} {S : St} {x0 : Nat} {x1 : Int32} {x2 : Int32} {x3 : Int32} {r : Int32 × St} (h : C_X1_cornerOf F S x0 x1 x2 x3 = some r) : ∃ fs, gO S 1 x0 = some fs := by
  unfold C_X1_cornerOf at h
  obtain ⟨fs, h1, -⟩ := ob h
  exact ⟨fs, h1⟩
/- NetworkCenters placeOf(II)I -/
def C_X1_placeOf (S : St) (x0 : Nat) (x1 : Int32) (x2 : Int32) : Option Int32 :=
  (gO S 1 x0) >>= fun _ =>
  if x2 = 0 then (
  (gA S 1 x0 1) >>= fun y1 =>
  (gQ S 3 y1 3) >>= fun y2 =>
  y2 >>= fun a3 =>
  (gA S 6 a3 0) >>= fun y4 =>
  (lI S 0 y4 x1) >>= fun y5 =>
  some y5)
  else (
  if x2 = 1 then (
  (gA S 1 x0 1) >>= fun y6 =>
  (gQ S 3 y6 3) >>= fun y7 =>
  y7 >>= fun a8 =>
  (gA S 6 a8 1) >>= fun y9 =>
  (lI S 0 y9 x1) >>= fun y10 =>
  some y10)
  else (
  (gA S 1 x0 1) >>= fun y11 =>
  (gQ S 3 y11 3) >>= fun y12 =>
  y12 >>= fun a13 =>
  (gA S 6 a13 2) >>= fun y14 =>
  (lI S 0 y14 x1) >>= fun y15 =>
  some y15))
theorem rc_X1_placeOf {S : St} {x0 : Nat} {x1 : Int32} {x2 : Int32} {r : Int32} (h : C_X1_placeOf S x0 x1 x2 = some r) : ∃ fs, gO S 1 x0 = some fs := by
  unfold C_X1_placeOf at h
  obtain ⟨fs, h1, -⟩ := ob h
  exact ⟨fs, h1⟩
/- NetworkCenters$Plan cost(IJJ)J -/
def C_X3_cost_6 (F : Nat) (S : St) (x0 : Nat) (x1 : Int32) (x2 : Int64) (x4 : Int64) : Nat → Int64 → Int32 → Option Int64
  | 0, _, _ => none
  | n + 1, x6, x8 =>
    (gI S 3 x0 1) >>= fun y1 =>
    if y1 ≤ x8 then (
    some x6)
    else (
    (gA S 3 x0 0) >>= fun y2 =>
    (gA S 2 y2 0) >>= fun y3 =>
    (lI S 0 y3 x8) >>= fun y4 =>
    (C_X3_distanceTo S x0 x8 x1 x2 x4) >>= fun r5 =>
    (some (x6 + ((((y4) : Int32).toInt64) * r5))) >>= fun y6 =>
    (some (x8 + 1)) >>= fun y7 =>
    C_X3_cost_6 F S x0 x1 x2 x4 n y6 y7)
def C_X3_cost (F : Nat) (S : St) (x0 : Nat) (x1 : Int32) (x2 : Int64) (x4 : Int64) : Option Int64 :=
  (gO S 3 x0) >>= fun _ =>
  C_X3_cost_6 F S x0 x1 x2 x4 F 0 0
theorem rc_X3_cost {F : Nat} {S : St} {x0 : Nat} {x1 : Int32} {x2 : Int64} {x4 : Int64} {r : Int64} (h : C_X3_cost F S x0 x1 x2 x4 = some r) : ∃ fs, gO S 3 x0 = some fs := by
  unfold C_X3_cost at h
  obtain ⟨fs, h1, -⟩ := ob h
  exact ⟨fs, h1⟩
/- NetworkCenters$Plan isLess(JJJJ)Z -/
def C_X3_isLess (x0 : Int64) (x2 : Int64) (x4 : Int64) (x6 : Int64) : Option Int32 :=
  if x4 * x2 ≤ x0 * x6 then (
  some 0)
  else (
  some 1)
/- NetworkCenters$Plan median()I -/
def C_X3_median_102 (F : Nat) (k18 : Int32 → Int64 → Int32 → St → Option (Int32 × St)) (x0 : Nat) (x1 : Int32) (x2 : Int64) (x4 : Int32) (S : St) : Option (Int32 × St) :=
  (gQ S 3 x0 4) >>= fun y28 =>
  y28 >>= fun a29 =>
  (C_J27_nextSetBit F S a29 (x4 + 1)) >>= fun r30 =>
  (some (r30.1)) >>= fun y31 =>
  k18 x1 x2 y31 r30.2
def C_X3_median_96 (F : Nat) (k18 : Int32 → Int64 → Int32 → St → Option (Int32 × St)) (x0 : Nat) (x4 : Int32) (x5 : Int64) (S : St) : Option (Int32 × St) :=
  C_X3_median_102 F k18 x0 x4 x5 x4 S
def C_X3_median_18 (F : Nat) (x0 : Nat) : Nat → Int32 → Int64 → Int32 → St → Option (Int32 × St)
  | 0, _, _, _, _ => none
  | n + 1, x1, x2, x4, S =>
    if x4 < 0 then (
    some (x1, S))
    else (
    (gQ S 3 x0 3) >>= fun y6 =>
    y6 >>= fun a7 =>
    (gA S 6 a7 0) >>= fun y8 =>
    (lI S 0 y8 x4) >>= fun y9 =>
    (gQ S 3 x0 3) >>= fun y10 =>
    y10 >>= fun a11 =>
    (gA S 6 a11 1) >>= fun y12 =>
    (lI S 0 y12 x4) >>= fun y13 =>
    (gQ S 3 x0 3) >>= fun y14 =>
    y14 >>= fun a15 =>
    (gA S 6 a15 2) >>= fun y16 =>
    (lI S 0 y16 x4) >>= fun y17 =>
    (C_X3_cost F S x0 y9 (((y13) : Int32).toInt64) (((y17) : Int32).toInt64)) >>= fun r18 =>
    if x1 = (-1) then (
    C_X3_median_96 F (C_X3_median_18 F x0 n) x0 x4 r18 S)
    else (
    (gQ S 3 x0 3) >>= fun y19 =>
    y19 >>= fun a20 =>
    (gA S 6 a20 2) >>= fun y21 =>
    (lI S 0 y21 x4) >>= fun y22 =>
    (gQ S 3 x0 3) >>= fun y23 =>
    y23 >>= fun a24 =>
    (gA S 6 a24 2) >>= fun y25 =>
    (lI S 0 y25 x1) >>= fun y26 =>
    (C_X3_isLess r18 (((y22) : Int32).toInt64) x2 (((y26) : Int32).toInt64)) >>= fun r27 =>
    if r27 = 0 then (
    C_X3_median_102 F (C_X3_median_18 F x0 n) x0 x1 x2 x4 S)
    else (
    C_X3_median_96 F (C_X3_median_18 F x0 n) x0 x4 r18 S)))
def C_X3_median (F : Nat) (S : St) (x0 : Nat) : Option (Int32 × St) :=
  (gO S 3 x0) >>= fun _ =>
  (C_X3_layPoints F S x0) >>= fun r1 =>
  (gQ r1 3 x0 4) >>= fun y2 =>
  y2 >>= fun a3 =>
  (C_J27_nextSetBit F r1 a3 0) >>= fun r4 =>
  (some (r4.1)) >>= fun y5 =>
  C_X3_median_18 F x0 F (-1) 0 y5 r4.2
theorem rc_X3_median {F : Nat} {S : St} {x0 : Nat} {r : Int32 × St} (h : C_X3_median F S x0 = some r) : ∃ fs, gO S 3 x0 = some fs := by
  unfold C_X3_median at h
  obtain ⟨fs, h1, -⟩ := ob h
  exact ⟨fs, h1⟩
/- NetworkCenters medianOf(I)I -/
def C_X1_medianOf (F : Nat) (S : St) (x0 : Nat) (x1 : Int32) : Option (Int32 × St) :=
  (gO S 1 x0) >>= fun _ =>
  (gA S 1 x0 1) >>= fun y1 =>
  (C_X3_median F S y1) >>= fun r2 =>
  (some (r2.1)) >>= fun y3 =>
  if 3 ≤ x1 then (
  (gA r2.2 1 x0 1) >>= fun y4 =>
  (gQ r2.2 3 y4 3) >>= fun y5 =>
  (gA r2.2 1 x0 1) >>= fun y6 =>
  y5 >>= fun a7 =>
  (gA r2.2 6 a7 0) >>= fun y8 =>
  (lI r2.2 0 y8 y3) >>= fun y9 =>
  (gA r2.2 6 a7 1) >>= fun y10 =>
  (lI r2.2 0 y10 y3) >>= fun y11 =>
  (gA r2.2 6 a7 2) >>= fun y12 =>
  (lI r2.2 0 y12 y3) >>= fun y13 =>
  (C_X3_cost F r2.2 y6 y9 (((y11) : Int32).toInt64) (((y13) : Int32).toInt64)) >>= fun r14 =>
  (gA r2.2 6 a7 2) >>= fun y15 =>
  (lI r2.2 0 y15 y3) >>= fun y16 =>
  (C_X1_partOf r14 (((y16) : Int32).toInt64) (x1 - 3)) >>= fun r17 =>
  some (r17, r2.2))
  else (
  (C_X1_placeOf r2.2 x0 y3 x1) >>= fun r18 =>
  some (r18, r2.2))
theorem rc_X1_medianOf {F : Nat} {S : St} {x0 : Nat} {x1 : Int32} {r : Int32 × St} (h : C_X1_medianOf F S x0 x1 = some r) : ∃ fs, gO S 1 x0 = some fs := by
  unfold C_X1_medianOf at h
  obtain ⟨fs, h1, -⟩ := ob h
  exact ⟨fs, h1⟩
/- NetworkCenters$Plan layCenter(I)V -/
def C_X3_layCenter_99 (F : Nat) (k14 : Int32 → Int64 → Int32 → St → Option St) (x0 : Nat) (x1 : Int32) (x2 : Int32) (x3 : Int64) (x5 : Int32) (S : St) : Option St :=
  (gQ S 3 x0 4) >>= fun y33 =>
  y33 >>= fun a34 =>
  (C_J27_nextSetBit F S a34 (x5 + 1)) >>= fun r35 =>
  (some (r35.1)) >>= fun y36 =>
  k14 x2 x3 y36 r35.2
def C_X3_layCenter_93 (F : Nat) (k14 : Int32 → Int64 → Int32 → St → Option St) (x0 : Nat) (x1 : Int32) (x5 : Int32) (x6 : Int64) (S : St) : Option St :=
  C_X3_layCenter_99 F k14 x0 x1 x5 x6 x5 S
def C_X3_layCenter_115 (F : Nat) (x0 : Nat) (x1 : Int32) (x2 : Int32) (x3 : Int64) (S : St) : Option St :=
  (gQ S 3 x0 5) >>= fun y27 =>
  y27 >>= fun a28 =>
  (tI S 0 a28 x1 x2) >>= fun S29 =>
  (gQ S29 3 x0 6) >>= fun y30 =>
  y30 >>= fun a31 =>
  (tJ S29 1 a31 x1 x3) >>= fun S32 =>
  some S32
def C_X3_layCenter_14 (F : Nat) (x0 : Nat) (x1 : Int32) : Nat → Int32 → Int64 → Int32 → St → Option St
  | 0, _, _, _, _ => none
  | n + 1, x2, x3, x5, S =>
    if x5 < 0 then (
    C_X3_layCenter_115 F x0 x1 x2 x3 S)
    else (
    (gQ S 3 x0 3) >>= fun y5 =>
    y5 >>= fun a6 =>
    (gA S 6 a6 0) >>= fun y7 =>
    (lI S 0 y7 x5) >>= fun y8 =>
    (gQ S 3 x0 3) >>= fun y9 =>
    y9 >>= fun a10 =>
    (gA S 6 a10 1) >>= fun y11 =>
    (lI S 0 y11 x5) >>= fun y12 =>
    (gQ S 3 x0 3) >>= fun y13 =>
    y13 >>= fun a14 =>
    (gA S 6 a14 2) >>= fun y15 =>
    (lI S 0 y15 x5) >>= fun y16 =>
    (C_X3_height F S x0 x1 y8 (((y12) : Int32).toInt64) (((y16) : Int32).toInt64)) >>= fun r17 =>
    if x2 = (-1) then (
    C_X3_layCenter_93 F (C_X3_layCenter_14 F x0 x1 n) x0 x1 x5 r17 S)
    else (
    (gQ S 3 x0 3) >>= fun y18 =>
    y18 >>= fun a19 =>
    (gA S 6 a19 2) >>= fun y20 =>
    (lI S 0 y20 x5) >>= fun y21 =>
    (gQ S 3 x0 3) >>= fun y22 =>
    y22 >>= fun a23 =>
    (gA S 6 a23 2) >>= fun y24 =>
    (lI S 0 y24 x2) >>= fun y25 =>
    (C_X3_isLess r17 (((y21) : Int32).toInt64) x3 (((y25) : Int32).toInt64)) >>= fun r26 =>
    if r26 = 0 then (
    C_X3_layCenter_99 F (C_X3_layCenter_14 F x0 x1 n) x0 x1 x2 x3 x5 S)
    else (
    C_X3_layCenter_93 F (C_X3_layCenter_14 F x0 x1 n) x0 x1 x5 r17 S)))
def C_X3_layCenter (F : Nat) (S : St) (x0 : Nat) (x1 : Int32) : Option St :=
  (gO S 3 x0) >>= fun _ =>
  (gQ S 3 x0 4) >>= fun y1 =>
  y1 >>= fun a2 =>
  (C_J27_nextSetBit F S a2 0) >>= fun r3 =>
  (some (r3.1)) >>= fun y4 =>
  C_X3_layCenter_14 F x0 x1 F (-1) 0 y4 r3.2
theorem rc_X3_layCenter {F : Nat} {S : St} {x0 : Nat} {x1 : Int32} {r : St} (h : C_X3_layCenter F S x0 x1 = some r) : ∃ fs, gO S 3 x0 = some fs := by
  unfold C_X3_layCenter at h
  obtain ⟨fs, h1, -⟩ := ob h
  exact ⟨fs, h1⟩
/- NetworkCenters$Plan layCenters()V -/
def C_X3_layCenters_37 (F : Nat) (x0 : Nat) : Nat → Int32 → St → Option St
  | 0, _, _ => none
  | n + 1, x1, S =>
    (gQ S 3 x0 5) >>= fun y9 =>
    y9 >>= fun a10 =>
    (aN S 0 a10) >>= fun y11 =>
    if y11 ≤ x1 then (
    some S)
    else (
    (gQ S 3 x0 5) >>= fun y12 =>
    y12 >>= fun a13 =>
    (tI S 0 a13 x1 (-1)) >>= fun S14 =>
    (some (x1 + 1)) >>= fun y15 =>
    C_X3_layCenters_37 F x0 n y15 S14)
def C_X3_layCenters (F : Nat) (S : St) (x0 : Nat) : Option St :=
  (gO S 3 x0) >>= fun _ =>
  (C_X3_layPoints F S x0) >>= fun r1 =>
  (gQ r1 3 x0 5) >>= fun y2 =>
  if y2 = none then (
  (gI r1 3 x0 1) >>= fun y3 =>
  (nI_ r1 0 (1 <<< (y3 &&& 31))) >>= fun r4 =>
  (gP r4.2 3 x0 5 (.ref (r4.1))) >>= fun S5 =>
  (gI S5 3 x0 1) >>= fun y6 =>
  (nJ_ S5 1 (1 <<< (y6 &&& 31))) >>= fun r7 =>
  (gP r7.2 3 x0 6 (.ref (r7.1))) >>= fun S8 =>
  C_X3_layCenters_37 F x0 F 0 S8)
  else (
  some r1)
theorem rc_X3_layCenters {F : Nat} {S : St} {x0 : Nat} {r : St} (h : C_X3_layCenters F S x0 = some r) : ∃ fs, gO S 3 x0 = some fs := by
  unfold C_X3_layCenters at h
  obtain ⟨fs, h1, -⟩ := ob h
  exact ⟨fs, h1⟩
/- NetworkCenters$Plan center(I)I -/
def C_X3_center_19 (F : Nat) (x0 : Nat) (x1 : Int32) (S : St) : Option (Int32 × St) :=
  (gQ S 3 x0 5) >>= fun y6 =>
  y6 >>= fun a7 =>
  (lI S 0 a7 x1) >>= fun y8 =>
  some (y8, S)
def C_X3_center (F : Nat) (S : St) (x0 : Nat) (x1 : Int32) : Option (Int32 × St) :=
  (gO S 3 x0) >>= fun _ =>
  (C_X3_layCenters F S x0) >>= fun r1 =>
  (gQ r1 3 x0 5) >>= fun y2 =>
  y2 >>= fun a3 =>
  (lI r1 0 a3 x1) >>= fun y4 =>
  if y4 = (-1) then (
  (C_X3_layCenter F r1 x0 x1) >>= fun r5 =>
  C_X3_center_19 F x0 x1 r5)
  else (
  C_X3_center_19 F x0 x1 r1)
theorem rc_X3_center {F : Nat} {S : St} {x0 : Nat} {x1 : Int32} {r : Int32 × St} (h : C_X3_center F S x0 x1 = some r) : ∃ fs, gO S 3 x0 = some fs := by
  unfold C_X3_center at h
  obtain ⟨fs, h1, -⟩ := ob h
  exact ⟨fs, h1⟩
/- NetworkCenters$Plan critical(I)I -/
def C_X3_critical_107 (F : Nat) (k11 : Int32 → Int32 → St → Option (Int32 × St)) (x0 : Nat) (x1 : Int32) (x2 : Int32) (x4 : Int32) (s0 : Int32) (s1 : Int32) (S : St) : Option (Int32 × St) :=
  (some (s0 ||| s1)) >>= fun y24 =>
  (some (x4 + 1)) >>= fun y25 =>
  k11 y24 y25 S
def C_X3_critical_91 (F : Nat) (k11 : Int32 → Int32 → St → Option (Int32 × St)) (x0 : Nat) (x1 : Int32) (x2 : Int32) (x3 : Int32) (x4 : Int32) (s0 : Int32) (S : St) : Option (Int32 × St) :=
  if s0 = 0 then (
  C_X3_critical_107 F k11 x0 x1 x2 x4 x3 0 S)
  else (
  C_X3_critical_107 F k11 x0 x1 x2 x4 x3 (1 <<< (x4 &&& 31)) S)
def C_X3_critical_90 (F : Nat) (k11 : Int32 → Int32 → St → Option (Int32 × St)) (x0 : Nat) (x1 : Int32) (x2 : Int32) (x3 : Int32) (x4 : Int32) (S : St) : Option (Int32 × St) :=
  C_X3_critical_91 F k11 x0 x1 x2 x3 x4 0 S
def C_X3_critical_11 (F : Nat) (x0 : Nat) (x1 : Int32) (x2 : Int32) : Nat → Int32 → Int32 → St → Option (Int32 × St)
  | 0, _, _, _ => none
  | n + 1, x3, x4, S =>
    (gI S 3 x0 1) >>= fun y3 =>
    if y3 ≤ x4 then (
    some (x3, S))
    else (
    (C_X1_has x1 x4) >>= fun r4 =>
    if r4 = 0 then (
    C_X3_critical_90 F (C_X3_critical_11 F x0 x1 x2 n) x0 x1 x2 x3 x4 S)
    else (
    (gA S 3 x0 0) >>= fun y5 =>
    (gA S 2 y5 0) >>= fun y6 =>
    (lI S 0 y6 x4) >>= fun y7 =>
    (gQ S 3 x0 3) >>= fun y8 =>
    y8 >>= fun a9 =>
    (gA S 6 a9 0) >>= fun y10 =>
    (lI S 0 y10 x2) >>= fun y11 =>
    (gQ S 3 x0 3) >>= fun y12 =>
    y12 >>= fun a13 =>
    (gA S 6 a13 1) >>= fun y14 =>
    (lI S 0 y14 x2) >>= fun y15 =>
    (gQ S 3 x0 3) >>= fun y16 =>
    y16 >>= fun a17 =>
    (gA S 6 a17 2) >>= fun y18 =>
    (lI S 0 y18 x2) >>= fun y19 =>
    (C_X3_distanceTo S x0 x4 y11 (((y15) : Int32).toInt64) (((y19) : Int32).toInt64)) >>= fun r20 =>
    (gQ S 3 x0 6) >>= fun y21 =>
    y21 >>= fun a22 =>
    (lJ S 1 a22 x1) >>= fun y23 =>
    if (((y7) : Int32).toInt64) * r20 = y23 then (
    C_X3_critical_91 F (C_X3_critical_11 F x0 x1 x2 n) x0 x1 x2 x3 x4 1 S)
    else (
    C_X3_critical_90 F (C_X3_critical_11 F x0 x1 x2 n) x0 x1 x2 x3 x4 S)))
def C_X3_critical (F : Nat) (S : St) (x0 : Nat) (x1 : Int32) : Option (Int32 × St) :=
  (gO S 3 x0) >>= fun _ =>
  (C_X3_center F S x0 x1) >>= fun r1 =>
  (some (r1.1)) >>= fun y2 =>
  C_X3_critical_11 F x0 x1 y2 F 0 0 r1.2
theorem rc_X3_critical {F : Nat} {S : St} {x0 : Nat} {x1 : Int32} {r : Int32 × St} (h : C_X3_critical F S x0 x1 = some r) : ∃ fs, gO S 3 x0 = some fs := by
  unfold C_X3_critical at h
  obtain ⟨fs, h1, -⟩ := ob h
  exact ⟨fs, h1⟩
/- NetworkCenters$Plan above(I)J -/
def C_X3_above (F : Nat) (S : St) (x0 : Nat) (x1 : Int32) : Option (Int64 × St) :=
  (gO S 3 x0) >>= fun _ =>
  (C_X3_center F S x0 x1) >>= fun r1 =>
  (gQ r1.2 3 x0 6) >>= fun y2 =>
  y2 >>= fun a3 =>
  (lJ r1.2 1 a3 x1) >>= fun y4 =>
  some (y4, r1.2)
theorem rc_X3_above {F : Nat} {S : St} {x0 : Nat} {x1 : Int32} {r : Int64 × St} (h : C_X3_above F S x0 x1 = some r) : ∃ fs, gO S 3 x0 = some fs := by
  unfold C_X3_above at h
  obtain ⟨fs, h1, -⟩ := ob h
  exact ⟨fs, h1⟩
/- NetworkCenters$Plan below(I)J -/
def C_X3_below (F : Nat) (S : St) (x0 : Nat) (x1 : Int32) : Option (Int64 × St) :=
  (gO S 3 x0) >>= fun _ =>
  (gQ S 3 x0 3) >>= fun y1 =>
  y1 >>= fun a2 =>
  (gA S 6 a2 2) >>= fun y3 =>
  (C_X3_center F S x0 x1) >>= fun r4 =>
  (lI r4.2 0 y3 (r4.1)) >>= fun y5 =>
  some (((y5) : Int32).toInt64, r4.2)
theorem rc_X3_below {F : Nat} {S : St} {x0 : Nat} {x1 : Int32} {r : Int64 × St} (h : C_X3_below F S x0 x1 = some r) : ∃ fs, gO S 3 x0 = some fs := by
  unfold C_X3_below at h
  obtain ⟨fs, h1, -⟩ := ob h
  exact ⟨fs, h1⟩
/- NetworkCenters$Plan isAtMost(IJJ)Z -/
def C_X3_isAtMost (F : Nat) (S : St) (x0 : Nat) (x1 : Int32) (x2 : Int64) (x4 : Int64) : Option (Int32 × St) :=
  (gO S 3 x0) >>= fun _ =>
  (C_X3_above F S x0 x1) >>= fun r1 =>
  (C_X3_below F r1.2 x0 x1) >>= fun r2 =>
  (C_X3_isLess x2 x4 (r1.1) (r2.1)) >>= fun r3 =>
  if r3 = 0 then (
  some (1, r2.2))
  else (
  some (0, r2.2))
theorem rc_X3_isAtMost {F : Nat} {S : St} {x0 : Nat} {x1 : Int32} {x2 : Int64} {x4 : Int64} {r : Int32 × St} (h : C_X3_isAtMost F S x0 x1 x2 x4 = some r) : ∃ fs, gO S 3 x0 = some fs := by
  unfold C_X3_isAtMost at h
  obtain ⟨fs, h1, -⟩ := ob h
  exact ⟨fs, h1⟩
/- NetworkCenters$Plan isDivided(IIJJ)Z -/
def C_X3_isDivided_8 (F : Nat) (kR : St → Nat → Int32 → Int32 → Int64 → Int64 → Option (Int32 × St)) (x1 : Int32) (S : St) : Option (Int32 × St) :=
  if x1 = 0 then (
  some (1, S))
  else (
  some (0, S))
def C_X3_isDivided_83 (F : Nat) (kR : St → Nat → Int32 → Int32 → Int64 → Int64 → Option (Int32 × St)) (k48 : Int32 → St → Option (Int32 × St)) (x0 : Nat) (x2 : Int32) (x3 : Int64) (x5 : Int64) (x7 : Int32) (x8 : Int32) (x9 : Int32) (S : St) : Option (Int32 × St) :=
  if x9 = 0 then (
  some (0, S))
  else (
  (some ((x9 - 1) &&& x8)) >>= fun y7 =>
  k48 y7 S)
def C_X3_isDivided_48 (F : Nat) (kR : St → Nat → Int32 → Int32 → Int64 → Int64 → Option (Int32 × St)) (x0 : Nat) (x2 : Int32) (x3 : Int64) (x5 : Int64) (x7 : Int32) (x8 : Int32) : Nat → Int32 → St → Option (Int32 × St)
  | 0, _, _ => none
  | n + 1, x9, S =>
    (C_X3_isAtMost F S x0 (x9 ||| x7) x3 x5) >>= fun r5 =>
    if r5.1 = 0 then (
    C_X3_isDivided_83 F kR (C_X3_isDivided_48 F kR x0 x2 x3 x5 x7 x8 n) x0 x2 x3 x5 x7 x8 x9 r5.2)
    else (
    (kR r5.2 x0 (x8 ^^^ x9) (x2 - 1) x3 x5) >>= fun r6 =>
    if r6.1 = 0 then (
    C_X3_isDivided_83 F kR (C_X3_isDivided_48 F kR x0 x2 x3 x5 x7 x8 n) x0 x2 x3 x5 x7 x8 x9 r6.2)
    else (
    some (1, r6.2)))
def C_X3_isDivided_b (F : Nat) (kR : St → Nat → Int32 → Int32 → Int64 → Int64 → Option (Int32 × St)) (S : St) (x0 : Nat) (x1 : Int32) (x2 : Int32) (x3 : Int64) (x5 : Int64) : Option (Int32 × St) :=
  (gO S 3 x0) >>= fun _ =>
  if x2 = 0 then (
  C_X3_isDivided_8 F kR x1 S)
  else (
  if x1 = 0 then (
  C_X3_isDivided_8 F kR x1 S)
  else (
  if x2 = 1 then (
  (C_X3_isAtMost F S x0 x1 x3 x5) >>= fun r1 =>
  (zz (r1.1)) >>= fun b2 => some (b2, r1.2))
  else (
  (some (x1 &&& (-x1))) >>= fun y3 =>
  (some (x1 ^^^ y3)) >>= fun y4 =>
  C_X3_isDivided_48 F kR x0 x2 x3 x5 y3 y4 F y4 S)))
def C_X3_isDivided_d (F : Nat) : Nat → St → Nat → Int32 → Int32 → Int64 → Int64 → Option (Int32 × St)
  | 0, _, _, _, _, _, _ => none
  | d + 1, S, x0, x1, x2, x3, x5 => C_X3_isDivided_b F (C_X3_isDivided_d F d) S x0 x1 x2 x3 x5
def C_X3_isDivided (F : Nat) (S : St) (x0 : Nat) (x1 : Int32) (x2 : Int32) (x3 : Int64) (x5 : Int64) : Option (Int32 × St) := C_X3_isDivided_d F 12 S x0 x1 x2 x3 x5
theorem rc_X3_isDivided_d {F : Nat} {S : St} {x0 : Nat} {x1 : Int32} {x2 : Int32} {x3 : Int64} {x5 : Int64} {r : Int32 × St} {d : Nat} (h : C_X3_isDivided_d F d S x0 x1 x2 x3 x5 = some r) : ∃ fs, gO S 3 x0 = some fs := by
  cases d with
  | zero => cases h
  | succ d =>
    unfold C_X3_isDivided_d C_X3_isDivided_b at h
    obtain ⟨fs, h1, -⟩ := ob h
    exact ⟨fs, h1⟩
theorem rc_X3_isDivided {F : Nat} {S : St} {x0 : Nat} {x1 : Int32} {x2 : Int32} {x3 : Int64} {x5 : Int64} {r : Int32 × St} (h : C_X3_isDivided F S x0 x1 x2 x3 x5 = some r) : ∃ fs, gO S 3 x0 = some fs := rc_X3_isDivided_d h
/- NetworkCenters$Plan deciding(I)I -/
def C_X3_deciding_72 (F : Nat) (k14 : Int32 → Int32 → St → Option (Int32 × St)) (x0 : Nat) (x1 : Int32) (x2 : Int32) (x3 : Int32) (x4 : Int32) (S : St) : Option (Int32 × St) :=
  (some (x4 + 1)) >>= fun y11 =>
  k14 x3 y11 S
def C_X3_deciding_14 (F : Nat) (x0 : Nat) (x1 : Int32) (x2 : Int32) : Nat → Int32 → Int32 → St → Option (Int32 × St)
  | 0, _, _, _ => none
  | n + 1, x3, x4, S =>
    if x2 < x4 then (
    some (x3, S))
    else (
    (C_X3_above F S x0 x4) >>= fun r3 =>
    (C_X3_below F r3.2 x0 x4) >>= fun r4 =>
    (C_X3_above F r4.2 x0 x3) >>= fun r5 =>
    (C_X3_below F r5.2 x0 x3) >>= fun r6 =>
    (C_X3_isLess (r3.1) (r4.1) (r5.1) (r6.1)) >>= fun r7 =>
    if r7 = 0 then (
    C_X3_deciding_72 F (C_X3_deciding_14 F x0 x1 x2 n) x0 x1 x2 x3 x4 r6.2)
    else (
    (C_X3_above F r6.2 x0 x4) >>= fun r8 =>
    (C_X3_below F r8.2 x0 x4) >>= fun r9 =>
    (C_X3_isDivided F r9.2 x0 x2 x1 (r8.1) (r9.1)) >>= fun r10 =>
    if r10.1 = 0 then (
    C_X3_deciding_72 F (C_X3_deciding_14 F x0 x1 x2 n) x0 x1 x2 x3 x4 r10.2)
    else (
    C_X3_deciding_72 F (C_X3_deciding_14 F x0 x1 x2 n) x0 x1 x2 x4 x4 r10.2)))
def C_X3_deciding (F : Nat) (S : St) (x0 : Nat) (x1 : Int32) : Option (Int32 × St) :=
  (gO S 3 x0) >>= fun _ =>
  (gI S 3 x0 1) >>= fun y1 =>
  (some ((1 <<< (y1 &&& 31)) - 1)) >>= fun y2 =>
  C_X3_deciding_14 F x0 x1 y2 F y2 0 S
theorem rc_X3_deciding {F : Nat} {S : St} {x0 : Nat} {x1 : Int32} {r : Int32 × St} (h : C_X3_deciding F S x0 x1 = some r) : ∃ fs, gO S 3 x0 = some fs := by
  unfold C_X3_deciding at h
  obtain ⟨fs, h1, -⟩ := ob h
  exact ⟨fs, h1⟩
/- NetworkCenters$Plan radius(II)I -/
def C_X3_radius (F : Nat) (S : St) (x0 : Nat) (x1 : Int32) (x2 : Int32) : Option (Int32 × St) :=
  (gO S 3 x0) >>= fun _ =>
  (C_X3_above F S x0 x1) >>= fun r1 =>
  (C_X3_below F r1.2 x0 x1) >>= fun r2 =>
  (C_X1_partOf (r1.1) (r2.1) x2) >>= fun r3 =>
  some (r3, r2.2)
theorem rc_X3_radius {F : Nat} {S : St} {x0 : Nat} {x1 : Int32} {x2 : Int32} {r : Int32 × St} (h : C_X3_radius F S x0 x1 x2 = some r) : ∃ fs, gO S 3 x0 = some fs := by
  unfold C_X3_radius at h
  obtain ⟨fs, h1, -⟩ := ob h
  exact ⟨fs, h1⟩
/- NetworkCenters mixCenters()V -/
def C_X1_mixCenters_178 (F : Nat) (k139 : Int32 → St → Option St) (x0 : Nat) (x3 : Int32) (S : St) : Option St :=
  (some (x3 + 1)) >>= fun y36 =>
  k139 y36 S
def C_X1_mixCenters_154 (F : Nat) (k139 : Int32 → St → Option St) (x0 : Nat) (x3 : Int32) : Nat → Int32 → St → Option St
  | 0, _, _ => none
  | n + 1, x4, S =>
    if 4 ≤ x4 then (
    C_X1_mixCenters_178 F k139 x0 x3 S)
    else (
    (C_X1_cornerOf F S x0 x3 1 x4) >>= fun r33 =>
    (C_X1_mix r33.2 x0 (r33.1)) >>= fun r34 =>
    (some (x4 + 1)) >>= fun y35 =>
    C_X1_mixCenters_154 F k139 x0 x3 n y35 r34)
def C_X1_mixCenters_139 (F : Nat) (x0 : Nat) : Nat → Int32 → St → Option St
  | 0, _, _ => none
  | n + 1, x3, S =>
    (gA S 1 x0 0) >>= fun y30 =>
    (gA S 2 y30 2) >>= fun y31 =>
    (aN S 3 y31) >>= fun y32 =>
    if y32 ≤ x3 then (
    some S)
    else (
    C_X1_mixCenters_154 F (C_X1_mixCenters_139 F x0 n) x0 x3 F 0 S)
def C_X1_mixCenters_102 (F : Nat) (x0 : Nat) (S : St) : Option St :=
  (gA S 1 x0 1) >>= fun y21 =>
  (C_X3_deciding F S y21 2) >>= fun r22 =>
  (some (r22.1)) >>= fun y23 =>
  (gA r22.2 1 x0 1) >>= fun y24 =>
  (C_X3_radius F r22.2 y24 y23 0) >>= fun r25 =>
  (C_X1_mix r25.2 x0 (r25.1)) >>= fun r26 =>
  (gA r26 1 x0 1) >>= fun y27 =>
  (C_X3_radius F r26 y27 y23 1) >>= fun r28 =>
  (C_X1_mix r28.2 x0 (r28.1)) >>= fun r29 =>
  C_X1_mixCenters_139 F x0 F 0 r29
def C_X1_mixCenters_82 (F : Nat) (x0 : Nat) : Nat → Int32 → St → Option St
  | 0, _, _ => none
  | n + 1, x2, S =>
    if 5 ≤ x2 then (
    C_X1_mixCenters_102 F x0 S)
    else (
    (C_X1_medianOf F S x0 x2) >>= fun r18 =>
    (C_X1_mix r18.2 x0 (r18.1)) >>= fun r19 =>
    (some (x2 + 1)) >>= fun y20 =>
    C_X1_mixCenters_82 F x0 n y20 r19)
def C_X1_mixCenters_68 (F : Nat) (x0 : Nat) (x1 : Int32) (S : St) : Option St :=
  (gA S 1 x0 1) >>= fun y15 =>
  (C_X3_critical F S y15 x1) >>= fun r16 =>
  (C_X1_mix r16.2 x0 (r16.1)) >>= fun r17 =>
  C_X1_mixCenters_82 F x0 F 0 r17
def C_X1_mixCenters_40 (F : Nat) (x0 : Nat) (x1 : Int32) : Nat → Int32 → St → Option St
  | 0, _, _ => none
  | n + 1, x2, S =>
    if 3 ≤ x2 then (
    C_X1_mixCenters_68 F x0 x1 S)
    else (
    (gA S 1 x0 1) >>= fun y10 =>
    (C_X3_center F S y10 x1) >>= fun r11 =>
    (C_X1_placeOf r11.2 x0 (r11.1) x2) >>= fun r12 =>
    (C_X1_mix r11.2 x0 r12) >>= fun r13 =>
    (some (x2 + 1)) >>= fun y14 =>
    C_X1_mixCenters_40 F x0 x1 n y14 r13)
def C_X1_mixCenters (F : Nat) (S : St) (x0 : Nat) : Option St :=
  (gO S 1 x0) >>= fun _ =>
  (gA S 1 x0 0) >>= fun y1 =>
  (C_X2_size S y1) >>= fun r2 =>
  (some ((1 <<< (r2 &&& 31)) - 1)) >>= fun y3 =>
  (gA S 1 x0 1) >>= fun y4 =>
  (C_X3_radius F S y4 y3 0) >>= fun r5 =>
  (C_X1_mix r5.2 x0 (r5.1)) >>= fun r6 =>
  (gA r6 1 x0 1) >>= fun y7 =>
  (C_X3_radius F r6 y7 y3 1) >>= fun r8 =>
  (C_X1_mix r8.2 x0 (r8.1)) >>= fun r9 =>
  C_X1_mixCenters_40 F x0 y3 F 0 r9
theorem rc_X1_mixCenters {F : Nat} {S : St} {x0 : Nat} {r : St} (h : C_X1_mixCenters F S x0 = some r) : ∃ fs, gO S 1 x0 = some fs := by
  unfold C_X1_mixCenters at h
  obtain ⟨fs, h1, -⟩ := ob h
  exact ⟨fs, h1⟩
/- NetworkCenters$Network degree(I)I -/
def C_X2_degree_45 (F : Nat) (k4 : Int32 → Int32 → Option Int32) (S : St) (x0 : Nat) (x1 : Int32) (x3 : Int32) (s0 : Int32) (s1 : Int32) : Option Int32 :=
  (some (s0 + s1)) >>= fun y9 =>
  (some (x3 + 1)) >>= fun y10 =>
  k4 y9 y10
def C_X2_degree_40 (F : Nat) (k4 : Int32 → Int32 → Option Int32) (S : St) (x0 : Nat) (x1 : Int32) (x3 : Int32) (s0 : Int32) : Option Int32 :=
  C_X2_degree_45 F k4 S x0 x1 x3 s0 1
def C_X2_degree_4 (F : Nat) (S : St) (x0 : Nat) (x1 : Int32) : Nat → Int32 → Int32 → Option Int32
  | 0, _, _ => none
  | n + 1, x2, x3 =>
    (gA S 2 x0 2) >>= fun y1 =>
    (aN S 3 y1) >>= fun y2 =>
    if y2 ≤ x3 then (
    some x2)
    else (
    (gA S 2 x0 2) >>= fun y3 =>
    (lA S 3 y3 x3) >>= fun y4 =>
    (gI S 4 y4 0) >>= fun y5 =>
    if y5 = x1 then (
    C_X2_degree_40 F (C_X2_degree_4 F S x0 x1 n) S x0 x1 x3 x2)
    else (
    (gA S 2 x0 2) >>= fun y6 =>
    (lA S 3 y6 x3) >>= fun y7 =>
    (gI S 4 y7 1) >>= fun y8 =>
    if y8 = x1 then (
    C_X2_degree_40 F (C_X2_degree_4 F S x0 x1 n) S x0 x1 x3 x2)
    else (
    C_X2_degree_45 F (C_X2_degree_4 F S x0 x1 n) S x0 x1 x3 x2 0)))
def C_X2_degree (F : Nat) (S : St) (x0 : Nat) (x1 : Int32) : Option Int32 :=
  (gO S 2 x0) >>= fun _ =>
  C_X2_degree_4 F S x0 x1 F 0 0
theorem rc_X2_degree {F : Nat} {S : St} {x0 : Nat} {x1 : Int32} {r : Int32} (h : C_X2_degree F S x0 x1 = some r) : ∃ fs, gO S 2 x0 = some fs := by
  unfold C_X2_degree at h
  obtain ⟨fs, h1, -⟩ := ob h
  exact ⟨fs, h1⟩
/- NetworkCenters propertyOf(II)I -/
def C_X1_propertyOf (F : Nat) (S : St) (x0 : Nat) (x1 : Int32) (x2 : Int32) : Option Int32 :=
  (gO S 1 x0) >>= fun _ =>
  if x2 = 0 then (
  (gA S 1 x0 0) >>= fun y1 =>
  (gA S 2 y1 0) >>= fun y2 =>
  (lI S 0 y2 x1) >>= fun y3 =>
  some y3)
  else (
  if x2 = 1 then (
  (gA S 1 x0 0) >>= fun y4 =>
  (gA S 2 y4 1) >>= fun y5 =>
  (lI S 0 y5 x1) >>= fun y6 =>
  some y6)
  else (
  (gA S 1 x0 0) >>= fun y7 =>
  (C_X2_degree F S y7 x1) >>= fun r8 =>
  some r8))
theorem rc_X1_propertyOf {F : Nat} {S : St} {x0 : Nat} {x1 : Int32} {x2 : Int32} {r : Int32} (h : C_X1_propertyOf F S x0 x1 x2 = some r) : ∃ fs, gO S 1 x0 = some fs := by
  unfold C_X1_propertyOf at h
  obtain ⟨fs, h1, -⟩ := ob h
  exact ⟨fs, h1⟩
/- NetworkCenters$Edge property(I)I -/
def C_X5_property (S : St) (x0 : Nat) (x1 : Int32) : Option Int32 :=
  (gO S 4 x0) >>= fun _ =>
  if x1 = 0 then (
  (gI S 4 x0 0) >>= fun y1 =>
  some y1)
  else (
  if x1 = 1 then (
  (gI S 4 x0 1) >>= fun y2 =>
  some y2)
  else (
  (gI S 4 x0 2) >>= fun y3 =>
  some y3))
theorem rc_X5_property {S : St} {x0 : Nat} {x1 : Int32} {r : Int32} (h : C_X5_property S x0 x1 = some r) : ∃ fs, gO S 4 x0 = some fs := by
  unfold C_X5_property at h
  obtain ⟨fs, h1, -⟩ := ob h
  exact ⟨fs, h1⟩
/- NetworkCenters$Plan isUsable()Z -/
def C_X3_isUsable (F : Nat) (S : St) (x0 : Nat) : Option Int32 :=
  (gO S 3 x0) >>= fun _ =>
  (C_X3_isConnected F S x0) >>= fun r1 =>
  if r1 = 0 then (
  some 0)
  else (
  (gA S 3 x0 0) >>= fun y2 =>
  (gA S 2 y2 2) >>= fun y3 =>
  (aN S 3 y3) >>= fun y4 =>
  if y4 ≤ 0 then (
  some 0)
  else (
  some 1))
theorem rc_X3_isUsable {F : Nat} {S : St} {x0 : Nat} {r : Int32} (h : C_X3_isUsable F S x0 = some r) : ∃ fs, gO S 3 x0 = some fs := by
  unfold C_X3_isUsable at h
  obtain ⟨fs, h1, -⟩ := ob h
  exact ⟨fs, h1⟩
/- NetworkCenters$Stretch property(I)I -/
def C_X6_property (S : St) (x0 : Nat) (x1 : Int32) : Option Int32 :=
  (gO S 5 x0) >>= fun _ =>
  if x1 = 0 then (
  (gI S 5 x0 0) >>= fun y1 =>
  some y1)
  else (
  if x1 = 1 then (
  (gI S 5 x0 1) >>= fun y2 =>
  some y2)
  else (
  (gI S 5 x0 2) >>= fun y3 =>
  some y3))
theorem rc_X6_property {S : St} {x0 : Nat} {x1 : Int32} {r : Int32} (h : C_X6_property S x0 x1 = some r) : ∃ fs, gO S 5 x0 = some fs := by
  unfold C_X6_property at h
  obtain ⟨fs, h1, -⟩ := ob h
  exact ⟨fs, h1⟩
/- NetworkCenters checksum()J -/
def C_X1_checksum_65 (F : Nat) (k31 : Int32 → St → Option (Int64 × St)) (x0 : Nat) (x1 : Int32) (S : St) : Option (Int64 × St) :=
  (some (x1 + 1)) >>= fun y13 =>
  k31 y13 S
def C_X1_checksum_44 (F : Nat) (k31 : Int32 → St → Option (Int64 × St)) (x0 : Nat) (x1 : Int32) : Nat → Int32 → St → Option (Int64 × St)
  | 0, _, _ => none
  | n + 1, x2, S =>
    if 3 ≤ x2 then (
    C_X1_checksum_65 F k31 x0 x1 S)
    else (
    (C_X1_propertyOf F S x0 x1 x2) >>= fun r7 =>
    (C_X1_mix S x0 r7) >>= fun r8 =>
    (some (x2 + 1)) >>= fun y9 =>
    C_X1_checksum_44 F k31 x0 x1 n y9 r8)
def C_X1_checksum_115 (F : Nat) (k73 : Int32 → St → Option (Int64 × St)) (x0 : Nat) (x1 : Int32) (S : St) : Option (Int64 × St) :=
  (some (x1 + 1)) >>= fun y23 =>
  k73 y23 S
def C_X1_checksum_87 (F : Nat) (k73 : Int32 → St → Option (Int64 × St)) (x0 : Nat) (x1 : Int32) : Nat → Int32 → St → Option (Int64 × St)
  | 0, _, _ => none
  | n + 1, x2, S =>
    if 3 ≤ x2 then (
    C_X1_checksum_115 F k73 x0 x1 S)
    else (
    (gA S 1 x0 0) >>= fun y14 =>
    (gA S 2 y14 2) >>= fun y15 =>
    (lA S 3 y15 x1) >>= fun y16 =>
    (C_X5_property S y16 x2) >>= fun r17 =>
    (C_X1_mix S x0 r17) >>= fun r18 =>
    (some (x2 + 1)) >>= fun y19 =>
    C_X1_checksum_87 F k73 x0 x1 n y19 r18)
def C_X1_checksum_165 (F : Nat) (k123 : Int32 → St → Option (Int64 × St)) (x0 : Nat) (x1 : Int32) (S : St) : Option (Int64 × St) :=
  (some (x1 + 1)) >>= fun y40 =>
  k123 y40 S
def C_X1_checksum_137 (F : Nat) (k123 : Int32 → St → Option (Int64 × St)) (x0 : Nat) (x1 : Int32) : Nat → Int32 → St → Option (Int64 × St)
  | 0, _, _ => none
  | n + 1, x2, S =>
    if 3 ≤ x2 then (
    C_X1_checksum_165 F k123 x0 x1 S)
    else (
    (gA S 1 x0 0) >>= fun y27 =>
    (gA S 2 y27 3) >>= fun y28 =>
    (lA S 4 y28 x1) >>= fun y29 =>
    (C_X6_property S y29 x2) >>= fun r30 =>
    (C_X1_mix S x0 r30) >>= fun r31 =>
    (some (x2 + 1)) >>= fun y32 =>
    C_X1_checksum_137 F k123 x0 x1 n y32 r31)
def C_X1_checksum_185 (F : Nat) (x0 : Nat) (S : St) : Option (Int64 × St) :=
  (gA S 1 x0 3) >>= fun y33 =>
  (C_J4_length S y33) >>= fun r34 =>
  (C_X1_mix S x0 r34) >>= fun r35 =>
  (gA r35 1 x0 2) >>= fun y36 =>
  (C_J2_size r35 y36) >>= fun r37 =>
  (C_X1_mix r35 x0 r37) >>= fun r38 =>
  (gJ r38 1 x0 4) >>= fun y39 =>
  some (y39, r38)
def C_X1_checksum_171 (F : Nat) (x0 : Nat) (S : St) : Option (Int64 × St) :=
  (gA S 1 x0 1) >>= fun y24 =>
  (C_X3_isUsable F S y24) >>= fun r25 =>
  if r25 = 0 then (
  C_X1_checksum_185 F x0 S)
  else (
  (C_X1_mixCenters F S x0) >>= fun r26 =>
  C_X1_checksum_185 F x0 r26)
def C_X1_checksum_123 (F : Nat) (x0 : Nat) : Nat → Int32 → St → Option (Int64 × St)
  | 0, _, _ => none
  | n + 1, x1, S =>
    (gA S 1 x0 0) >>= fun y20 =>
    (gA S 2 y20 3) >>= fun y21 =>
    (aN S 4 y21) >>= fun y22 =>
    if y22 ≤ x1 then (
    C_X1_checksum_171 F x0 S)
    else (
    C_X1_checksum_137 F (C_X1_checksum_123 F x0 n) x0 x1 F 0 S)
def C_X1_checksum_121 (F : Nat) (x0 : Nat) (S : St) : Option (Int64 × St) :=
  C_X1_checksum_123 F x0 F 0 S
def C_X1_checksum_73 (F : Nat) (x0 : Nat) : Nat → Int32 → St → Option (Int64 × St)
  | 0, _, _ => none
  | n + 1, x1, S =>
    (gA S 1 x0 0) >>= fun y10 =>
    (gA S 2 y10 2) >>= fun y11 =>
    (aN S 3 y11) >>= fun y12 =>
    if y12 ≤ x1 then (
    C_X1_checksum_121 F x0 S)
    else (
    C_X1_checksum_87 F (C_X1_checksum_73 F x0 n) x0 x1 F 0 S)
def C_X1_checksum_71 (F : Nat) (x0 : Nat) (S : St) : Option (Int64 × St) :=
  C_X1_checksum_73 F x0 F 0 S
def C_X1_checksum_31 (F : Nat) (x0 : Nat) : Nat → Int32 → St → Option (Int64 × St)
  | 0, _, _ => none
  | n + 1, x1, S =>
    (gA S 1 x0 0) >>= fun y5 =>
    (C_X2_size S y5) >>= fun r6 =>
    if r6 ≤ x1 then (
    C_X1_checksum_71 F x0 S)
    else (
    C_X1_checksum_44 F (C_X1_checksum_31 F x0 n) x0 x1 F 0 S)
def C_X1_checksum_29 (F : Nat) (x0 : Nat) (S : St) : Option (Int64 × St) :=
  C_X1_checksum_31 F x0 F 0 S
def C_X1_checksum_9 (F : Nat) (x0 : Nat) : Nat → Int32 → St → Option (Int64 × St)
  | 0, _, _ => none
  | n + 1, x1, S =>
    if 4 ≤ x1 then (
    C_X1_checksum_29 F x0 S)
    else (
    (C_X1_counted F S x0 x1) >>= fun r2 =>
    (C_X1_mix S x0 r2) >>= fun r3 =>
    (some (x1 + 1)) >>= fun y4 =>
    C_X1_checksum_9 F x0 n y4 r3)
def C_X1_checksum (F : Nat) (S : St) (x0 : Nat) : Option (Int64 × St) :=
  (gO S 1 x0) >>= fun _ =>
  (gP S 1 x0 4 (.long 18473)) >>= fun S1 =>
  C_X1_checksum_9 F x0 F 0 S1
theorem rc_X1_checksum {F : Nat} {S : St} {x0 : Nat} {r : Int64 × St} (h : C_X1_checksum F S x0 = some r) : ∃ fs, gO S 1 x0 = some fs := by
  unfold C_X1_checksum at h
  obtain ⟨fs, h1, -⟩ := ob h
  exact ⟨fs, h1⟩
/- NetworkCenters save()V -/
def C_X1_save_20 (F : Nat) (x0 : Nat) (S : St) : Option St :=
  (gA S 1 x0 2) >>= fun y5 =>
  (gA S 1 x0 0) >>= fun y6 =>
  (C_J2_addLast F S y5 y6) >>= fun r7 =>
  some r7
def C_X1_save (F : Nat) (S : St) (x0 : Nat) : Option St :=
  (gO S 1 x0) >>= fun _ =>
  (gA S 1 x0 2) >>= fun y1 =>
  (C_J2_size S y1) >>= fun r2 =>
  if r2 = 6 then (
  (gA S 1 x0 2) >>= fun y3 =>
  (C_J2_removeFirst S y3) >>= fun r4 =>
  C_X1_save_20 F x0 r4.2)
  else (
  C_X1_save_20 F x0 S)
theorem rc_X1_save {F : Nat} {S : St} {x0 : Nat} {r : St} (h : C_X1_save F S x0 = some r) : ∃ fs, gO S 1 x0 = some fs := by
  unfold C_X1_save at h
  obtain ⟨fs, h1, -⟩ := ob h
  exact ⟨fs, h1⟩
/- NetworkCenters stand(LNetworkCenters$Network;)V -/
def C_X1_stand (F : Nat) (S : St) (x0 : Nat) (x1 : Nat) : Option St :=
  (gO S 1 x0) >>= fun _ =>
  (gP S 1 x0 0 (.ref x1)) >>= fun S1 =>
  (some (nO S1 3 df_3 7)) >>= fun r2 =>
  (C_X3_init F r2.2 (r2.1) x1) >>= fun r3 =>
  (gP r3 1 x0 1 (.ref (r2.1))) >>= fun S4 =>
  some S4
theorem rc_X1_stand {F : Nat} {S : St} {x0 : Nat} {x1 : Nat} {r : St} (h : C_X1_stand F S x0 x1 = some r) : ∃ fs, gO S 1 x0 = some fs := by
  unfold C_X1_stand at h
  obtain ⟨fs, h1, -⟩ := ob h
  exact ⟨fs, h1⟩
/- NetworkCenters become(LNetworkCenters$Network;)V -/
def C_X1_become (F : Nat) (S : St) (x0 : Nat) (x1 : Nat) : Option St :=
  (gO S 1 x0) >>= fun _ =>
  (C_X1_save F S x0) >>= fun r1 =>
  (C_X1_stand F r1 x0 x1) >>= fun r2 =>
  some r2
theorem rc_X1_become {F : Nat} {S : St} {x0 : Nat} {x1 : Nat} {r : St} (h : C_X1_become F S x0 x1 = some r) : ∃ fs, gO S 1 x0 = some fs := by
  unfold C_X1_become at h
  obtain ⟨fs, h1, -⟩ := ob h
  exact ⟨fs, h1⟩
/- NetworkCenters checkThat(Z)V -/
def C_X1_checkThat (x0 : Int32) : Option Unit :=
  if x0 = 0 then (
  none)
  else (
  some ())
/- NetworkCenters reset(I)I -/
def C_X1_reset (F : Nat) (S : St) (x0 : Nat) (x1 : Int32) : Option (Int32 × St) :=
  (gO S 1 x0) >>= fun _ =>
  (C_X1_isIn x1 1 8) >>= fun r1 =>
  (C_X1_checkThat r1) >>= fun r2 =>
  (gA S 1 x0 0) >>= fun y3 =>
  (C_X2_size S y3) >>= fun r4 =>
  (some (nO S 2 df_2 4)) >>= fun r5 =>
  (C_X2_init F r5.2 (r5.1) x1) >>= fun r6 =>
  (C_X1_become F r6 x0 (r5.1)) >>= fun r7 =>
  some (r4, r7)
theorem rc_X1_reset {F : Nat} {S : St} {x0 : Nat} {x1 : Int32} {r : Int32 × St} (h : C_X1_reset F S x0 x1 = some r) : ∃ fs, gO S 1 x0 = some fs := by
  unfold C_X1_reset at h
  obtain ⟨fs, h1, -⟩ := ob h
  exact ⟨fs, h1⟩
/- NetworkCenters checkIndex(Z)V -/
def C_X1_checkIndex (x0 : Int32) : Option Unit :=
  if x0 = 0 then (
  none)
  else (
  some ())
/- NetworkCenters$Network isNode(I)Z -/
def C_X2_isNode (S : St) (x0 : Nat) (x1 : Int32) : Option Int32 :=
  (gO S 2 x0) >>= fun _ =>
  (C_X2_size S x0) >>= fun r1 =>
  (C_X1_isIn x1 0 (r1 - 1)) >>= fun r2 =>
  (zz r2) >>= fun b3 => some b3
theorem rc_X2_isNode {S : St} {x0 : Nat} {x1 : Int32} {r : Int32} (h : C_X2_isNode S x0 x1 = some r) : ∃ fs, gO S 2 x0 = some fs := by
  unfold C_X2_isNode at h
  obtain ⟨fs, h1, -⟩ := ob h
  exact ⟨fs, h1⟩
/- NetworkCenters checkNode(I)V -/
def C_X1_checkNode (S : St) (x0 : Nat) (x1 : Int32) : Option Unit :=
  (gO S 1 x0) >>= fun _ =>
  (gA S 1 x0 0) >>= fun y1 =>
  (C_X2_isNode S y1 x1) >>= fun r2 =>
  (C_X1_checkIndex r2) >>= fun r3 =>
  some ()
theorem rc_X1_checkNode {S : St} {x0 : Nat} {x1 : Int32} {r : Unit} (h : C_X1_checkNode S x0 x1 = some r) : ∃ fs, gO S 1 x0 = some fs := by
  unfold C_X1_checkNode at h
  obtain ⟨fs, h1, -⟩ := ob h
  exact ⟨fs, h1⟩
/- NetworkCenters checkState(Z)V -/
def C_X1_checkState (x0 : Int32) : Option Unit :=
  if x0 = 0 then (
  none)
  else (
  some ())
/- NetworkCenters$Edge <init>(III)V -/
def C_X5_init (S : St) (x0 : Nat) (x1 : Int32) (x2 : Int32) (x3 : Int32) : Option St :=
  (gP S 4 x0 0 (.int x1)) >>= fun S1 =>
  (gP S1 4 x0 1 (.int x2)) >>= fun S2 =>
  (gP S2 4 x0 2 (.int x3)) >>= fun S3 =>
  some S3
/- NetworkCenters$Edge joins(II)Z -/
def C_X5_joins_16 (S : St) (x0 : Nat) (x1 : Int32) (x2 : Int32) : Option Int32 :=
  (gI S 4 x0 0) >>= fun y3 =>
  if y3 = x2 then (
  (gI S 4 x0 1) >>= fun y4 =>
  if y4 = x1 then (
  some 1)
  else (
  some 0))
  else (
  some 0)
def C_X5_joins (S : St) (x0 : Nat) (x1 : Int32) (x2 : Int32) : Option Int32 :=
  (gO S 4 x0) >>= fun _ =>
  (gI S 4 x0 0) >>= fun y1 =>
  if y1 = x1 then (
  (gI S 4 x0 1) >>= fun y2 =>
  if y2 = x2 then (
  some 1)
  else (
  C_X5_joins_16 S x0 x1 x2))
  else (
  C_X5_joins_16 S x0 x1 x2)
theorem rc_X5_joins {S : St} {x0 : Nat} {x1 : Int32} {x2 : Int32} {r : Int32} (h : C_X5_joins S x0 x1 x2 = some r) : ∃ fs, gO S 4 x0 = some fs := by
  unfold C_X5_joins at h
  obtain ⟨fs, h1, -⟩ := ob h
  exact ⟨fs, h1⟩
/- NetworkCenters$Network isJoined(II)Z -/
def C_X2_isJoined_5 (F : Nat) (S : St) (x0 : Nat) (x1 : Int32) (x2 : Int32) : Nat → Int32 → Int32 → Option Int32
  | 0, _, _ => none
  | n + 1, x3, x4 =>
    (gA S 2 x0 2) >>= fun y1 =>
    (aN S 3 y1) >>= fun y2 =>
    if y2 ≤ x4 then (
    (zz x3) >>= fun b3 => some b3)
    else (
    (gA S 2 x0 2) >>= fun y4 =>
    (lA S 3 y4 x4) >>= fun y5 =>
    (C_X5_joins S y5 x1 x2) >>= fun r6 =>
    (some (x3 ||| r6)) >>= fun y7 =>
    (some (x4 + 1)) >>= fun y8 =>
    C_X2_isJoined_5 F S x0 x1 x2 n y7 y8)
def C_X2_isJoined (F : Nat) (S : St) (x0 : Nat) (x1 : Int32) (x2 : Int32) : Option Int32 :=
  (gO S 2 x0) >>= fun _ =>
  C_X2_isJoined_5 F S x0 x1 x2 F 0 0
theorem rc_X2_isJoined {F : Nat} {S : St} {x0 : Nat} {x1 : Int32} {x2 : Int32} {r : Int32} (h : C_X2_isJoined F S x0 x1 x2 = some r) : ∃ fs, gO S 2 x0 = some fs := by
  unfold C_X2_isJoined at h
  obtain ⟨fs, h1, -⟩ := ob h
  exact ⟨fs, h1⟩
/- NetworkCenters$Network hasRoomFor(II)Z -/
def C_X2_hasRoomFor (F : Nat) (S : St) (x0 : Nat) (x1 : Int32) (x2 : Int32) : Option Int32 :=
  (gO S 2 x0) >>= fun _ =>
  (C_X2_isJoined F S x0 x1 x2) >>= fun r1 =>
  if r1 = 0 then (
  (gA S 2 x0 2) >>= fun y2 =>
  (aN S 3 y2) >>= fun y3 =>
  if 12 ≤ y3 then (
  some 0)
  else (
  some 1))
  else (
  some 0)
theorem rc_X2_hasRoomFor {F : Nat} {S : St} {x0 : Nat} {x1 : Int32} {x2 : Int32} {r : Int32} (h : C_X2_hasRoomFor F S x0 x1 x2 = some r) : ∃ fs, gO S 2 x0 = some fs := by
  unfold C_X2_hasRoomFor at h
  obtain ⟨fs, h1, -⟩ := ob h
  exact ⟨fs, h1⟩
/- NetworkCenters$Network mayConnect(III)Z -/
def C_X2_mayConnect (S : St) (x0 : Nat) (x1 : Int32) (x2 : Int32) (x3 : Int32) : Option Int32 :=
  (gO S 2 x0) >>= fun _ =>
  if x1 = x2 then (
  some 0)
  else (
  (C_X1_isIn x3 1 50) >>= fun r1 =>
  if r1 = 0 then (
  some 0)
  else (
  some 1))
theorem rc_X2_mayConnect {S : St} {x0 : Nat} {x1 : Int32} {x2 : Int32} {x3 : Int32} {r : Int32} (h : C_X2_mayConnect S x0 x1 x2 x3 = some r) : ∃ fs, gO S 2 x0 = some fs := by
  unfold C_X2_mayConnect at h
  obtain ⟨fs, h1, -⟩ := ob h
  exact ⟨fs, h1⟩
/- NetworkCenters$Network withEdge(LNetworkCenters$Edge;)LNetworkCenters$Network; -/
def C_X2_withEdge (S : St) (x0 : Nat) (x1 : Nat) : Option (Nat × St) :=
  (gO S 2 x0) >>= fun _ =>
  (gA S 2 x0 2) >>= fun y1 =>
  (aN S 3 y1) >>= fun y2 =>
  (nQ_ S 3 (y2 + 1)) >>= fun r3 =>
  (gA r3.2 2 x0 2) >>= fun y4 =>
  (gA r3.2 2 x0 2) >>= fun y5 =>
  (aN r3.2 3 y5) >>= fun y6 =>
  (cQ_ r3.2 3 4 y4 (r3.1) 0 0 y6) >>= fun S7 =>
  (gA S7 2 x0 2) >>= fun y8 =>
  (aN S7 3 y8) >>= fun y9 =>
  (tA S7 3 (r3.1) y9 4 x1) >>= fun S10 =>
  (some (nO S10 2 df_2 4)) >>= fun r11 =>
  (gA r11.2 2 x0 0) >>= fun y12 =>
  (gA r11.2 2 x0 1) >>= fun y13 =>
  (gA r11.2 2 x0 3) >>= fun y14 =>
  (C_X2_init_2 r11.2 (r11.1) y12 y13 (r3.1) y14) >>= fun r15 =>
  some (r11.1, r15)
theorem rc_X2_withEdge {S : St} {x0 : Nat} {x1 : Nat} {r : Nat × St} (h : C_X2_withEdge S x0 x1 = some r) : ∃ fs, gO S 2 x0 = some fs := by
  unfold C_X2_withEdge at h
  obtain ⟨fs, h1, -⟩ := ob h
  exact ⟨fs, h1⟩
/- NetworkCenters connect(III)I -/
def C_X1_connect (F : Nat) (S : St) (x0 : Nat) (x1 : Int32) (x2 : Int32) (x3 : Int32) : Option (Int32 × St) :=
  (gO S 1 x0) >>= fun _ =>
  (C_X1_checkNode S x0 x1) >>= fun r1 =>
  (C_X1_checkNode S x0 x2) >>= fun r2 =>
  (gA S 1 x0 0) >>= fun y3 =>
  (C_X2_mayConnect S y3 x1 x2 x3) >>= fun r4 =>
  (C_X1_checkThat r4) >>= fun r5 =>
  (gA S 1 x0 0) >>= fun y6 =>
  (C_X2_hasRoomFor F S y6 x1 x2) >>= fun r7 =>
  (C_X1_checkState r7) >>= fun r8 =>
  (gA S 1 x0 0) >>= fun y9 =>
  (some (nO S 4 df_4 3)) >>= fun r10 =>
  (C_X5_init r10.2 (r10.1) x1 x2 x3) >>= fun r11 =>
  (C_X2_withEdge r11 y9 (r10.1)) >>= fun r12 =>
  (C_X1_become F r12.2 x0 (r12.1)) >>= fun r13 =>
  (gA r13 1 x0 0) >>= fun y14 =>
  (gA r13 2 y14 2) >>= fun y15 =>
  (aN r13 3 y15) >>= fun y16 =>
  some (y16 - 1, r13)
theorem rc_X1_connect {F : Nat} {S : St} {x0 : Nat} {x1 : Int32} {x2 : Int32} {x3 : Int32} {r : Int32 × St} (h : C_X1_connect F S x0 x1 x2 x3 = some r) : ∃ fs, gO S 1 x0 = some fs := by
  unfold C_X1_connect at h
  obtain ⟨fs, h1, -⟩ := ob h
  exact ⟨fs, h1⟩
/- NetworkCenters checkEdge(I)V -/
def C_X1_checkEdge (S : St) (x0 : Nat) (x1 : Int32) : Option Unit :=
  (gO S 1 x0) >>= fun _ =>
  (gA S 1 x0 0) >>= fun y1 =>
  (gA S 2 y1 2) >>= fun y2 =>
  (aN S 3 y2) >>= fun y3 =>
  (C_X1_isIn x1 0 (y3 - 1)) >>= fun r4 =>
  (C_X1_checkIndex r4) >>= fun r5 =>
  some ()
theorem rc_X1_checkEdge {S : St} {x0 : Nat} {x1 : Int32} {r : Unit} (h : C_X1_checkEdge S x0 x1 = some r) : ∃ fs, gO S 1 x0 = some fs := by
  unfold C_X1_checkEdge at h
  obtain ⟨fs, h1, -⟩ := ob h
  exact ⟨fs, h1⟩
/- NetworkCenters$Stretch <init>(III)V -/
def C_X6_init (S : St) (x0 : Nat) (x1 : Int32) (x2 : Int32) (x3 : Int32) : Option St :=
  (gP S 5 x0 0 (.int x1)) >>= fun S1 =>
  (gP S1 5 x0 1 (.int x2)) >>= fun S2 =>
  (gP S2 5 x0 2 (.int x3)) >>= fun S3 =>
  some S3
/- NetworkCenters$Network withoutEdge(I)LNetworkCenters$Network; -/
def C_X2_withoutEdge_191 (F : Nat) (k132 : Int32 → St → Option (Nat × St)) (x0 : Nat) (x1 : Int32) (x2 : Nat) (x3 : Nat) (x5 : Nat) (x6 : Int32) (s0 : Nat) (s1 : Int32) (s2 : Nat) (S : St) : Option (Nat × St) :=
  (tA S 4 s0 s1 5 s2) >>= fun S38 =>
  (some (x6 + 1)) >>= fun y39 =>
  k132 y39 S38
def C_X2_withoutEdge_198 (F : Nat) (x0 : Nat) (x2 : Nat) (x5 : Nat) (S : St) : Option (Nat × St) :=
  (some (nO S 2 df_2 4)) >>= fun r34 =>
  (gA r34.2 2 x0 0) >>= fun y35 =>
  (gA r34.2 2 x0 1) >>= fun y36 =>
  (C_X2_init_2 r34.2 (r34.1) y35 y36 x2 x5) >>= fun r37 =>
  some (r34.1, r37)
def C_X2_withoutEdge_132 (F : Nat) (x0 : Nat) (x1 : Int32) (x2 : Nat) (x3 : Nat) (x5 : Nat) : Nat → Int32 → St → Option (Nat × St)
  | 0, _, _ => none
  | n + 1, x6, S =>
    (aN S 4 x5) >>= fun y25 =>
    if y25 ≤ x6 then (
    C_X2_withoutEdge_198 F x0 x2 x5 S)
    else (
    (C_J17_removeFirst S x3) >>= fun r26 =>
    (gO r26.2 5 (r26.1)) >>= fun y27 =>
    (gI r26.2 5 (r26.1) 0) >>= fun y28 =>
    if y28 ≤ x1 then (
    C_X2_withoutEdge_191 F (C_X2_withoutEdge_132 F x0 x1 x2 x3 x5 n) x0 x1 x2 x3 x5 x6 x5 x6 (r26.1) r26.2)
    else (
    (some (nO r26.2 5 df_5 3)) >>= fun r29 =>
    (gI r29.2 5 (r26.1) 0) >>= fun y30 =>
    (gI r29.2 5 (r26.1) 1) >>= fun y31 =>
    (gI r29.2 5 (r26.1) 2) >>= fun y32 =>
    (C_X6_init r29.2 (r29.1) (y30 - 1) y31 y32) >>= fun r33 =>
    C_X2_withoutEdge_191 F (C_X2_withoutEdge_132 F x0 x1 x2 x3 x5 n) x0 x1 x2 x3 x5 x6 x5 x6 (r29.1) r33))
def C_X2_withoutEdge_120 (F : Nat) (x0 : Nat) (x1 : Int32) (x2 : Nat) (x3 : Nat) (S : St) : Option (Nat × St) :=
  (C_J17_size S x3) >>= fun r23 =>
  (nQ_ S 4 r23) >>= fun r24 =>
  C_X2_withoutEdge_132 F x0 x1 x2 x3 (r24.1) F 0 r24.2
def C_X2_withoutEdge_83 (F : Nat) (x0 : Nat) (x1 : Int32) (x2 : Nat) (x3 : Nat) (x4 : Nat) : Nat → St → Option (Nat × St)
  | 0, _ => none
  | n + 1, S =>
    (C_J24_hasNext S x4) >>= fun r18 =>
    if r18 = 0 then (
    C_X2_withoutEdge_120 F x0 x1 x2 x3 S)
    else (
    (C_J24_next S x4) >>= fun r19 =>
    (gO r19.2 5 (r19.1)) >>= fun y20 =>
    (gI r19.2 5 (r19.1) 0) >>= fun y21 =>
    if y21 = x1 then (
    (C_J24_remove r19.2 x4) >>= fun r22 =>
    C_X2_withoutEdge_83 F x0 x1 x2 x3 x4 n r22)
    else (
    C_X2_withoutEdge_83 F x0 x1 x2 x3 x4 n r19.2))
def C_X2_withoutEdge_77 (F : Nat) (x0 : Nat) (x1 : Int32) (x2 : Nat) (x3 : Nat) (S : St) : Option (Nat × St) :=
  (C_J16_iterator F S x3) >>= fun r17 =>
  C_X2_withoutEdge_83 F x0 x1 x2 x3 (r17.1) F r17.2
def C_X2_withoutEdge_49 (F : Nat) (x0 : Nat) (x1 : Int32) (x2 : Nat) (x3 : Nat) : Nat → Int32 → St → Option (Nat × St)
  | 0, _, _ => none
  | n + 1, x4, S =>
    (gA S 2 x0 3) >>= fun y11 =>
    (aN S 4 y11) >>= fun y12 =>
    if y12 ≤ x4 then (
    C_X2_withoutEdge_77 F x0 x1 x2 x3 S)
    else (
    (gA S 2 x0 3) >>= fun y13 =>
    (lA S 4 y13 x4) >>= fun y14 =>
    (C_J17_add S x3 y14) >>= fun r15 =>
    (some (x4 + 1)) >>= fun y16 =>
    C_X2_withoutEdge_49 F x0 x1 x2 x3 n y16 r15.2)
def C_X2_withoutEdge (F : Nat) (S : St) (x0 : Nat) (x1 : Int32) : Option (Nat × St) :=
  (gO S 2 x0) >>= fun _ =>
  (gA S 2 x0 2) >>= fun y1 =>
  (aN S 3 y1) >>= fun y2 =>
  (nQ_ S 3 (y2 - 1)) >>= fun r3 =>
  (gA r3.2 2 x0 2) >>= fun y4 =>
  (cQ_ r3.2 3 4 y4 (r3.1) 0 0 x1) >>= fun S5 =>
  (gA S5 2 x0 2) >>= fun y6 =>
  (aN S5 3 (r3.1)) >>= fun y7 =>
  (cQ_ S5 3 4 y6 (r3.1) (x1 + 1) x1 (y7 - x1)) >>= fun S8 =>
  (some (nO S8 13 df_13 4)) >>= fun r9 =>
  (C_J17_init r9.2 (r9.1)) >>= fun r10 =>
  C_X2_withoutEdge_49 F x0 x1 (r3.1) (r9.1) F 0 r10
theorem rc_X2_withoutEdge {F : Nat} {S : St} {x0 : Nat} {x1 : Int32} {r : Nat × St} (h : C_X2_withoutEdge F S x0 x1 = some r) : ∃ fs, gO S 2 x0 = some fs := by
  unfold C_X2_withoutEdge at h
  obtain ⟨fs, h1, -⟩ := ob h
  exact ⟨fs, h1⟩
/- NetworkCenters disconnect(I)I -/
def C_X1_disconnect (F : Nat) (S : St) (x0 : Nat) (x1 : Int32) : Option (Int32 × St) :=
  (gO S 1 x0) >>= fun _ =>
  (C_X1_checkEdge S x0 x1) >>= fun r1 =>
  (gA S 1 x0 0) >>= fun y2 =>
  (gA S 2 y2 3) >>= fun y3 =>
  (aN S 4 y3) >>= fun y4 =>
  (gA S 1 x0 0) >>= fun y5 =>
  (C_X2_withoutEdge F S y5 x1) >>= fun r6 =>
  (C_X1_become F r6.2 x0 (r6.1)) >>= fun r7 =>
  (gA r7 1 x0 0) >>= fun y8 =>
  (gA r7 2 y8 3) >>= fun y9 =>
  (aN r7 4 y9) >>= fun y10 =>
  some (y4 - y10, r7)
theorem rc_X1_disconnect {F : Nat} {S : St} {x0 : Nat} {x1 : Int32} {r : Int32 × St} (h : C_X1_disconnect F S x0 x1 = some r) : ∃ fs, gO S 1 x0 = some fs := by
  unfold C_X1_disconnect at h
  obtain ⟨fs, h1, -⟩ := ob h
  exact ⟨fs, h1⟩
/- NetworkCenters$Network with([III)[I -/
def C_X2_with (S : St) (x0 : Nat) (x1 : Int32) (x2 : Int32) : Option (Nat × St) :=
  (gcl S x0) >>= fun r1 =>
  (aI r1.2 0 (r1.1)) >>= fun y2 =>
  (tI r1.2 0 (r1.1) x1 x2) >>= fun S3 =>
  some (r1.1, S3)
/- NetworkCenters$Network withWeight(II)LNetworkCenters$Network; -/
def C_X2_withWeight (S : St) (x0 : Nat) (x1 : Int32) (x2 : Int32) : Option (Nat × St) :=
  (gO S 2 x0) >>= fun _ =>
  (some (nO S 2 df_2 4)) >>= fun r1 =>
  (gA r1.2 2 x0 0) >>= fun y2 =>
  (C_X2_with r1.2 y2 x1 x2) >>= fun r3 =>
  (gA r3.2 2 x0 1) >>= fun y4 =>
  (gA r3.2 2 x0 2) >>= fun y5 =>
  (gA r3.2 2 x0 3) >>= fun y6 =>
  (C_X2_init_2 r3.2 (r1.1) (r3.1) y4 y5 y6) >>= fun r7 =>
  some (r1.1, r7)
theorem rc_X2_withWeight {S : St} {x0 : Nat} {x1 : Int32} {x2 : Int32} {r : Nat × St} (h : C_X2_withWeight S x0 x1 x2 = some r) : ∃ fs, gO S 2 x0 = some fs := by
  unfold C_X2_withWeight at h
  obtain ⟨fs, h1, -⟩ := ob h
  exact ⟨fs, h1⟩
/- NetworkCenters setWeight(II)I -/
def C_X1_setWeight (F : Nat) (S : St) (x0 : Nat) (x1 : Int32) (x2 : Int32) : Option (Int32 × St) :=
  (gO S 1 x0) >>= fun _ =>
  (C_X1_checkNode S x0 x1) >>= fun r1 =>
  (C_X1_isIn x2 0 9) >>= fun r2 =>
  (C_X1_checkThat r2) >>= fun r3 =>
  (gA S 1 x0 0) >>= fun y4 =>
  (gA S 2 y4 0) >>= fun y5 =>
  (lI S 0 y5 x1) >>= fun y6 =>
  (gA S 1 x0 0) >>= fun y7 =>
  (C_X2_withWeight S y7 x1 x2) >>= fun r8 =>
  (C_X1_become F r8.2 x0 (r8.1)) >>= fun r9 =>
  some (y6, r9)
theorem rc_X1_setWeight {F : Nat} {S : St} {x0 : Nat} {x1 : Int32} {x2 : Int32} {r : Int32 × St} (h : C_X1_setWeight F S x0 x1 x2 = some r) : ∃ fs, gO S 1 x0 = some fs := by
  unfold C_X1_setWeight at h
  obtain ⟨fs, h1, -⟩ := ob h
  exact ⟨fs, h1⟩
/- NetworkCenters$Network withTrend(II)LNetworkCenters$Network; -/
def C_X2_withTrend (S : St) (x0 : Nat) (x1 : Int32) (x2 : Int32) : Option (Nat × St) :=
  (gO S 2 x0) >>= fun _ =>
  (some (nO S 2 df_2 4)) >>= fun r1 =>
  (gA r1.2 2 x0 0) >>= fun y2 =>
  (gA r1.2 2 x0 1) >>= fun y3 =>
  (C_X2_with r1.2 y3 x1 x2) >>= fun r4 =>
  (gA r4.2 2 x0 2) >>= fun y5 =>
  (gA r4.2 2 x0 3) >>= fun y6 =>
  (C_X2_init_2 r4.2 (r1.1) y2 (r4.1) y5 y6) >>= fun r7 =>
  some (r1.1, r7)
theorem rc_X2_withTrend {S : St} {x0 : Nat} {x1 : Int32} {x2 : Int32} {r : Nat × St} (h : C_X2_withTrend S x0 x1 x2 = some r) : ∃ fs, gO S 2 x0 = some fs := by
  unfold C_X2_withTrend at h
  obtain ⟨fs, h1, -⟩ := ob h
  exact ⟨fs, h1⟩
/- NetworkCenters setTrend(II)I -/
def C_X1_setTrend (F : Nat) (S : St) (x0 : Nat) (x1 : Int32) (x2 : Int32) : Option (Int32 × St) :=
  (gO S 1 x0) >>= fun _ =>
  (C_X1_checkNode S x0 x1) >>= fun r1 =>
  (C_X1_isIn x2 0 9) >>= fun r2 =>
  (C_X1_checkThat r2) >>= fun r3 =>
  (gA S 1 x0 0) >>= fun y4 =>
  (gA S 2 y4 1) >>= fun y5 =>
  (lI S 0 y5 x1) >>= fun y6 =>
  (gA S 1 x0 0) >>= fun y7 =>
  (C_X2_withTrend S y7 x1 x2) >>= fun r8 =>
  (C_X1_become F r8.2 x0 (r8.1)) >>= fun r9 =>
  some (y6, r9)
theorem rc_X1_setTrend {F : Nat} {S : St} {x0 : Nat} {x1 : Int32} {x2 : Int32} {r : Int32 × St} (h : C_X1_setTrend F S x0 x1 x2 = some r) : ∃ fs, gO S 1 x0 = some fs := by
  unfold C_X1_setTrend at h
  obtain ⟨fs, h1, -⟩ := ob h
  exact ⟨fs, h1⟩
/- NetworkCenters$Network mayForbid(III)Z -/
def C_X2_mayForbid (S : St) (x0 : Nat) (x1 : Int32) (x2 : Int32) (x3 : Int32) : Option Int32 :=
  (gO S 2 x0) >>= fun _ =>
  if x2 < 0 then (
  some 0)
  else (
  if x3 ≤ x2 then (
  some 0)
  else (
  (gA S 2 x0 2) >>= fun y1 =>
  (lA S 3 y1 x1) >>= fun y2 =>
  (gI S 4 y2 2) >>= fun y3 =>
  if y3 < x3 then (
  some 0)
  else (
  some 1)))
theorem rc_X2_mayForbid {S : St} {x0 : Nat} {x1 : Int32} {x2 : Int32} {x3 : Int32} {r : Int32} (h : C_X2_mayForbid S x0 x1 x2 x3 = some r) : ∃ fs, gO S 2 x0 = some fs := by
  unfold C_X2_mayForbid at h
  obtain ⟨fs, h1, -⟩ := ob h
  exact ⟨fs, h1⟩
/- NetworkCenters$Network withStretch(LNetworkCenters$Stretch;)LNetworkCenters$Network; -/
def C_X2_withStretch (S : St) (x0 : Nat) (x1 : Nat) : Option (Nat × St) :=
  (gO S 2 x0) >>= fun _ =>
  (gA S 2 x0 3) >>= fun y1 =>
  (aN S 4 y1) >>= fun y2 =>
  (nQ_ S 4 (y2 + 1)) >>= fun r3 =>
  (gA r3.2 2 x0 3) >>= fun y4 =>
  (gA r3.2 2 x0 3) >>= fun y5 =>
  (aN r3.2 4 y5) >>= fun y6 =>
  (cQ_ r3.2 4 5 y4 (r3.1) 0 0 y6) >>= fun S7 =>
  (gA S7 2 x0 3) >>= fun y8 =>
  (aN S7 4 y8) >>= fun y9 =>
  (tA S7 4 (r3.1) y9 5 x1) >>= fun S10 =>
  (some (nO S10 2 df_2 4)) >>= fun r11 =>
  (gA r11.2 2 x0 0) >>= fun y12 =>
  (gA r11.2 2 x0 1) >>= fun y13 =>
  (gA r11.2 2 x0 2) >>= fun y14 =>
  (C_X2_init_2 r11.2 (r11.1) y12 y13 y14 (r3.1)) >>= fun r15 =>
  some (r11.1, r15)
theorem rc_X2_withStretch {S : St} {x0 : Nat} {x1 : Nat} {r : Nat × St} (h : C_X2_withStretch S x0 x1 = some r) : ∃ fs, gO S 2 x0 = some fs := by
  unfold C_X2_withStretch at h
  obtain ⟨fs, h1, -⟩ := ob h
  exact ⟨fs, h1⟩
/- NetworkCenters forbid(III)I -/
def C_X1_forbid_36 (F : Nat) (x0 : Nat) (x1 : Int32) (x2 : Int32) (x3 : Int32) (s0 : Int32) (S : St) : Option (Int32 × St) :=
  (C_X1_checkState s0) >>= fun r8 =>
  (gA S 1 x0 0) >>= fun y9 =>
  (some (nO S 5 df_5 3)) >>= fun r10 =>
  (C_X6_init r10.2 (r10.1) x1 x2 x3) >>= fun r11 =>
  (C_X2_withStretch r11 y9 (r10.1)) >>= fun r12 =>
  (C_X1_become F r12.2 x0 (r12.1)) >>= fun r13 =>
  (gA r13 1 x0 0) >>= fun y14 =>
  (gA r13 2 y14 3) >>= fun y15 =>
  (aN r13 4 y15) >>= fun y16 =>
  some (y16 - 1, r13)
def C_X1_forbid (F : Nat) (S : St) (x0 : Nat) (x1 : Int32) (x2 : Int32) (x3 : Int32) : Option (Int32 × St) :=
  (gO S 1 x0) >>= fun _ =>
  (C_X1_checkEdge S x0 x1) >>= fun r1 =>
  (gA S 1 x0 0) >>= fun y2 =>
  (C_X2_mayForbid S y2 x1 x2 x3) >>= fun r3 =>
  (C_X1_checkThat r3) >>= fun r4 =>
  (gA S 1 x0 0) >>= fun y5 =>
  (gA S 2 y5 3) >>= fun y6 =>
  (aN S 4 y6) >>= fun y7 =>
  if 6 ≤ y7 then (
  C_X1_forbid_36 F x0 x1 x2 x3 0 S)
  else (
  C_X1_forbid_36 F x0 x1 x2 x3 1 S)
theorem rc_X1_forbid {F : Nat} {S : St} {x0 : Nat} {x1 : Int32} {x2 : Int32} {x3 : Int32} {r : Int32 × St} (h : C_X1_forbid F S x0 x1 x2 x3 = some r) : ∃ fs, gO S 1 x0 = some fs := by
  unfold C_X1_forbid at h
  obtain ⟨fs, h1, -⟩ := ob h
  exact ⟨fs, h1⟩
/- NetworkCenters checkStretch(I)V -/
def C_X1_checkStretch (S : St) (x0 : Nat) (x1 : Int32) : Option Unit :=
  (gO S 1 x0) >>= fun _ =>
  (gA S 1 x0 0) >>= fun y1 =>
  (gA S 2 y1 3) >>= fun y2 =>
  (aN S 4 y2) >>= fun y3 =>
  (C_X1_isIn x1 0 (y3 - 1)) >>= fun r4 =>
  (C_X1_checkIndex r4) >>= fun r5 =>
  some ()
theorem rc_X1_checkStretch {S : St} {x0 : Nat} {x1 : Int32} {r : Unit} (h : C_X1_checkStretch S x0 x1 = some r) : ∃ fs, gO S 1 x0 = some fs := by
  unfold C_X1_checkStretch at h
  obtain ⟨fs, h1, -⟩ := ob h
  exact ⟨fs, h1⟩
/- NetworkCenters$Network withoutStretch(I)LNetworkCenters$Network; -/
def C_X2_withoutStretch (S : St) (x0 : Nat) (x1 : Int32) : Option (Nat × St) :=
  (gO S 2 x0) >>= fun _ =>
  (gA S 2 x0 3) >>= fun y1 =>
  (aN S 4 y1) >>= fun y2 =>
  (nQ_ S 4 (y2 - 1)) >>= fun r3 =>
  (gA r3.2 2 x0 3) >>= fun y4 =>
  (cQ_ r3.2 4 5 y4 (r3.1) 0 0 x1) >>= fun S5 =>
  (gA S5 2 x0 3) >>= fun y6 =>
  (aN S5 4 (r3.1)) >>= fun y7 =>
  (cQ_ S5 4 5 y6 (r3.1) (x1 + 1) x1 (y7 - x1)) >>= fun S8 =>
  (some (nO S8 2 df_2 4)) >>= fun r9 =>
  (gA r9.2 2 x0 0) >>= fun y10 =>
  (gA r9.2 2 x0 1) >>= fun y11 =>
  (gA r9.2 2 x0 2) >>= fun y12 =>
  (C_X2_init_2 r9.2 (r9.1) y10 y11 y12 (r3.1)) >>= fun r13 =>
  some (r9.1, r13)
theorem rc_X2_withoutStretch {S : St} {x0 : Nat} {x1 : Int32} {r : Nat × St} (h : C_X2_withoutStretch S x0 x1 = some r) : ∃ fs, gO S 2 x0 = some fs := by
  unfold C_X2_withoutStretch at h
  obtain ⟨fs, h1, -⟩ := ob h
  exact ⟨fs, h1⟩
/- NetworkCenters allow(I)I -/
def C_X1_allow (F : Nat) (S : St) (x0 : Nat) (x1 : Int32) : Option (Int32 × St) :=
  (gO S 1 x0) >>= fun _ =>
  (C_X1_checkStretch S x0 x1) >>= fun r1 =>
  (gA S 1 x0 0) >>= fun y2 =>
  (gA S 2 y2 3) >>= fun y3 =>
  (lA S 4 y3 x1) >>= fun y4 =>
  (gI S 5 y4 0) >>= fun y5 =>
  (gA S 1 x0 0) >>= fun y6 =>
  (C_X2_withoutStretch S y6 x1) >>= fun r7 =>
  (C_X1_become F r7.2 x0 (r7.1)) >>= fun r8 =>
  some (y5, r8)
theorem rc_X1_allow {F : Nat} {S : St} {x0 : Nat} {x1 : Int32} {r : Int32 × St} (h : C_X1_allow F S x0 x1 = some r) : ∃ fs, gO S 1 x0 = some fs := by
  unfold C_X1_allow at h
  obtain ⟨fs, h1, -⟩ := ob h
  exact ⟨fs, h1⟩
/- NetworkCenters count(I)I -/
def C_X1_count (F : Nat) (S : St) (x0 : Nat) (x1 : Int32) : Option Int32 :=
  (gO S 1 x0) >>= fun _ =>
  (C_X1_isIn x1 0 3) >>= fun r1 =>
  (C_X1_checkThat r1) >>= fun r2 =>
  (C_X1_counted F S x0 x1) >>= fun r3 =>
  some r3
theorem rc_X1_count {F : Nat} {S : St} {x0 : Nat} {x1 : Int32} {r : Int32} (h : C_X1_count F S x0 x1 = some r) : ∃ fs, gO S 1 x0 = some fs := by
  unfold C_X1_count at h
  obtain ⟨fs, h1, -⟩ := ob h
  exact ⟨fs, h1⟩
/- NetworkCenters edge(II)I -/
def C_X1_edge (S : St) (x0 : Nat) (x1 : Int32) (x2 : Int32) : Option Int32 :=
  (gO S 1 x0) >>= fun _ =>
  (C_X1_checkEdge S x0 x1) >>= fun r1 =>
  (C_X1_isIn x2 0 2) >>= fun r2 =>
  (C_X1_checkThat r2) >>= fun r3 =>
  (gA S 1 x0 0) >>= fun y4 =>
  (gA S 2 y4 2) >>= fun y5 =>
  (lA S 3 y5 x1) >>= fun y6 =>
  (C_X5_property S y6 x2) >>= fun r7 =>
  some r7
theorem rc_X1_edge {S : St} {x0 : Nat} {x1 : Int32} {x2 : Int32} {r : Int32} (h : C_X1_edge S x0 x1 x2 = some r) : ∃ fs, gO S 1 x0 = some fs := by
  unfold C_X1_edge at h
  obtain ⟨fs, h1, -⟩ := ob h
  exact ⟨fs, h1⟩
/- NetworkCenters node(II)I -/
def C_X1_node (F : Nat) (S : St) (x0 : Nat) (x1 : Int32) (x2 : Int32) : Option Int32 :=
  (gO S 1 x0) >>= fun _ =>
  (C_X1_checkNode S x0 x1) >>= fun r1 =>
  (C_X1_isIn x2 0 2) >>= fun r2 =>
  (C_X1_checkThat r2) >>= fun r3 =>
  (C_X1_propertyOf F S x0 x1 x2) >>= fun r4 =>
  some r4
theorem rc_X1_node {F : Nat} {S : St} {x0 : Nat} {x1 : Int32} {x2 : Int32} {r : Int32} (h : C_X1_node F S x0 x1 x2 = some r) : ∃ fs, gO S 1 x0 = some fs := by
  unfold C_X1_node at h
  obtain ⟨fs, h1, -⟩ := ob h
  exact ⟨fs, h1⟩
/- NetworkCenters stretch(II)I -/
def C_X1_stretch (S : St) (x0 : Nat) (x1 : Int32) (x2 : Int32) : Option Int32 :=
  (gO S 1 x0) >>= fun _ =>
  (C_X1_checkStretch S x0 x1) >>= fun r1 =>
  (C_X1_isIn x2 0 2) >>= fun r2 =>
  (C_X1_checkThat r2) >>= fun r3 =>
  (gA S 1 x0 0) >>= fun y4 =>
  (gA S 2 y4 3) >>= fun y5 =>
  (lA S 4 y5 x1) >>= fun y6 =>
  (C_X6_property S y6 x2) >>= fun r7 =>
  some r7
theorem rc_X1_stretch {S : St} {x0 : Nat} {x1 : Int32} {x2 : Int32} {r : Int32} (h : C_X1_stretch S x0 x1 x2 = some r) : ∃ fs, gO S 1 x0 = some fs := by
  unfold C_X1_stretch at h
  obtain ⟨fs, h1, -⟩ := ob h
  exact ⟨fs, h1⟩
/- NetworkCenters distance(II)I -/
def C_X1_distance (S : St) (x0 : Nat) (x1 : Int32) (x2 : Int32) : Option Int32 :=
  (gO S 1 x0) >>= fun _ =>
  (C_X1_checkNode S x0 x1) >>= fun r1 =>
  (C_X1_checkNode S x0 x2) >>= fun r2 =>
  (gA S 1 x0 1) >>= fun y3 =>
  (C_X3_distance S y3 x1 x2) >>= fun r4 =>
  if 100000 ≤ r4 then (
  some (-1))
  else (
  (gA S 1 x0 1) >>= fun y5 =>
  (C_X3_distance S y5 x1 x2) >>= fun r6 =>
  some r6)
theorem rc_X1_distance {S : St} {x0 : Nat} {x1 : Int32} {x2 : Int32} {r : Int32} (h : C_X1_distance S x0 x1 x2 = some r) : ∃ fs, gO S 1 x0 = some fs := by
  unfold C_X1_distance at h
  obtain ⟨fs, h1, -⟩ := ob h
  exact ⟨fs, h1⟩
/- NetworkCenters next(II)I -/
def C_X1_next_159 (F : Nat) (k15 : Int32 → Int32 → Option Int32) (S : St) (x0 : Nat) (x1 : Int32) (x2 : Int32) (x4 : Int32) (s0 : Int32) : Option Int32 :=
  (some (x4 + 1)) >>= fun y20 =>
  k15 s0 y20
def C_X1_next_153 (F : Nat) (k15 : Int32 → Int32 → Option Int32) (S : St) (x0 : Nat) (x1 : Int32) (x2 : Int32) (x4 : Int32) (x6 : Int32) : Option Int32 :=
  C_X1_next_159 F k15 S x0 x1 x2 x4 x6
def C_X1_next_158 (F : Nat) (k15 : Int32 → Int32 → Option Int32) (S : St) (x0 : Nat) (x1 : Int32) (x2 : Int32) (x3 : Int32) (x4 : Int32) : Option Int32 :=
  C_X1_next_159 F k15 S x0 x1 x2 x4 x3
def C_X1_next_135 (F : Nat) (k15 : Int32 → Int32 → Option Int32) (S : St) (x0 : Nat) (x1 : Int32) (x2 : Int32) (x3 : Int32) (x4 : Int32) (x6 : Int32) (s0 : Int32) : Option Int32 :=
  if s0 = 0 then (
  C_X1_next_158 F k15 S x0 x1 x2 x3 x4)
  else (
  if x3 = (-1) then (
  C_X1_next_153 F k15 S x0 x1 x2 x4 x6)
  else (
  if x3 ≤ x6 then (
  C_X1_next_158 F k15 S x0 x1 x2 x3 x4)
  else (
  C_X1_next_153 F k15 S x0 x1 x2 x4 x6)))
def C_X1_next_134 (F : Nat) (k15 : Int32 → Int32 → Option Int32) (S : St) (x0 : Nat) (x1 : Int32) (x2 : Int32) (x3 : Int32) (x4 : Int32) (x6 : Int32) : Option Int32 :=
  C_X1_next_135 F k15 S x0 x1 x2 x3 x4 x6 0
def C_X1_next_94 (F : Nat) (k15 : Int32 → Int32 → Option Int32) (S : St) (x0 : Nat) (x1 : Int32) (x2 : Int32) (x3 : Int32) (x4 : Int32) (x5 : Nat) (s0 : Int32) : Option Int32 :=
  if s0 = (-1) then (
  C_X1_next_134 F k15 S x0 x1 x2 x3 x4 s0)
  else (
  (gI S 4 x5 2) >>= fun y15 =>
  (gA S 1 x0 1) >>= fun y16 =>
  (C_X3_distance S y16 s0 x2) >>= fun r17 =>
  (gA S 1 x0 1) >>= fun y18 =>
  (C_X3_distance S y18 x1 x2) >>= fun r19 =>
  if y15 + r17 = r19 then (
  C_X1_next_135 F k15 S x0 x1 x2 x3 x4 s0 1)
  else (
  C_X1_next_134 F k15 S x0 x1 x2 x3 x4 s0))
def C_X1_next_15 (F : Nat) (S : St) (x0 : Nat) (x1 : Int32) (x2 : Int32) : Nat → Int32 → Int32 → Option Int32
  | 0, _, _ => none
  | n + 1, x3, x4 =>
    (gA S 1 x0 0) >>= fun y3 =>
    (gA S 2 y3 2) >>= fun y4 =>
    (aN S 3 y4) >>= fun y5 =>
    if y5 ≤ x4 then (
    some x3)
    else (
    if x1 = x2 then (
    some x3)
    else (
    (gA S 1 x0 1) >>= fun y6 =>
    (C_X3_distance S y6 x1 x2) >>= fun r7 =>
    if 100000 ≤ r7 then (
    some x3)
    else (
    (gA S 1 x0 0) >>= fun y8 =>
    (gA S 2 y8 2) >>= fun y9 =>
    (lA S 3 y9 x4) >>= fun y10 =>
    (gI S 4 y10 0) >>= fun y11 =>
    if y11 = x1 then (
    (gI S 4 y10 1) >>= fun y12 =>
    C_X1_next_94 F (C_X1_next_15 F S x0 x1 x2 n) S x0 x1 x2 x3 x4 y10 y12)
    else (
    (gI S 4 y10 1) >>= fun y13 =>
    if y13 = x1 then (
    (gI S 4 y10 0) >>= fun y14 =>
    C_X1_next_94 F (C_X1_next_15 F S x0 x1 x2 n) S x0 x1 x2 x3 x4 y10 y14)
    else (
    C_X1_next_94 F (C_X1_next_15 F S x0 x1 x2 n) S x0 x1 x2 x3 x4 y10 (-1))))))
def C_X1_next (F : Nat) (S : St) (x0 : Nat) (x1 : Int32) (x2 : Int32) : Option Int32 :=
  (gO S 1 x0) >>= fun _ =>
  (C_X1_checkNode S x0 x1) >>= fun r1 =>
  (C_X1_checkNode S x0 x2) >>= fun r2 =>
  C_X1_next_15 F S x0 x1 x2 F (-1) 0
theorem rc_X1_next {F : Nat} {S : St} {x0 : Nat} {x1 : Int32} {x2 : Int32} {r : Int32} (h : C_X1_next F S x0 x1 x2 = some r) : ∃ fs, gO S 1 x0 = some fs := by
  unfold C_X1_next at h
  obtain ⟨fs, h1, -⟩ := ob h
  exact ⟨fs, h1⟩
/- NetworkCenters isPart(I)Z -/
def C_X1_isPart (x0 : Int32) : Option Int32 :=
  (C_X1_isIn x0 0 1) >>= fun r1 =>
  (zz r1) >>= fun b2 => some b2
/- NetworkCenters isPoint(III)Z -/
def C_X1_isPoint (S : St) (x0 : Nat) (x1 : Int32) (x2 : Int32) (x3 : Int32) : Option Int32 :=
  (gO S 1 x0) >>= fun _ =>
  (C_X1_isIn x3 1 1000) >>= fun r1 =>
  if r1 = 0 then (
  some 0)
  else (
  if x2 < 0 then (
  some 0)
  else (
  (gA S 1 x0 0) >>= fun y2 =>
  (gA S 2 y2 2) >>= fun y3 =>
  (lA S 3 y3 x1) >>= fun y4 =>
  (gI S 4 y4 2) >>= fun y5 =>
  if (((y5) : Int32).toInt64) * (((x3) : Int32).toInt64) < ((x2) : Int32).toInt64 then (
  some 0)
  else (
  some 1)))
theorem rc_X1_isPoint {S : St} {x0 : Nat} {x1 : Int32} {x2 : Int32} {x3 : Int32} {r : Int32} (h : C_X1_isPoint S x0 x1 x2 x3 = some r) : ∃ fs, gO S 1 x0 = some fs := by
  unfold C_X1_isPoint at h
  obtain ⟨fs, h1, -⟩ := ob h
  exact ⟨fs, h1⟩
/- NetworkCenters distanceTo(IIIII)I -/
def C_X1_distanceTo_67 (S : St) (x0 : Nat) (x1 : Int32) (x2 : Int32) (x3 : Int32) (x4 : Int32) (x5 : Int32) (s0 : Int32) : Option Int32 :=
  (C_X1_checkState s0) >>= fun r12 =>
  (gA S 1 x0 1) >>= fun y13 =>
  (C_X3_distanceTo S y13 x1 x2 (((x3) : Int32).toInt64) (((x4) : Int32).toInt64)) >>= fun r14 =>
  (C_X1_partOf r14 (((x4) : Int32).toInt64) x5) >>= fun r15 =>
  some r15
def C_X1_distanceTo_34 (S : St) (x0 : Nat) (x1 : Int32) (x2 : Int32) (x3 : Int32) (x4 : Int32) (x5 : Int32) (s0 : Int32) : Option Int32 :=
  (C_X1_checkThat s0) >>= fun r5 =>
  (gA S 1 x0 1) >>= fun y6 =>
  (gA S 1 x0 0) >>= fun y7 =>
  (gA S 2 y7 2) >>= fun y8 =>
  (lA S 3 y8 x2) >>= fun y9 =>
  (gI S 4 y9 0) >>= fun y10 =>
  (C_X3_distance S y6 x1 y10) >>= fun r11 =>
  if 100000 ≤ r11 then (
  C_X1_distanceTo_67 S x0 x1 x2 x3 x4 x5 0)
  else (
  C_X1_distanceTo_67 S x0 x1 x2 x3 x4 x5 1)
def C_X1_distanceTo_33 (S : St) (x0 : Nat) (x1 : Int32) (x2 : Int32) (x3 : Int32) (x4 : Int32) (x5 : Int32) : Option Int32 :=
  C_X1_distanceTo_34 S x0 x1 x2 x3 x4 x5 0
def C_X1_distanceTo (S : St) (x0 : Nat) (x1 : Int32) (x2 : Int32) (x3 : Int32) (x4 : Int32) (x5 : Int32) : Option Int32 :=
  (gO S 1 x0) >>= fun _ =>
  (C_X1_checkNode S x0 x1) >>= fun r1 =>
  (C_X1_checkEdge S x0 x2) >>= fun r2 =>
  (C_X1_isPoint S x0 x2 x3 x4) >>= fun r3 =>
  if r3 = 0 then (
  C_X1_distanceTo_33 S x0 x1 x2 x3 x4 x5)
  else (
  (C_X1_isPart x5) >>= fun r4 =>
  if r4 = 0 then (
  C_X1_distanceTo_33 S x0 x1 x2 x3 x4 x5)
  else (
  C_X1_distanceTo_34 S x0 x1 x2 x3 x4 x5 1))
theorem rc_X1_distanceTo {S : St} {x0 : Nat} {x1 : Int32} {x2 : Int32} {x3 : Int32} {x4 : Int32} {x5 : Int32} {r : Int32} (h : C_X1_distanceTo S x0 x1 x2 x3 x4 x5 = some r) : ∃ fs, gO S 1 x0 = some fs := by
  unfold C_X1_distanceTo at h
  obtain ⟨fs, h1, -⟩ := ob h
  exact ⟨fs, h1⟩
/- NetworkCenters isAllowed(III)Z -/
def C_X1_isAllowed (F : Nat) (S : St) (x0 : Nat) (x1 : Int32) (x2 : Int32) (x3 : Int32) : Option Int32 :=
  (gO S 1 x0) >>= fun _ =>
  (C_X1_checkEdge S x0 x1) >>= fun r1 =>
  (C_X1_isPoint S x0 x1 x2 x3) >>= fun r2 =>
  (C_X1_checkThat r2) >>= fun r3 =>
  (gA S 1 x0 0) >>= fun y4 =>
  (C_X2_isAllowed F S y4 x1 (((x2) : Int32).toInt64) (((x3) : Int32).toInt64)) >>= fun r5 =>
  (zz r5) >>= fun b6 => some b6
theorem rc_X1_isAllowed {F : Nat} {S : St} {x0 : Nat} {x1 : Int32} {x2 : Int32} {x3 : Int32} {r : Int32} (h : C_X1_isAllowed F S x0 x1 x2 x3 = some r) : ∃ fs, gO S 1 x0 = some fs := by
  unfold C_X1_isAllowed at h
  obtain ⟨fs, h1, -⟩ := ob h
  exact ⟨fs, h1⟩
/- NetworkCenters isSet(I)Z -/
def C_X1_isSet (S : St) (x0 : Nat) (x1 : Int32) : Option Int32 :=
  (gO S 1 x0) >>= fun _ =>
  (gA S 1 x0 0) >>= fun y1 =>
  (C_X2_size S y1) >>= fun r2 =>
  (C_X1_isIn x1 0 ((1 <<< (r2 &&& 31)) - 1)) >>= fun r3 =>
  (zz r3) >>= fun b4 => some b4
theorem rc_X1_isSet {S : St} {x0 : Nat} {x1 : Int32} {r : Int32} (h : C_X1_isSet S x0 x1 = some r) : ∃ fs, gO S 1 x0 = some fs := by
  unfold C_X1_isSet at h
  obtain ⟨fs, h1, -⟩ := ob h
  exact ⟨fs, h1⟩
/- NetworkCenters height(IIIII)I -/
def C_X1_height_37 (F : Nat) (S : St) (x0 : Nat) (x1 : Int32) (x2 : Int32) (x3 : Int32) (x4 : Int32) (x5 : Int32) (s0 : Int32) : Option Int32 :=
  (C_X1_checkThat s0) >>= fun r5 =>
  (gA S 1 x0 1) >>= fun y6 =>
  (C_X3_isConnected F S y6) >>= fun r7 =>
  (C_X1_checkState r7) >>= fun r8 =>
  (gA S 1 x0 1) >>= fun y9 =>
  (C_X3_height F S y9 x1 x2 (((x3) : Int32).toInt64) (((x4) : Int32).toInt64)) >>= fun r10 =>
  (C_X1_partOf r10 (((x4) : Int32).toInt64) x5) >>= fun r11 =>
  some r11
def C_X1_height_36 (F : Nat) (S : St) (x0 : Nat) (x1 : Int32) (x2 : Int32) (x3 : Int32) (x4 : Int32) (x5 : Int32) : Option Int32 :=
  C_X1_height_37 F S x0 x1 x2 x3 x4 x5 0
def C_X1_height (F : Nat) (S : St) (x0 : Nat) (x1 : Int32) (x2 : Int32) (x3 : Int32) (x4 : Int32) (x5 : Int32) : Option Int32 :=
  (gO S 1 x0) >>= fun _ =>
  (C_X1_checkEdge S x0 x2) >>= fun r1 =>
  (C_X1_isSet S x0 x1) >>= fun r2 =>
  if r2 = 0 then (
  C_X1_height_36 F S x0 x1 x2 x3 x4 x5)
  else (
  (C_X1_isPoint S x0 x2 x3 x4) >>= fun r3 =>
  if r3 = 0 then (
  C_X1_height_36 F S x0 x1 x2 x3 x4 x5)
  else (
  (C_X1_isPart x5) >>= fun r4 =>
  if r4 = 0 then (
  C_X1_height_36 F S x0 x1 x2 x3 x4 x5)
  else (
  C_X1_height_37 F S x0 x1 x2 x3 x4 x5 1)))
theorem rc_X1_height {F : Nat} {S : St} {x0 : Nat} {x1 : Int32} {x2 : Int32} {x3 : Int32} {x4 : Int32} {x5 : Int32} {r : Int32} (h : C_X1_height F S x0 x1 x2 x3 x4 x5 = some r) : ∃ fs, gO S 1 x0 = some fs := by
  unfold C_X1_height at h
  obtain ⟨fs, h1, -⟩ := ob h
  exact ⟨fs, h1⟩
/- NetworkCenters cost(IIII)I -/
def C_X1_cost_28 (F : Nat) (S : St) (x0 : Nat) (x1 : Int32) (x2 : Int32) (x3 : Int32) (x4 : Int32) (s0 : Int32) : Option Int32 :=
  (C_X1_checkThat s0) >>= fun r4 =>
  (gA S 1 x0 1) >>= fun y5 =>
  (C_X3_isConnected F S y5) >>= fun r6 =>
  (C_X1_checkState r6) >>= fun r7 =>
  (gA S 1 x0 1) >>= fun y8 =>
  (C_X3_cost F S y8 x1 (((x2) : Int32).toInt64) (((x3) : Int32).toInt64)) >>= fun r9 =>
  (C_X1_partOf r9 (((x3) : Int32).toInt64) x4) >>= fun r10 =>
  some r10
def C_X1_cost_27 (F : Nat) (S : St) (x0 : Nat) (x1 : Int32) (x2 : Int32) (x3 : Int32) (x4 : Int32) : Option Int32 :=
  C_X1_cost_28 F S x0 x1 x2 x3 x4 0
def C_X1_cost (F : Nat) (S : St) (x0 : Nat) (x1 : Int32) (x2 : Int32) (x3 : Int32) (x4 : Int32) : Option Int32 :=
  (gO S 1 x0) >>= fun _ =>
  (C_X1_checkEdge S x0 x1) >>= fun r1 =>
  (C_X1_isPoint S x0 x1 x2 x3) >>= fun r2 =>
  if r2 = 0 then (
  C_X1_cost_27 F S x0 x1 x2 x3 x4)
  else (
  (C_X1_isPart x4) >>= fun r3 =>
  if r3 = 0 then (
  C_X1_cost_27 F S x0 x1 x2 x3 x4)
  else (
  C_X1_cost_28 F S x0 x1 x2 x3 x4 1))
theorem rc_X1_cost {F : Nat} {S : St} {x0 : Nat} {x1 : Int32} {x2 : Int32} {x3 : Int32} {x4 : Int32} {r : Int32} (h : C_X1_cost F S x0 x1 x2 x3 x4 = some r) : ∃ fs, gO S 1 x0 = some fs := by
  unfold C_X1_cost at h
  obtain ⟨fs, h1, -⟩ := ob h
  exact ⟨fs, h1⟩
/- NetworkCenters corner(III)I -/
def C_X1_corner (F : Nat) (S : St) (x0 : Nat) (x1 : Int32) (x2 : Int32) (x3 : Int32) : Option (Int32 × St) :=
  (gO S 1 x0) >>= fun _ =>
  (C_X1_checkEdge S x0 x1) >>= fun r1 =>
  (C_X1_isIn x3 0 3) >>= fun r2 =>
  (C_X1_checkThat r2) >>= fun r3 =>
  (gA S 1 x0 1) >>= fun y4 =>
  (C_X3_isConnected F S y4) >>= fun r5 =>
  (C_X1_checkState r5) >>= fun r6 =>
  (C_X1_cornerOf F S x0 x1 x2 x3) >>= fun r7 =>
  some (r7.1, r7.2)
theorem rc_X1_corner {F : Nat} {S : St} {x0 : Nat} {x1 : Int32} {x2 : Int32} {x3 : Int32} {r : Int32 × St} (h : C_X1_corner F S x0 x1 x2 x3 = some r) : ∃ fs, gO S 1 x0 = some fs := by
  unfold C_X1_corner at h
  obtain ⟨fs, h1, -⟩ := ob h
  exact ⟨fs, h1⟩
/- NetworkCenters radius(II)I -/
def C_X1_radius_20 (F : Nat) (x0 : Nat) (x1 : Int32) (x2 : Int32) (s0 : Int32) (S : St) : Option (Int32 × St) :=
  (C_X1_checkThat s0) >>= fun r3 =>
  (gA S 1 x0 1) >>= fun y4 =>
  (C_X3_isUsable F S y4) >>= fun r5 =>
  (C_X1_checkState r5) >>= fun r6 =>
  (gA S 1 x0 1) >>= fun y7 =>
  (C_X3_radius F S y7 x1 x2) >>= fun r8 =>
  some (r8.1, r8.2)
def C_X1_radius_19 (F : Nat) (x0 : Nat) (x1 : Int32) (x2 : Int32) (S : St) : Option (Int32 × St) :=
  C_X1_radius_20 F x0 x1 x2 0 S
def C_X1_radius (F : Nat) (S : St) (x0 : Nat) (x1 : Int32) (x2 : Int32) : Option (Int32 × St) :=
  (gO S 1 x0) >>= fun _ =>
  (C_X1_isSet S x0 x1) >>= fun r1 =>
  if r1 = 0 then (
  C_X1_radius_19 F x0 x1 x2 S)
  else (
  (C_X1_isPart x2) >>= fun r2 =>
  if r2 = 0 then (
  C_X1_radius_19 F x0 x1 x2 S)
  else (
  C_X1_radius_20 F x0 x1 x2 1 S))
theorem rc_X1_radius {F : Nat} {S : St} {x0 : Nat} {x1 : Int32} {x2 : Int32} {r : Int32 × St} (h : C_X1_radius F S x0 x1 x2 = some r) : ∃ fs, gO S 1 x0 = some fs := by
  unfold C_X1_radius at h
  obtain ⟨fs, h1, -⟩ := ob h
  exact ⟨fs, h1⟩
/- NetworkCenters center(II)I -/
def C_X1_center_22 (F : Nat) (x0 : Nat) (x1 : Int32) (x2 : Int32) (s0 : Int32) (S : St) : Option (Int32 × St) :=
  (C_X1_checkThat s0) >>= fun r3 =>
  (gA S 1 x0 1) >>= fun y4 =>
  (C_X3_isUsable F S y4) >>= fun r5 =>
  (C_X1_checkState r5) >>= fun r6 =>
  (gA S 1 x0 1) >>= fun y7 =>
  (C_X3_center F S y7 x1) >>= fun r8 =>
  (C_X1_placeOf r8.2 x0 (r8.1) x2) >>= fun r9 =>
  some (r9, r8.2)
def C_X1_center_21 (F : Nat) (x0 : Nat) (x1 : Int32) (x2 : Int32) (S : St) : Option (Int32 × St) :=
  C_X1_center_22 F x0 x1 x2 0 S
def C_X1_center (F : Nat) (S : St) (x0 : Nat) (x1 : Int32) (x2 : Int32) : Option (Int32 × St) :=
  (gO S 1 x0) >>= fun _ =>
  (C_X1_isSet S x0 x1) >>= fun r1 =>
  if r1 = 0 then (
  C_X1_center_21 F x0 x1 x2 S)
  else (
  (C_X1_isIn x2 0 2) >>= fun r2 =>
  if r2 = 0 then (
  C_X1_center_21 F x0 x1 x2 S)
  else (
  C_X1_center_22 F x0 x1 x2 1 S))
theorem rc_X1_center {F : Nat} {S : St} {x0 : Nat} {x1 : Int32} {x2 : Int32} {r : Int32 × St} (h : C_X1_center F S x0 x1 x2 = some r) : ∃ fs, gO S 1 x0 = some fs := by
  unfold C_X1_center at h
  obtain ⟨fs, h1, -⟩ := ob h
  exact ⟨fs, h1⟩
/- NetworkCenters critical(I)I -/
def C_X1_critical (F : Nat) (S : St) (x0 : Nat) (x1 : Int32) : Option (Int32 × St) :=
  (gO S 1 x0) >>= fun _ =>
  (C_X1_isSet S x0 x1) >>= fun r1 =>
  (C_X1_checkThat r1) >>= fun r2 =>
  (gA S 1 x0 1) >>= fun y3 =>
  (C_X3_isUsable F S y3) >>= fun r4 =>
  (C_X1_checkState r4) >>= fun r5 =>
  (gA S 1 x0 1) >>= fun y6 =>
  (C_X3_critical F S y6 x1) >>= fun r7 =>
  some (r7.1, r7.2)
theorem rc_X1_critical {F : Nat} {S : St} {x0 : Nat} {x1 : Int32} {r : Int32 × St} (h : C_X1_critical F S x0 x1 = some r) : ∃ fs, gO S 1 x0 = some fs := by
  unfold C_X1_critical at h
  obtain ⟨fs, h1, -⟩ := ob h
  exact ⟨fs, h1⟩
/- NetworkCenters median(I)I -/
def C_X1_median (F : Nat) (S : St) (x0 : Nat) (x1 : Int32) : Option (Int32 × St) :=
  (gO S 1 x0) >>= fun _ =>
  (C_X1_isIn x1 0 4) >>= fun r1 =>
  (C_X1_checkThat r1) >>= fun r2 =>
  (gA S 1 x0 1) >>= fun y3 =>
  (C_X3_isUsable F S y3) >>= fun r4 =>
  (C_X1_checkState r4) >>= fun r5 =>
  (C_X1_medianOf F S x0 x1) >>= fun r6 =>
  some (r6.1, r6.2)
theorem rc_X1_median {F : Nat} {S : St} {x0 : Nat} {x1 : Int32} {r : Int32 × St} (h : C_X1_median F S x0 x1 = some r) : ∃ fs, gO S 1 x0 = some fs := by
  unfold C_X1_median at h
  obtain ⟨fs, h1, -⟩ := ob h
  exact ⟨fs, h1⟩
/- NetworkCenters radiusOf(II)I -/
def C_X1_radiusOf_21 (F : Nat) (x0 : Nat) (x1 : Int32) (x2 : Int32) (s0 : Int32) (S : St) : Option (Int32 × St) :=
  (C_X1_checkThat s0) >>= fun r3 =>
  (gA S 1 x0 1) >>= fun y4 =>
  (C_X3_isUsable F S y4) >>= fun r5 =>
  (C_X1_checkState r5) >>= fun r6 =>
  (gA S 1 x0 1) >>= fun y7 =>
  (gA S 1 x0 1) >>= fun y8 =>
  (C_X3_deciding F S y8 x1) >>= fun r9 =>
  (C_X3_radius F r9.2 y7 (r9.1) x2) >>= fun r10 =>
  some (r10.1, r10.2)
def C_X1_radiusOf_20 (F : Nat) (x0 : Nat) (x1 : Int32) (x2 : Int32) (S : St) : Option (Int32 × St) :=
  C_X1_radiusOf_21 F x0 x1 x2 0 S
def C_X1_radiusOf (F : Nat) (S : St) (x0 : Nat) (x1 : Int32) (x2 : Int32) : Option (Int32 × St) :=
  (gO S 1 x0) >>= fun _ =>
  (C_X1_isIn x1 1 3) >>= fun r1 =>
  if r1 = 0 then (
  C_X1_radiusOf_20 F x0 x1 x2 S)
  else (
  (C_X1_isPart x2) >>= fun r2 =>
  if r2 = 0 then (
  C_X1_radiusOf_20 F x0 x1 x2 S)
  else (
  C_X1_radiusOf_21 F x0 x1 x2 1 S))
theorem rc_X1_radiusOf {F : Nat} {S : St} {x0 : Nat} {x1 : Int32} {x2 : Int32} {r : Int32 × St} (h : C_X1_radiusOf F S x0 x1 x2 = some r) : ∃ fs, gO S 1 x0 = some fs := by
  unfold C_X1_radiusOf at h
  obtain ⟨fs, h1, -⟩ := ob h
  exact ⟨fs, h1⟩
/- NetworkCenters$Plan greatest(IIJJ)I -/
def C_X3_greatest_30 (F : Nat) (k3 : Int32 → St → Option (Int32 × St)) (x0 : Nat) (x1 : Int32) (x2 : Int32) (x3 : Int64) (x5 : Int64) (x7 : Int32) (S : St) : Option (Int32 × St) :=
  (some ((x7 - 1) &&& x1)) >>= fun y3 =>
  k3 y3 S
def C_X3_greatest_3 (F : Nat) (x0 : Nat) (x1 : Int32) (x2 : Int32) (x3 : Int64) (x5 : Int64) : Nat → Int32 → St → Option (Int32 × St)
  | 0, _, _ => none
  | n + 1, x7, S =>
    (C_X3_isAtMost F S x0 x7 x3 x5) >>= fun r1 =>
    if r1.1 = 0 then (
    C_X3_greatest_30 F (C_X3_greatest_3 F x0 x1 x2 x3 x5 n) x0 x1 x2 x3 x5 x7 r1.2)
    else (
    (C_X3_isDivided F r1.2 x0 (x1 ^^^ x7) x2 x3 x5) >>= fun r2 =>
    if r2.1 = 0 then (
    C_X3_greatest_30 F (C_X3_greatest_3 F x0 x1 x2 x3 x5 n) x0 x1 x2 x3 x5 x7 r2.2)
    else (
    some (x7, r2.2)))
def C_X3_greatest (F : Nat) (S : St) (x0 : Nat) (x1 : Int32) (x2 : Int32) (x3 : Int64) (x5 : Int64) : Option (Int32 × St) :=
  (gO S 3 x0) >>= fun _ =>
  C_X3_greatest_3 F x0 x1 x2 x3 x5 F x1 S
theorem rc_X3_greatest {F : Nat} {S : St} {x0 : Nat} {x1 : Int32} {x2 : Int32} {x3 : Int64} {x5 : Int64} {r : Int32 × St} (h : C_X3_greatest F S x0 x1 x2 x3 x5 = some r) : ∃ fs, gO S 3 x0 = some fs := by
  unfold C_X3_greatest at h
  obtain ⟨fs, h1, -⟩ := ob h
  exact ⟨fs, h1⟩
/- NetworkCenters$Plan group(II)I -/
def C_X3_group_36 (F : Nat) (x0 : Nat) (x1 : Int32) (x2 : Int32) (x4 : Int64) (x6 : Int64) : Nat → Int32 → Int32 → Int32 → St → Option (Int32 × St)
  | 0, _, _, _, _ => none
  | n + 1, x8, x9, x10, S =>
    if x2 < x10 then (
    some (x9, S))
    else (
    (C_X3_greatest F S x0 x8 ((x1 - 1) - x10) x4 x6) >>= fun r9 =>
    (some (r9.1)) >>= fun y10 =>
    (some (x8 ^^^ y10)) >>= fun y11 =>
    (some (x10 + 1)) >>= fun y12 =>
    C_X3_group_36 F x0 x1 x2 x4 x6 n y11 y10 y12 r9.2)
def C_X3_group (F : Nat) (S : St) (x0 : Nat) (x1 : Int32) (x2 : Int32) : Option (Int32 × St) :=
  (gO S 3 x0) >>= fun _ =>
  (C_X3_deciding F S x0 x1) >>= fun r1 =>
  (some (r1.1)) >>= fun y2 =>
  (C_X3_above F r1.2 x0 y2) >>= fun r3 =>
  (some (r3.1)) >>= fun y4 =>
  (C_X3_below F r3.2 x0 y2) >>= fun r5 =>
  (some (r5.1)) >>= fun y6 =>
  (gI r5.2 3 x0 1) >>= fun y7 =>
  (some ((1 <<< (y7 &&& 31)) - 1)) >>= fun y8 =>
  C_X3_group_36 F x0 x1 x2 y4 y6 F y8 0 0 r5.2
theorem rc_X3_group {F : Nat} {S : St} {x0 : Nat} {x1 : Int32} {x2 : Int32} {r : Int32 × St} (h : C_X3_group F S x0 x1 x2 = some r) : ∃ fs, gO S 3 x0 = some fs := by
  unfold C_X3_group at h
  obtain ⟨fs, h1, -⟩ := ob h
  exact ⟨fs, h1⟩
/- NetworkCenters group(II)I -/
def C_X1_group_25 (F : Nat) (x0 : Nat) (x1 : Int32) (x2 : Int32) (s0 : Int32) (S : St) : Option (Int32 × St) :=
  (C_X1_checkThat s0) >>= fun r3 =>
  (gA S 1 x0 1) >>= fun y4 =>
  (C_X3_isUsable F S y4) >>= fun r5 =>
  (C_X1_checkState r5) >>= fun r6 =>
  (gA S 1 x0 1) >>= fun y7 =>
  (C_X3_group F S y7 x1 x2) >>= fun r8 =>
  some (r8.1, r8.2)
def C_X1_group_24 (F : Nat) (x0 : Nat) (x1 : Int32) (x2 : Int32) (S : St) : Option (Int32 × St) :=
  C_X1_group_25 F x0 x1 x2 0 S
def C_X1_group (F : Nat) (S : St) (x0 : Nat) (x1 : Int32) (x2 : Int32) : Option (Int32 × St) :=
  (gO S 1 x0) >>= fun _ =>
  (C_X1_isIn x1 1 3) >>= fun r1 =>
  if r1 = 0 then (
  C_X1_group_24 F x0 x1 x2 S)
  else (
  (C_X1_isIn x2 0 (x1 - 1)) >>= fun r2 =>
  if r2 = 0 then (
  C_X1_group_24 F x0 x1 x2 S)
  else (
  C_X1_group_25 F x0 x1 x2 1 S))
theorem rc_X1_group {F : Nat} {S : St} {x0 : Nat} {x1 : Int32} {x2 : Int32} {r : Int32 × St} (h : C_X1_group F S x0 x1 x2 = some r) : ∃ fs, gO S 1 x0 = some fs := by
  unfold C_X1_group at h
  obtain ⟨fs, h1, -⟩ := ob h
  exact ⟨fs, h1⟩
/- NetworkCenters$Plan covering(JJ)I -/
def C_X3_covering_3 (F : Nat) (x0 : Nat) (x1 : Int64) (x3 : Int64) : Nat → Int32 → St → Option (Int32 × St)
  | 0, _, _ => none
  | n + 1, x5, S =>
    (gI S 3 x0 1) >>= fun y1 =>
    (C_X3_isDivided F S x0 ((1 <<< (y1 &&& 31)) - 1) x5 x1 x3) >>= fun r2 =>
    if r2.1 = 0 then (
    (some (x5 + 1)) >>= fun y3 =>
    C_X3_covering_3 F x0 x1 x3 n y3 r2.2)
    else (
    some (x5, r2.2))
def C_X3_covering (F : Nat) (S : St) (x0 : Nat) (x1 : Int64) (x3 : Int64) : Option (Int32 × St) :=
  (gO S 3 x0) >>= fun _ =>
  C_X3_covering_3 F x0 x1 x3 F 1 S
theorem rc_X3_covering {F : Nat} {S : St} {x0 : Nat} {x1 : Int64} {x3 : Int64} {r : Int32 × St} (h : C_X3_covering F S x0 x1 x3 = some r) : ∃ fs, gO S 3 x0 = some fs := by
  unfold C_X3_covering at h
  obtain ⟨fs, h1, -⟩ := ob h
  exact ⟨fs, h1⟩
/- NetworkCenters covering(II)I -/
def C_X1_covering_20 (F : Nat) (x0 : Nat) (x1 : Int32) (x2 : Int32) (s0 : Int32) (S : St) : Option (Int32 × St) :=
  (C_X1_checkThat s0) >>= fun r2 =>
  (gA S 1 x0 1) >>= fun y3 =>
  (C_X3_isUsable F S y3) >>= fun r4 =>
  (C_X1_checkState r4) >>= fun r5 =>
  (gA S 1 x0 1) >>= fun y6 =>
  (C_X3_covering F S y6 (((x1) : Int32).toInt64) (((x2) : Int32).toInt64)) >>= fun r7 =>
  some (r7.1, r7.2)
def C_X1_covering_19 (F : Nat) (x0 : Nat) (x1 : Int32) (x2 : Int32) (S : St) : Option (Int32 × St) :=
  C_X1_covering_20 F x0 x1 x2 0 S
def C_X1_covering (F : Nat) (S : St) (x0 : Nat) (x1 : Int32) (x2 : Int32) : Option (Int32 × St) :=
  (gO S 1 x0) >>= fun _ =>
  if x1 < 0 then (
  C_X1_covering_19 F x0 x1 x2 S)
  else (
  (C_X1_isIn x2 1 1000) >>= fun r1 =>
  if r1 = 0 then (
  C_X1_covering_19 F x0 x1 x2 S)
  else (
  C_X1_covering_20 F x0 x1 x2 1 S))
theorem rc_X1_covering {F : Nat} {S : St} {x0 : Nat} {x1 : Int32} {x2 : Int32} {r : Int32 × St} (h : C_X1_covering F S x0 x1 x2 = some r) : ∃ fs, gO S 1 x0 = some fs := by
  unfold C_X1_covering at h
  obtain ⟨fs, h1, -⟩ := ob h
  exact ⟨fs, h1⟩
/- NetworkCenters covered(III)I -/
def C_X1_covered_96 (F : Nat) (k53 : Int32 → Int32 → Option Int32) (S : St) (x0 : Nat) (x1 : Int32) (x2 : Int32) (x3 : Int32) (x5 : Int32) (s0 : Int32) (s1 : Int32) : Option Int32 :=
  (some (s0 ||| s1)) >>= fun y15 =>
  (some (x5 + 1)) >>= fun y16 =>
  k53 y15 y16
def C_X1_covered_53 (F : Nat) (S : St) (x0 : Nat) (x1 : Int32) (x2 : Int32) (x3 : Int32) : Nat → Int32 → Int32 → Option Int32
  | 0, _, _ => none
  | n + 1, x4, x5 =>
    (gA S 1 x0 0) >>= fun y11 =>
    (C_X2_size S y11) >>= fun r12 =>
    if r12 ≤ x5 then (
    some x4)
    else (
    (gA S 1 x0 1) >>= fun y13 =>
    (C_X3_height F S y13 (1 <<< (x5 &&& 31)) x1 (((x2) : Int32).toInt64) 1) >>= fun r14 =>
    if ((x3) : Int32).toInt64 < r14 then (
    C_X1_covered_96 F (C_X1_covered_53 F S x0 x1 x2 x3 n) S x0 x1 x2 x3 x5 x4 0)
    else (
    C_X1_covered_96 F (C_X1_covered_53 F S x0 x1 x2 x3 n) S x0 x1 x2 x3 x5 x4 (1 <<< (x5 &&& 31))))
def C_X1_covered_34 (F : Nat) (S : St) (x0 : Nat) (x1 : Int32) (x2 : Int32) (x3 : Int32) (s0 : Int32) : Option Int32 :=
  (C_X1_checkThat s0) >>= fun r7 =>
  (gA S 1 x0 1) >>= fun y8 =>
  (C_X3_isConnected F S y8) >>= fun r9 =>
  (C_X1_checkState r9) >>= fun r10 =>
  C_X1_covered_53 F S x0 x1 x2 x3 F 0 0
def C_X1_covered_33 (F : Nat) (S : St) (x0 : Nat) (x1 : Int32) (x2 : Int32) (x3 : Int32) : Option Int32 :=
  C_X1_covered_34 F S x0 x1 x2 x3 0
def C_X1_covered (F : Nat) (S : St) (x0 : Nat) (x1 : Int32) (x2 : Int32) (x3 : Int32) : Option Int32 :=
  (gO S 1 x0) >>= fun _ =>
  (C_X1_checkEdge S x0 x1) >>= fun r1 =>
  (gA S 1 x0 0) >>= fun y2 =>
  (gA S 2 y2 2) >>= fun y3 =>
  (lA S 3 y3 x1) >>= fun y4 =>
  (gI S 4 y4 2) >>= fun y5 =>
  (C_X1_isIn x2 0 y5) >>= fun r6 =>
  if r6 = 0 then (
  C_X1_covered_33 F S x0 x1 x2 x3)
  else (
  if x3 < 0 then (
  C_X1_covered_33 F S x0 x1 x2 x3)
  else (
  C_X1_covered_34 F S x0 x1 x2 x3 1))
theorem rc_X1_covered {F : Nat} {S : St} {x0 : Nat} {x1 : Int32} {x2 : Int32} {x3 : Int32} {r : Int32} (h : C_X1_covered F S x0 x1 x2 x3 = some r) : ∃ fs, gO S 1 x0 = some fs := by
  unfold C_X1_covered at h
  obtain ⟨fs, h1, -⟩ := ob h
  exact ⟨fs, h1⟩
/- NetworkCenters$Network changed(I)LNetworkCenters$Network; -/
def C_X2_changed_39 (F : Nat) (x0 : Nat) (x2 : Nat) (S : St) : Option (Nat × St) :=
  (some (nO S 2 df_2 4)) >>= fun r10 =>
  (gA r10.2 2 x0 1) >>= fun y11 =>
  (gA r10.2 2 x0 2) >>= fun y12 =>
  (gA r10.2 2 x0 3) >>= fun y13 =>
  (C_X2_init_2 r10.2 (r10.1) x2 y11 y12 y13) >>= fun r14 =>
  some (r10.1, r14)
def C_X2_changed_13 (F : Nat) (x0 : Nat) (x1 : Int32) (x2 : Nat) : Nat → Int32 → St → Option (Nat × St)
  | 0, _, _ => none
  | n + 1, x3, S =>
    (aN S 0 x2) >>= fun y4 =>
    if y4 ≤ x3 then (
    C_X2_changed_39 F x0 x2 S)
    else (
    (lI S 0 x2 x3) >>= fun y5 =>
    (gA S 2 x0 1) >>= fun y6 =>
    (lI S 0 y6 x3) >>= fun y7 =>
    (tI S 0 x2 x3 (y5 + (x1 * y7))) >>= fun S8 =>
    (some (x3 + 1)) >>= fun y9 =>
    C_X2_changed_13 F x0 x1 x2 n y9 S8)
def C_X2_changed (F : Nat) (S : St) (x0 : Nat) (x1 : Int32) : Option (Nat × St) :=
  (gO S 2 x0) >>= fun _ =>
  (gA S 2 x0 0) >>= fun y1 =>
  (gcl S y1) >>= fun r2 =>
  (aI r2.2 0 (r2.1)) >>= fun y3 =>
  C_X2_changed_13 F x0 x1 (r2.1) F 0 r2.2
theorem rc_X2_changed {F : Nat} {S : St} {x0 : Nat} {x1 : Int32} {r : Nat × St} (h : C_X2_changed F S x0 x1 = some r) : ∃ fs, gO S 2 x0 = some fs := by
  unfold C_X2_changed at h
  obtain ⟨fs, h1, -⟩ := ob h
  exact ⟨fs, h1⟩
/- NetworkCenters changedRadius(II)I -/
def C_X1_changedRadius_22 (F : Nat) (x0 : Nat) (x1 : Int32) (x2 : Int32) (s0 : Int32) (S : St) : Option (Int32 × St) :=
  (C_X1_checkThat s0) >>= fun r3 =>
  (gA S 1 x0 1) >>= fun y4 =>
  (C_X3_isUsable F S y4) >>= fun r5 =>
  (C_X1_checkState r5) >>= fun r6 =>
  (some (nO S 3 df_3 7)) >>= fun r7 =>
  (gA r7.2 1 x0 0) >>= fun y8 =>
  (C_X2_changed F r7.2 y8 x1) >>= fun r9 =>
  (C_X3_init F r9.2 (r7.1) (r9.1)) >>= fun r10 =>
  (gA r10 1 x0 0) >>= fun y11 =>
  (C_X2_size r10 y11) >>= fun r12 =>
  (C_X3_radius F r10 (r7.1) ((1 <<< (r12 &&& 31)) - 1) x2) >>= fun r13 =>
  some (r13.1, r13.2)
def C_X1_changedRadius_21 (F : Nat) (x0 : Nat) (x1 : Int32) (x2 : Int32) (S : St) : Option (Int32 × St) :=
  C_X1_changedRadius_22 F x0 x1 x2 0 S
def C_X1_changedRadius (F : Nat) (S : St) (x0 : Nat) (x1 : Int32) (x2 : Int32) : Option (Int32 × St) :=
  (gO S 1 x0) >>= fun _ =>
  (C_X1_isIn x1 0 10) >>= fun r1 =>
  if r1 = 0 then (
  C_X1_changedRadius_21 F x0 x1 x2 S)
  else (
  (C_X1_isPart x2) >>= fun r2 =>
  if r2 = 0 then (
  C_X1_changedRadius_21 F x0 x1 x2 S)
  else (
  C_X1_changedRadius_22 F x0 x1 x2 1 S))
theorem rc_X1_changedRadius {F : Nat} {S : St} {x0 : Nat} {x1 : Int32} {x2 : Int32} {r : Int32 × St} (h : C_X1_changedRadius F S x0 x1 x2 = some r) : ∃ fs, gO S 1 x0 = some fs := by
  unfold C_X1_changedRadius at h
  obtain ⟨fs, h1, -⟩ := ob h
  exact ⟨fs, h1⟩
/- NetworkCenters radiusWithout(II)I -/
def C_X1_radiusWithout (F : Nat) (S : St) (x0 : Nat) (x1 : Int32) (x2 : Int32) : Option (Int32 × St) :=
  (gO S 1 x0) >>= fun _ =>
  (C_X1_checkEdge S x0 x1) >>= fun r1 =>
  (C_X1_isPart x2) >>= fun r2 =>
  (C_X1_checkThat r2) >>= fun r3 =>
  (some (nO S 3 df_3 7)) >>= fun r4 =>
  (gA r4.2 1 x0 0) >>= fun y5 =>
  (C_X2_withoutEdge F r4.2 y5 x1) >>= fun r6 =>
  (C_X3_init F r6.2 (r4.1) (r6.1)) >>= fun r7 =>
  (C_X3_isUsable F r7 (r4.1)) >>= fun r8 =>
  if r8 = 0 then (
  some ((-1), r7))
  else (
  (gA r7 1 x0 0) >>= fun y9 =>
  (C_X2_size r7 y9) >>= fun r10 =>
  (C_X3_radius F r7 (r4.1) ((1 <<< (r10 &&& 31)) - 1) x2) >>= fun r11 =>
  some (r11.1, r11.2))
theorem rc_X1_radiusWithout {F : Nat} {S : St} {x0 : Nat} {x1 : Int32} {x2 : Int32} {r : Int32 × St} (h : C_X1_radiusWithout F S x0 x1 x2 = some r) : ∃ fs, gO S 1 x0 = some fs := by
  unfold C_X1_radiusWithout at h
  obtain ⟨fs, h1, -⟩ := ob h
  exact ⟨fs, h1⟩
/- NetworkCenters type(I)I -/
def C_X1_type_28 (x0 : Nat) (x1 : Int32) (s0 : Int32) (S : St) : Option (Int32 × St) :=
  (C_X1_checkState s0) >>= fun r5 =>
  (gA S 1 x0 3) >>= fun y6 =>
  (C_J4_append_3 S y6 ((x1.toUInt32 % 65536).toInt32)) >>= fun r7 =>
  (gA r7.2 1 x0 3) >>= fun y8 =>
  (C_J4_length r7.2 y8) >>= fun r9 =>
  some (r9, r7.2)
def C_X1_type (S : St) (x0 : Nat) (x1 : Int32) : Option (Int32 × St) :=
  (gO S 1 x0) >>= fun _ =>
  (C_X1_isIn x1 32 126) >>= fun r1 =>
  (C_X1_checkThat r1) >>= fun r2 =>
  (gA S 1 x0 3) >>= fun y3 =>
  (C_J4_length S y3) >>= fun r4 =>
  if 120 ≤ r4 then (
  C_X1_type_28 x0 x1 0 S)
  else (
  C_X1_type_28 x0 x1 1 S)
theorem rc_X1_type {S : St} {x0 : Nat} {x1 : Int32} {r : Int32 × St} (h : C_X1_type S x0 x1 = some r) : ∃ fs, gO S 1 x0 = some fs := by
  unfold C_X1_type at h
  obtain ⟨fs, h1, -⟩ := ob h
  exact ⟨fs, h1⟩
/- NetworkCenters undo()I -/
def C_X1_undo_15 (F : Nat) (x0 : Nat) (s0 : Int32) (S : St) : Option (Int32 × St) :=
  (C_X1_checkState s0) >>= fun r3 =>
  (gA S 1 x0 2) >>= fun y4 =>
  (C_J2_removeLast S y4) >>= fun r5 =>
  (gO r5.2 2 (r5.1)) >>= fun y6 =>
  (C_X1_stand F r5.2 x0 (r5.1)) >>= fun r7 =>
  (gA r7 1 x0 2) >>= fun y8 =>
  (C_J2_size r7 y8) >>= fun r9 =>
  some (r9, r7)
def C_X1_undo (F : Nat) (S : St) (x0 : Nat) : Option (Int32 × St) :=
  (gO S 1 x0) >>= fun _ =>
  (gA S 1 x0 2) >>= fun y1 =>
  (C_J2_isEmpty S y1) >>= fun r2 =>
  if r2 = 0 then (
  C_X1_undo_15 F x0 1 S)
  else (
  C_X1_undo_15 F x0 0 S)
theorem rc_X1_undo {F : Nat} {S : St} {x0 : Nat} {r : Int32 × St} (h : C_X1_undo F S x0 = some r) : ∃ fs, gO S 1 x0 = some fs := by
  unfold C_X1_undo at h
  obtain ⟨fs, h1, -⟩ := ob h
  exact ⟨fs, h1⟩
/- NetworkCenters$Reader <init>(Ljava/lang/CharSequence;)V -/
def C_X10_init (S : St) (x0 : Nat) (x1 : Nat) : Option St :=
  (nI_ S 0 3) >>= fun r1 =>
  (gP r1.2 9 x0 1 (.ref (r1.1))) >>= fun S2 =>
  (gP S2 9 x0 0 (.ref x1)) >>= fun S3 =>
  some S3
/- NetworkCenters$Reader next()I -/
def C_X10_next (ek : Nat → Nat) (S : St) (x0 : Nat) : Option Int32 :=
  (gO S 9 x0) >>= fun _ =>
  (gI S 9 x0 3) >>= fun y1 =>
  (gA S 9 x0 0) >>= fun y2 =>
  (C_J4_length S y2) >>= fun r3 =>
  if r3 ≤ y1 then (
  some (-2))
  else (
  (gA S 9 x0 0) >>= fun y4 =>
  (gI S 9 x0 3) >>= fun y5 =>
  (C_J4_charAt ek S y4 y5) >>= fun r6 =>
  some r6)
theorem rc_X10_next {ek : Nat → Nat} {S : St} {x0 : Nat} {r : Int32} (h : C_X10_next ek S x0 = some r) : ∃ fs, gO S 9 x0 = some fs := by
  unfold C_X10_next at h
  obtain ⟨fs, h1, -⟩ := ob h
  exact ⟨fs, h1⟩
/- NetworkCenters$Reader token()I -/
def C_X10_token_22 (F : Nat) (ek : Nat → Nat) (x0 : Nat) (S : St) : Option (Int32 × St) :=
  (C_X10_next ek S x0) >>= fun r4 =>
  some (r4, S)
def C_X10_token_0 (F : Nat) (ek : Nat → Nat) (x0 : Nat) : Nat → St → Option (Int32 × St)
  | 0, _ => none
  | n + 1, S =>
    (C_X10_next ek S x0) >>= fun r1 =>
    if r1 = 32 then (
    (gI S 9 x0 3) >>= fun y2 =>
    (gP S 9 x0 3 (.int (y2 + 1))) >>= fun S3 =>
    C_X10_token_0 F ek x0 n S3)
    else (
    C_X10_token_22 F ek x0 S)
def C_X10_token (F : Nat) (ek : Nat → Nat) (S : St) (x0 : Nat) : Option (Int32 × St) :=
  (gO S 9 x0) >>= fun _ =>
  C_X10_token_0 F ek x0 F S
theorem rc_X10_token {F : Nat} {ek : Nat → Nat} {S : St} {x0 : Nat} {r : Int32 × St} (h : C_X10_token F ek S x0 = some r) : ∃ fs, gO S 9 x0 = some fs := by
  unfold C_X10_token at h
  obtain ⟨fs, h1, -⟩ := ob h
  exact ⟨fs, h1⟩
/- NetworkCenters$Reader isAtEnd()Z -/
def C_X10_isAtEnd (F : Nat) (ek : Nat → Nat) (S : St) (x0 : Nat) : Option (Int32 × St) :=
  (gO S 9 x0) >>= fun _ =>
  (C_X10_token F ek S x0) >>= fun r1 =>
  if r1.1 = (-2) then (
  some (1, r1.2))
  else (
  some (0, r1.2))
theorem rc_X10_isAtEnd {F : Nat} {ek : Nat → Nat} {S : St} {x0 : Nat} {r : Int32 × St} (h : C_X10_isAtEnd F ek S x0 = some r) : ∃ fs, gO S 9 x0 = some fs := by
  unfold C_X10_isAtEnd at h
  obtain ⟨fs, h1, -⟩ := ob h
  exact ⟨fs, h1⟩
/- NetworkCenters$Fault <init>(I)V -/
def C_X11_init (ek : Nat → Nat) (S : St) (x0 : Nat) (x1 : Int32) : Option St :=
  (C_J8_init_2 ek S x0 (ek 7) none 0 0) >>= fun r1 =>
  (gP r1 10 x0 6 (.int x1)) >>= fun S2 =>
  some S2
/- NetworkCenters$Reader require(Z)V -/
def C_X10_require (ek : Nat → Nat) (S : St) (x0 : Nat) (x1 : Int32) : Option St :=
  (gO S 9 x0) >>= fun _ =>
  if x1 = 0 then (
  (some (nO S 10 df_10 7)) >>= fun r1 =>
  (gI r1.2 9 x0 3) >>= fun y2 =>
  (C_X11_init ek r1.2 (r1.1) y2) >>= fun r3 =>
  none)
  else (
  some S)
theorem rc_X10_require {ek : Nat → Nat} {S : St} {x0 : Nat} {x1 : Int32} {r : St} (h : C_X10_require ek S x0 x1 = some r) : ∃ fs, gO S 9 x0 = some fs := by
  unfold C_X10_require at h
  obtain ⟨fs, h1, -⟩ := ob h
  exact ⟨fs, h1⟩
/- NetworkCenters$Reader expect(C)V -/
def C_X10_expect_14 (F : Nat) (ek : Nat → Nat) (x0 : Nat) (s0 : Nat) (s1 : Int32) (S : St) : Option St :=
  (C_X10_require ek S s0 s1) >>= fun r2 =>
  (gI r2 9 x0 3) >>= fun y3 =>
  (gP r2 9 x0 3 (.int (y3 + 1))) >>= fun S4 =>
  some S4
def C_X10_expect (F : Nat) (ek : Nat → Nat) (S : St) (x0 : Nat) (x1 : Int32) : Option St :=
  (gO S 9 x0) >>= fun _ =>
  (C_X10_token F ek S x0) >>= fun r1 =>
  if r1.1 = x1 then (
  C_X10_expect_14 F ek x0 x0 1 r1.2)
  else (
  C_X10_expect_14 F ek x0 x0 0 r1.2)
theorem rc_X10_expect {F : Nat} {ek : Nat → Nat} {S : St} {x0 : Nat} {x1 : Int32} {r : St} (h : C_X10_expect F ek S x0 x1 = some r) : ∃ fs, gO S 9 x0 = some fs := by
  unfold C_X10_expect at h
  obtain ⟨fs, h1, -⟩ := ob h
  exact ⟨fs, h1⟩
/- NetworkCenters$Reader number()I -/
def C_X10_number_70 (F : Nat) (ek : Nat → Nat) (x0 : Nat) (x1 : Int32) (S : St) : Option (Int32 × St) :=
  (C_X10_next ek S x0) >>= fun r14 =>
  (C_X1_isIn r14 48 57) >>= fun r15 =>
  if r15 = 0 then (
  (C_X10_require ek S x0 1) >>= fun r16 =>
  some (x1, r16))
  else (
  (C_X10_require ek S x0 0) >>= fun r17 =>
  some (x1, r17))
def C_X10_number (F : Nat) (ek : Nat → Nat) (S : St) (x0 : Nat) : Option (Int32 × St) :=
  (gO S 9 x0) >>= fun _ =>
  (C_X10_token F ek S x0) >>= fun r1 =>
  (C_X1_isIn (r1.1) 48 57) >>= fun r2 =>
  (C_X10_require ek r1.2 x0 r2) >>= fun r3 =>
  (C_X10_next ek r3 x0) >>= fun r4 =>
  (some (r4 - 48)) >>= fun y5 =>
  (gI r3 9 x0 3) >>= fun y6 =>
  (gP r3 9 x0 3 (.int (y6 + 1))) >>= fun S7 =>
  (C_X10_next ek S7 x0) >>= fun r8 =>
  (C_X1_isIn r8 48 57) >>= fun r9 =>
  if r9 = 0 then (
  C_X10_number_70 F ek x0 y5 S7)
  else (
  (C_X10_next ek S7 x0) >>= fun r10 =>
  (some (((10 * y5) + r10) - 48)) >>= fun y11 =>
  (gI S7 9 x0 3) >>= fun y12 =>
  (gP S7 9 x0 3 (.int (y12 + 1))) >>= fun S13 =>
  C_X10_number_70 F ek x0 y11 S13)
theorem rc_X10_number {F : Nat} {ek : Nat → Nat} {S : St} {x0 : Nat} {r : Int32 × St} (h : C_X10_number F ek S x0 = some r) : ∃ fs, gO S 9 x0 = some fs := by
  unfold C_X10_number at h
  obtain ⟨fs, h1, -⟩ := ob h
  exact ⟨fs, h1⟩
/- NetworkCenters$Reader two(IC)V -/
def C_X10_two (F : Nat) (ek : Nat → Nat) (S : St) (x0 : Nat) (x1 : Int32) (x2 : Int32) : Option St :=
  (gO S 9 x0) >>= fun _ =>
  (gA S 9 x0 1) >>= fun y1 =>
  (C_X10_number F ek S x0) >>= fun r2 =>
  (tI r2.2 0 y1 x1 (r2.1)) >>= fun S3 =>
  (C_X10_expect F ek S3 x0 x2) >>= fun r4 =>
  (gA r4 9 x0 1) >>= fun y5 =>
  (C_X10_number F ek r4 x0) >>= fun r6 =>
  (tI r6.2 0 y5 (x1 + 1) (r6.1)) >>= fun S7 =>
  some S7
theorem rc_X10_two {F : Nat} {ek : Nat → Nat} {S : St} {x0 : Nat} {x1 : Int32} {x2 : Int32} {r : St} (h : C_X10_two F ek S x0 x1 x2 = some r) : ∃ fs, gO S 9 x0 = some fs := by
  unfold C_X10_two at h
  obtain ⟨fs, h1, -⟩ := ob h
  exact ⟨fs, h1⟩
/- NetworkCenters$Reader command()V -/
def C_X10_command_156 (F : Nat) (ek : Nat → Nat) (x0 : Nat) (S : St) : Option St :=
  (C_X10_expect F ek S x0 59) >>= fun r13 =>
  some r13
def C_X10_command_114 (F : Nat) (ek : Nat → Nat) (x0 : Nat) (x1 : Int32) (s0 : Nat) (s1 : Nat) (S : St) : Option St :=
  (gP S 9 s0 2 (.ref s1)) >>= fun S14 =>
  if x1 = 120 then (
  (C_X10_two F ek S14 x0 0 58) >>= fun r15 =>
  (C_X10_expect F ek r15 x0 45) >>= fun r16 =>
  (gA r16 9 x0 1) >>= fun y17 =>
  (C_X10_number F ek r16 x0) >>= fun r18 =>
  (tI r18.2 0 y17 2 (r18.1)) >>= fun S19 =>
  C_X10_command_156 F ek x0 S19)
  else (
  (C_X10_two F ek S14 x0 0 61) >>= fun r20 =>
  C_X10_command_156 F ek x0 r20)
def C_X10_command_73 (F : Nat) (ek : Nat → Nat) (x0 : Nat) (x1 : Int32) (s0 : Nat) (s1 : Int32) (S : St) : Option St :=
  (C_X10_require ek S s0 s1) >>= fun r10 =>
  (gI r10 9 x0 3) >>= fun y11 =>
  (gP r10 9 x0 3 (.int (y11 + 1))) >>= fun S12 =>
  if x1 = 119 then (
  C_X10_command_114 F ek x0 x1 x0 (ek 1) S12)
  else (
  if x1 = 118 then (
  C_X10_command_114 F ek x0 x1 x0 (ek 2) S12)
  else (
  C_X10_command_114 F ek x0 x1 x0 (ek 3) S12))
def C_X10_command_68 (F : Nat) (ek : Nat → Nat) (x0 : Nat) (x1 : Int32) (s0 : Nat) (S : St) : Option St :=
  C_X10_command_73 F ek x0 x1 s0 1 S
def C_X10_command (F : Nat) (ek : Nat → Nat) (S : St) (x0 : Nat) : Option St :=
  (gO S 9 x0) >>= fun _ =>
  (C_X10_token F ek S x0) >>= fun r1 =>
  (some (r1.1)) >>= fun y2 =>
  (C_X1_isIn y2 48 57) >>= fun r3 =>
  if r3 = 0 then (
  if y2 = 119 then (
  C_X10_command_68 F ek x0 y2 x0 r1.2)
  else (
  if y2 = 118 then (
  C_X10_command_68 F ek x0 y2 x0 r1.2)
  else (
  if y2 = 120 then (
  C_X10_command_68 F ek x0 y2 x0 r1.2)
  else (
  C_X10_command_73 F ek x0 y2 x0 0 r1.2))))
  else (
  (gP r1.2 9 x0 2 (.ref (ek 0))) >>= fun S4 =>
  (C_X10_two F ek S4 x0 0 45) >>= fun r5 =>
  (C_X10_expect F ek r5 x0 58) >>= fun r6 =>
  (gA r6 9 x0 1) >>= fun y7 =>
  (C_X10_number F ek r6 x0) >>= fun r8 =>
  (tI r8.2 0 y7 2 (r8.1)) >>= fun S9 =>
  C_X10_command_156 F ek x0 S9)
theorem rc_X10_command {F : Nat} {ek : Nat → Nat} {S : St} {x0 : Nat} {r : St} (h : C_X10_command F ek S x0 = some r) : ∃ fs, gO S 9 x0 = some fs := by
  unfold C_X10_command at h
  obtain ⟨fs, h1, -⟩ := ob h
  exact ⟨fs, h1⟩
/- NetworkCenters$Kind$4 done(LNetworkCenters$Network;[I)LNetworkCenters$Network; -/
def C_X12_done_42 (x1 : Nat) (x2 : Nat) (s0 : Int32) (S : St) : Option (Option Nat × St) :=
  if s0 = 0 then (
  some (none, S))
  else (
  (some (nO S 5 df_5 3)) >>= fun r10 =>
  (lI r10.2 0 x2 0) >>= fun y11 =>
  (lI r10.2 0 x2 1) >>= fun y12 =>
  (lI r10.2 0 x2 2) >>= fun y13 =>
  (C_X6_init r10.2 (r10.1) y11 y12 y13) >>= fun r14 =>
  (C_X2_withStretch r14 x1 (r10.1)) >>= fun r15 =>
  some (some (r15.1), r15.2))
def C_X12_done_41 (x1 : Nat) (x2 : Nat) (S : St) : Option (Option Nat × St) :=
  C_X12_done_42 x1 x2 0 S
def C_X12_done (S : St) (x0 : Nat) (x1 : Nat) (x2 : Nat) : Option (Option Nat × St) :=
  (lI S 0 x2 0) >>= fun y1 =>
  (gA S 2 x1 2) >>= fun y2 =>
  (aN S 3 y2) >>= fun y3 =>
  if y3 ≤ y1 then (
  C_X12_done_41 x1 x2 S)
  else (
  (lI S 0 x2 0) >>= fun y4 =>
  (lI S 0 x2 1) >>= fun y5 =>
  (lI S 0 x2 2) >>= fun y6 =>
  (C_X2_mayForbid S x1 y4 y5 y6) >>= fun r7 =>
  if r7 = 0 then (
  C_X12_done_41 x1 x2 S)
  else (
  (gA S 2 x1 3) >>= fun y8 =>
  (aN S 4 y8) >>= fun y9 =>
  if 6 ≤ y9 then (
  C_X12_done_41 x1 x2 S)
  else (
  C_X12_done_42 x1 x2 1 S)))
/- NetworkCenters$Kind$1 done(LNetworkCenters$Network;[I)LNetworkCenters$Network; -/
def C_X13_done_54 (F : Nat) (x1 : Nat) (x2 : Nat) (s0 : Int32) (S : St) : Option (Option Nat × St) :=
  if s0 = 0 then (
  some (none, S))
  else (
  (some (nO S 4 df_4 3)) >>= fun r12 =>
  (lI r12.2 0 x2 0) >>= fun y13 =>
  (lI r12.2 0 x2 1) >>= fun y14 =>
  (lI r12.2 0 x2 2) >>= fun y15 =>
  (C_X5_init r12.2 (r12.1) y13 y14 y15) >>= fun r16 =>
  (C_X2_withEdge r16 x1 (r12.1)) >>= fun r17 =>
  some (some (r17.1), r17.2))
def C_X13_done_53 (F : Nat) (x1 : Nat) (x2 : Nat) (S : St) : Option (Option Nat × St) :=
  C_X13_done_54 F x1 x2 0 S
def C_X13_done (F : Nat) (S : St) (x0 : Nat) (x1 : Nat) (x2 : Nat) : Option (Option Nat × St) :=
  (lI S 0 x2 0) >>= fun y1 =>
  (C_X2_isNode S x1 y1) >>= fun r2 =>
  if r2 = 0 then (
  C_X13_done_53 F x1 x2 S)
  else (
  (lI S 0 x2 1) >>= fun y3 =>
  (C_X2_isNode S x1 y3) >>= fun r4 =>
  if r4 = 0 then (
  C_X13_done_53 F x1 x2 S)
  else (
  (lI S 0 x2 0) >>= fun y5 =>
  (lI S 0 x2 1) >>= fun y6 =>
  (lI S 0 x2 2) >>= fun y7 =>
  (C_X2_mayConnect S x1 y5 y6 y7) >>= fun r8 =>
  if r8 = 0 then (
  C_X13_done_53 F x1 x2 S)
  else (
  (lI S 0 x2 0) >>= fun y9 =>
  (lI S 0 x2 1) >>= fun y10 =>
  (C_X2_hasRoomFor F S x1 y9 y10) >>= fun r11 =>
  if r11 = 0 then (
  C_X13_done_53 F x1 x2 S)
  else (
  C_X13_done_54 F x1 x2 1 S))))
/- NetworkCenters$Kind$2 done(LNetworkCenters$Network;[I)LNetworkCenters$Network; -/
def C_X14_done (S : St) (x0 : Nat) (x1 : Nat) (x2 : Nat) : Option (Option Nat × St) :=
  (lI S 0 x2 0) >>= fun y1 =>
  (C_X2_isNode S x1 y1) >>= fun r2 =>
  if r2 = 0 then (
  some (none, S))
  else (
  (lI S 0 x2 1) >>= fun y3 =>
  if 9 < y3 then (
  some (none, S))
  else (
  (lI S 0 x2 0) >>= fun y4 =>
  (lI S 0 x2 1) >>= fun y5 =>
  (C_X2_withWeight S x1 y4 y5) >>= fun r6 =>
  some (some (r6.1), r6.2)))
/- NetworkCenters$Kind$3 done(LNetworkCenters$Network;[I)LNetworkCenters$Network; -/
def C_X15_done (S : St) (x0 : Nat) (x1 : Nat) (x2 : Nat) : Option (Option Nat × St) :=
  (lI S 0 x2 0) >>= fun y1 =>
  (C_X2_isNode S x1 y1) >>= fun r2 =>
  if r2 = 0 then (
  some (none, S))
  else (
  (lI S 0 x2 1) >>= fun y3 =>
  if 9 < y3 then (
  some (none, S))
  else (
  (lI S 0 x2 0) >>= fun y4 =>
  (lI S 0 x2 1) >>= fun y5 =>
  (C_X2_withTrend S x1 y4 y5) >>= fun r6 =>
  some (some (r6.1), r6.2)))
