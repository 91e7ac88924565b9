/-! WHEN THE READER THROWS, AS PURE PARTIAL FUNCTIONS (by program) -/
set_option maxRecDepth 100000
/- require throws a Fault -/
def U_X10_require (ek : Nat → Nat) (S : St) (x0 : Nat) (x1 : Int32) : Option (Nat × St) :=
  (gO S 9 x0) >>= fun _ =>
  if x1 = 0 then (
  (some (nO S 10 df_10 7)) >>= fun r1 =>
  (gI r1.2 9 x0 3) >>= fun y2 =>
  (C_X11_init ek r1.2 (r1.1) y2) >>= fun r3 =>
  (gO r3 10 (r1.1)) >>= fun _ => some (r1.1, r3))
  else (
  none)
theorem rcu_X10_require {ek : Nat → Nat} {S : St} {x0 : Nat} {x1 : Int32} {r : Nat × St} (h : U_X10_require ek S x0 x1 = some r) : ∃ fs, gO S 9 x0 = some fs := by
  unfold U_X10_require at h
  obtain ⟨fs, h1, -⟩ := ob h
  exact ⟨fs, h1⟩
/- expect throws a Fault -/
def U_X10_expect_14 (F : Nat) (ek : Nat → Nat) (x0 : Nat) (s0 : Nat) (s1 : Int32) (S : St) : Option (Nat × St) :=
  torU (U_X10_require ek S s0 s1) (
  (C_X10_require ek S s0 s1) >>= fun r2 =>
  none)
def U_X10_expect (F : Nat) (ek : Nat → Nat) (S : St) (x0 : Nat) (x1 : Int32) : Option (Nat × St) :=
  (gO S 9 x0) >>= fun _ =>
  (C_X10_token F ek S x0) >>= fun r1 =>
  if r1.1 = x1 then (
  U_X10_expect_14 F ek x0 x0 1 r1.2)
  else (
  U_X10_expect_14 F ek x0 x0 0 r1.2)
theorem rcu_X10_expect {F : Nat} {ek : Nat → Nat} {S : St} {x0 : Nat} {x1 : Int32} {r : Nat × St} (h : U_X10_expect F ek S x0 x1 = some r) : ∃ fs, gO S 9 x0 = some fs := by
  unfold U_X10_expect at h
  obtain ⟨fs, h1, -⟩ := ob h
  exact ⟨fs, h1⟩
/- number throws a Fault -/
def U_X10_number_70 (F : Nat) (ek : Nat → Nat) (x0 : Nat) (x1 : Int32) (S : St) : Option (Nat × St) :=
  (C_X10_next ek S x0) >>= fun r14 =>
  (C_X1_isIn r14 48 57) >>= fun r15 =>
  if r15 = 0 then (
  torU (U_X10_require ek S x0 1) (
  (C_X10_require ek S x0 1) >>= fun r16 =>
  none))
  else (
  torU (U_X10_require ek S x0 0) (
  (C_X10_require ek S x0 0) >>= fun r17 =>
  none))
def U_X10_number (F : Nat) (ek : Nat → Nat) (S : St) (x0 : Nat) : Option (Nat × St) :=
  (gO S 9 x0) >>= fun _ =>
  (C_X10_token F ek S x0) >>= fun r1 =>
  (C_X1_isIn (r1.1) 48 57) >>= fun r2 =>
  torU (U_X10_require ek r1.2 x0 r2) (
  (C_X10_require ek r1.2 x0 r2) >>= fun r3 =>
  (C_X10_next ek r3 x0) >>= fun r4 =>
  (some (r4 - 48)) >>= fun y5 =>
  (gI r3 9 x0 3) >>= fun y6 =>
  (gP r3 9 x0 3 (.int (y6 + 1))) >>= fun S7 =>
  (C_X10_next ek S7 x0) >>= fun r8 =>
  (C_X1_isIn r8 48 57) >>= fun r9 =>
  if r9 = 0 then (
  U_X10_number_70 F ek x0 y5 S7)
  else (
  (C_X10_next ek S7 x0) >>= fun r10 =>
  (some (((10 * y5) + r10) - 48)) >>= fun y11 =>
  (gI S7 9 x0 3) >>= fun y12 =>
  (gP S7 9 x0 3 (.int (y12 + 1))) >>= fun S13 =>
  U_X10_number_70 F ek x0 y11 S13))
theorem rcu_X10_number {F : Nat} {ek : Nat → Nat} {S : St} {x0 : Nat} {r : Nat × St} (h : U_X10_number F ek S x0 = some r) : ∃ fs, gO S 9 x0 = some fs := by
  unfold U_X10_number at h
  obtain ⟨fs, h1, -⟩ := ob h
  exact ⟨fs, h1⟩
/- two throws a Fault -/
def U_X10_two (F : Nat) (ek : Nat → Nat) (S : St) (x0 : Nat) (x1 : Int32) (x2 : Int32) : Option (Nat × St) :=
  (gO S 9 x0) >>= fun _ =>
  (gA S 9 x0 1) >>= fun y1 =>
  torU (U_X10_number F ek S x0) (
  (C_X10_number F ek S x0) >>= fun r2 =>
  (tI r2.2 0 y1 x1 (r2.1)) >>= fun S3 =>
  torU (U_X10_expect F ek S3 x0 x2) (
  (C_X10_expect F ek S3 x0 x2) >>= fun r4 =>
  (gA r4 9 x0 1) >>= fun y5 =>
  torU (U_X10_number F ek r4 x0) (
  (C_X10_number F ek r4 x0) >>= fun r6 =>
  none)))
theorem rcu_X10_two {F : Nat} {ek : Nat → Nat} {S : St} {x0 : Nat} {x1 : Int32} {x2 : Int32} {r : Nat × St} (h : U_X10_two F ek S x0 x1 x2 = some r) : ∃ fs, gO S 9 x0 = some fs := by
  unfold U_X10_two at h
  obtain ⟨fs, h1, -⟩ := ob h
  exact ⟨fs, h1⟩
/- command throws a Fault -/
def U_X10_command_156 (F : Nat) (ek : Nat → Nat) (x0 : Nat) (S : St) : Option (Nat × St) :=
  torU (U_X10_expect F ek S x0 59) (
  (C_X10_expect F ek S x0 59) >>= fun r13 =>
  none)
def U_X10_command_114 (F : Nat) (ek : Nat → Nat) (x0 : Nat) (x1 : Int32) (s0 : Nat) (s1 : Nat) (S : St) : Option (Nat × St) :=
  (gP S 9 s0 2 (.ref s1)) >>= fun S14 =>
  if x1 = 120 then (
  torU (U_X10_two F ek S14 x0 0 58) (
  (C_X10_two F ek S14 x0 0 58) >>= fun r15 =>
  torU (U_X10_expect F ek r15 x0 45) (
  (C_X10_expect F ek r15 x0 45) >>= fun r16 =>
  (gA r16 9 x0 1) >>= fun y17 =>
  torU (U_X10_number F ek r16 x0) (
  (C_X10_number F ek r16 x0) >>= fun r18 =>
  (tI r18.2 0 y17 2 (r18.1)) >>= fun S19 =>
  U_X10_command_156 F ek x0 S19))))
  else (
  torU (U_X10_two F ek S14 x0 0 61) (
  (C_X10_two F ek S14 x0 0 61) >>= fun r20 =>
  U_X10_command_156 F ek x0 r20))
def U_X10_command_73 (F : Nat) (ek : Nat → Nat) (x0 : Nat) (x1 : Int32) (s0 : Nat) (s1 : Int32) (S : St) : Option (Nat × St) :=
  torU (U_X10_require ek S s0 s1) (
  (C_X10_require ek S s0 s1) >>= fun r10 =>
  (gI r10 9 x0 3) >>= fun y11 =>
  (gP r10 9 x0 3 (.int (y11 + 1))) >>= fun S12 =>
  if x1 = 119 then (
  U_X10_command_114 F ek x0 x1 x0 (ek 1) S12)
  else (
  if x1 = 118 then (
  U_X10_command_114 F ek x0 x1 x0 (ek 2) S12)
  else (
  U_X10_command_114 F ek x0 x1 x0 (ek 3) S12)))
def U_X10_command_68 (F : Nat) (ek : Nat → Nat) (x0 : Nat) (x1 : Int32) (s0 : Nat) (S : St) : Option (Nat × St) :=
  U_X10_command_73 F ek x0 x1 s0 1 S
def U_X10_command (F : Nat) (ek : Nat → Nat) (S : St) (x0 : Nat) : Option (Nat × St) :=
  (gO S 9 x0) >>= fun _ =>
  (C_X10_token F ek S x0) >>= fun r1 =>
  (some (r1.1)) >>= fun y2 =>
  (C_X1_isIn y2 48 57) >>= fun r3 =>
  if r3 = 0 then (
  if y2 = 119 then (
  U_X10_command_68 F ek x0 y2 x0 r1.2)
  else (
  if y2 = 118 then (
  U_X10_command_68 F ek x0 y2 x0 r1.2)
  else (
  if y2 = 120 then (
  U_X10_command_68 F ek x0 y2 x0 r1.2)
  else (
  U_X10_command_73 F ek x0 y2 x0 0 r1.2))))
  else (
  (gP r1.2 9 x0 2 (.ref (ek 0))) >>= fun S4 =>
  torU (U_X10_two F ek S4 x0 0 45) (
  (C_X10_two F ek S4 x0 0 45) >>= fun r5 =>
  torU (U_X10_expect F ek r5 x0 58) (
  (C_X10_expect F ek r5 x0 58) >>= fun r6 =>
  (gA r6 9 x0 1) >>= fun y7 =>
  torU (U_X10_number F ek r6 x0) (
  (C_X10_number F ek r6 x0) >>= fun r8 =>
  (tI r8.2 0 y7 2 (r8.1)) >>= fun S9 =>
  U_X10_command_156 F ek x0 S9))))
theorem rcu_X10_command {F : Nat} {ek : Nat → Nat} {S : St} {x0 : Nat} {r : Nat × St} (h : U_X10_command F ek S x0 = some r) : ∃ fs, gO S 9 x0 = some fs := by
  unfold U_X10_command at h
  obtain ⟨fs, h1, -⟩ := ob h
  exact ⟨fs, h1⟩
