/-! METHODS WITH HANDLERS, AS PURE PARTIAL FUNCTIONS (by program) -/
set_option maxRecDepth 100000
/- fault (with a handler) -/
def C_X1_fault_26 (F : Nat) (ek : Nat → Nat) (S : St) : Option (Int32 × St) :=
  some ((-1), S)
def C_X1_fault_29 (F : Nat) (ek : Nat → Nat) (s0 : Nat) (S : St) : Option (Int32 × St) :=
  (gI S 10 s0 6) >>= fun y7 =>
  some (y7, S)
def C_X1_fault_12 (F : Nat) (ek : Nat → Nat) (x1 : Nat) : Nat → St → Option (Int32 × St)
  | 0, _ => none
  | n + 1, S =>
    (C_X10_isAtEnd F ek S x1) >>= fun r4 =>
    if r4.1 = 0 then (
    catU (U_X10_command F ek r4.2 x1) (fun e5 =>
    C_X1_fault_29 F ek (e5.1) e5.2) (
    (C_X10_command F ek r4.2 x1) >>= fun r6 =>
    C_X1_fault_12 F ek x1 n r6))
    else (
    C_X1_fault_26 F ek r4.2)
def C_X1_fault (F : Nat) (ek : Nat → Nat) (S : St) (x0 : Nat) : Option (Int32 × St) :=
  (gO S 1 x0) >>= fun _ =>
  (some (nO S 9 df_9 4)) >>= fun r1 =>
  (gA r1.2 1 x0 3) >>= fun y2 =>
  (C_X10_init r1.2 (r1.1) y2) >>= fun r3 =>
  C_X1_fault_12 F ek (r1.1) F r3
theorem rc_X1_fault {F : Nat} {ek : Nat → Nat} {S : St} {x0 : Nat} {r : Int32 × St} (h : C_X1_fault F ek S x0 = some r) : ∃ fs, gO S 1 x0 = some fs := by
  unfold C_X1_fault at h
  obtain ⟨fs, h1, -⟩ := ob h
  exact ⟨fs, h1⟩
/- run (with a handler) -/
def C_X1_run_84 (F : Nat) (ek : Nat → Nat) (k35 : Nat → Int32 → St → Option (Int32 × St)) (x0 : Nat) (x2 : Int32) (x3 : Nat) (s0 : Nat) (S : St) : Option (Int32 × St) :=
  k35 s0 x2 S
def C_X1_run_71 (F : Nat) (ek : Nat → Nat) (k35 : Nat → Int32 → St → Option (Int32 × St)) (x0 : Nat) (x1 : Nat) (x3 : Nat) (x4 : Option Nat) (s0 : Int32) (s1 : Int32) (S : St) : Option (Int32 × St) :=
  (some (s0 + s1)) >>= fun y14 =>
  if x4 = none then (
  C_X1_run_84 F ek k35 x0 y14 x3 x1 S)
  else (
  x4 >>= fun a15 =>
  C_X1_run_84 F ek k35 x0 y14 x3 a15 S)
def C_X1_run_88 (F : Nat) (ek : Nat → Nat) (x0 : Nat) (x1 : Nat) (x2 : Int32) (S : St) : Option (Int32 × St) :=
  (C_X1_become F S x0 x1) >>= fun r16 =>
  some (x2, r16)
def C_X1_run_91 (F : Nat) (ek : Nat → Nat) (s0 : Nat) (S : St) : Option (Int32 × St) :=
  some ((-1), S)
def C_X1_run_35 (F : Nat) (ek : Nat → Nat) (x0 : Nat) (x3 : Nat) : Nat → Nat → Int32 → St → Option (Int32 × St)
  | 0, _, _, _ => none
  | n + 1, x1, x2, S =>
    (C_X10_isAtEnd F ek S x3) >>= fun r7 =>
    if r7.1 = 0 then (
    catU (U_X10_command F ek r7.2 x3) (fun e8 =>
    C_X1_run_91 F ek (e8.1) e8.2) (
    (C_X10_command F ek r7.2 x3) >>= fun r9 =>
    (gA r9 9 x3 2) >>= fun y10 =>
    (gA r9 9 x3 1) >>= fun y11 =>
    (if y10 = ek 0 then C_X13_done F r9 (ek 0) x1 y11 else if y10 = ek 1 then C_X14_done r9 (ek 1) x1 y11 else if y10 = ek 2 then C_X15_done r9 (ek 2) x1 y11 else if y10 = ek 3 then C_X12_done r9 (ek 3) x1 y11 else none) >>= fun r12 =>
    (some (r12.1)) >>= fun y13 =>
    if y13 = none then (
    C_X1_run_71 F ek (C_X1_run_35 F ek x0 x3 n) x0 x1 x3 y13 x2 0 r12.2)
    else (
    C_X1_run_71 F ek (C_X1_run_35 F ek x0 x3 n) x0 x1 x3 y13 x2 1 r12.2)))
    else (
    C_X1_run_88 F ek x0 x1 x2 r7.2)
def C_X1_run_13 (F : Nat) (ek : Nat → Nat) (x0 : Nat) (s0 : Int32) (S : St) : Option (Int32 × St) :=
  (C_X1_checkThat s0) >>= fun r2 =>
  (gA S 1 x0 0) >>= fun y3 =>
  (some (nO S 9 df_9 4)) >>= fun r4 =>
  (gA r4.2 1 x0 3) >>= fun y5 =>
  (C_X10_init r4.2 (r4.1) y5) >>= fun r6 =>
  C_X1_run_35 F ek x0 (r4.1) F y3 0 r6
def C_X1_run (F : Nat) (ek : Nat → Nat) (S : St) (x0 : Nat) : Option (Int32 × St) :=
  (gO S 1 x0) >>= fun _ =>
  (C_X1_fault F ek S x0) >>= fun r1 =>
  if r1.1 = (-1) then (
  C_X1_run_13 F ek x0 1 r1.2)
  else (
  C_X1_run_13 F ek x0 0 r1.2)
theorem rc_X1_run {F : Nat} {ek : Nat → Nat} {S : St} {x0 : Nat} {r : Int32 × St} (h : C_X1_run F ek S x0 = some r) : ∃ fs, gO S 1 x0 = some fs := by
  unfold C_X1_run at h
  obtain ⟨fs, h1, -⟩ := ob h
  exact ⟨fs, h1⟩
/- run throws -/
def T_X1_run_13 (F : Nat) (ek : Nat → Nat) (c : Nat) (x0 : Nat) (s0 : Int32) (S : St) : Option St :=
  tor (T_X1_check 2 c S s0) (
  (C_X1_checkThat s0) >>= fun r2 =>
  none)
def T_X1_run (F : Nat) (ek : Nat → Nat) (c : Nat) (S : St) (x0 : Nat) : Option St :=
  (gO S 1 x0) >>= fun _ =>
  (C_X1_fault F ek S x0) >>= fun r1 =>
  if r1.1 = (-1) then (
  T_X1_run_13 F ek c x0 1 r1.2)
  else (
  T_X1_run_13 F ek c x0 0 r1.2)
theorem rct_X1_run {F : Nat} {ek : Nat → Nat} {c : Nat} {S : St} {x0 : Nat} {r : St} (h : T_X1_run F ek c S x0 = some r) : ∃ fs, gO S 1 x0 = some fs := by
  unfold T_X1_run at h
  obtain ⟨fs, h1, -⟩ := ob h
  exact ⟨fs, h1⟩
