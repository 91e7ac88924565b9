/-! WHEN THE CLASS's METHODS THROW, AS PURE PARTIAL FUNCTIONS (by program) -/
set_option maxRecDepth 100000
/- reset throws -/
def T_X1_reset (F : Nat) (c : Nat) (S : St) (x0 : Nat) (x1 : Int32) : Option St :=
  (gO S 1 x0) >>= fun _ =>
  (C_X1_isIn x1 1 8) >>= fun r1 =>
  tor (T_X1_check 2 c S r1) (
  (C_X1_checkThat r1) >>= fun r2 =>
  none)
theorem rct_X1_reset {F : Nat} {c : Nat} {S : St} {x0 : Nat} {x1 : Int32} {r : St} (h : T_X1_reset F c S x0 x1 = some r) : ∃ fs, gO S 1 x0 = some fs := by
  unfold T_X1_reset at h
  obtain ⟨fs, h1, -⟩ := ob h
  exact ⟨fs, h1⟩
/- checkNode throws -/
def T_X1_checkNode (c : Nat) (S : St) (x0 : Nat) (x1 : Int32) : Option St :=
  (gO S 1 x0) >>= fun _ =>
  (gA S 1 x0 0) >>= fun y1 =>
  (C_X2_isNode S y1 x1) >>= fun r2 =>
  tor (T_X1_check 1 c S r2) (
  (C_X1_checkIndex r2) >>= fun r3 =>
  none)
theorem rct_X1_checkNode {c : Nat} {S : St} {x0 : Nat} {x1 : Int32} {r : St} (h : T_X1_checkNode c S x0 x1 = some r) : ∃ fs, gO S 1 x0 = some fs := by
  unfold T_X1_checkNode at h
  obtain ⟨fs, h1, -⟩ := ob h
  exact ⟨fs, h1⟩
/- connect throws -/
def T_X1_connect (F : Nat) (c : Nat) (S : St) (x0 : Nat) (x1 : Int32) (x2 : Int32) (x3 : Int32) : Option St :=
  (gO S 1 x0) >>= fun _ =>
  tor (T_X1_checkNode c S x0 x1) (
  (C_X1_checkNode S x0 x1) >>= fun r1 =>
  tor (T_X1_checkNode c S x0 x2) (
  (C_X1_checkNode S x0 x2) >>= fun r2 =>
  (gA S 1 x0 0) >>= fun y3 =>
  (C_X2_mayConnect S y3 x1 x2 x3) >>= fun r4 =>
  tor (T_X1_check 2 c S r4) (
  (C_X1_checkThat r4) >>= fun r5 =>
  (gA S 1 x0 0) >>= fun y6 =>
  (C_X2_hasRoomFor F S y6 x1 x2) >>= fun r7 =>
  tor (T_X1_check 3 c S r7) (
  (C_X1_checkState r7) >>= fun r8 =>
  none))))
theorem rct_X1_connect {F : Nat} {c : Nat} {S : St} {x0 : Nat} {x1 : Int32} {x2 : Int32} {x3 : Int32} {r : St} (h : T_X1_connect F c S x0 x1 x2 x3 = some r) : ∃ fs, gO S 1 x0 = some fs := by
  unfold T_X1_connect at h
  obtain ⟨fs, h1, -⟩ := ob h
  exact ⟨fs, h1⟩
/- checkEdge throws -/
def T_X1_checkEdge (c : Nat) (S : St) (x0 : Nat) (x1 : Int32) : Option St :=
  (gO S 1 x0) >>= fun _ =>
  (gA S 1 x0 0) >>= fun y1 =>
  (gA S 2 y1 2) >>= fun y2 =>
  (aN S 3 y2) >>= fun y3 =>
  (C_X1_isIn x1 0 (y3 - 1)) >>= fun r4 =>
  tor (T_X1_check 1 c S r4) (
  (C_X1_checkIndex r4) >>= fun r5 =>
  none)
theorem rct_X1_checkEdge {c : Nat} {S : St} {x0 : Nat} {x1 : Int32} {r : St} (h : T_X1_checkEdge c S x0 x1 = some r) : ∃ fs, gO S 1 x0 = some fs := by
  unfold T_X1_checkEdge at h
  obtain ⟨fs, h1, -⟩ := ob h
  exact ⟨fs, h1⟩
/- disconnect throws -/
def T_X1_disconnect (F : Nat) (c : Nat) (S : St) (x0 : Nat) (x1 : Int32) : Option St :=
  (gO S 1 x0) >>= fun _ =>
  tor (T_X1_checkEdge c S x0 x1) (
  (C_X1_checkEdge S x0 x1) >>= fun r1 =>
  none)
theorem rct_X1_disconnect {F : Nat} {c : Nat} {S : St} {x0 : Nat} {x1 : Int32} {r : St} (h : T_X1_disconnect F c S x0 x1 = some r) : ∃ fs, gO S 1 x0 = some fs := by
  unfold T_X1_disconnect at h
  obtain ⟨fs, h1, -⟩ := ob h
  exact ⟨fs, h1⟩
/- setWeight throws -/
def T_X1_setWeight (F : Nat) (c : Nat) (S : St) (x0 : Nat) (x1 : Int32) (x2 : Int32) : Option St :=
  (gO S 1 x0) >>= fun _ =>
  tor (T_X1_checkNode c S x0 x1) (
  (C_X1_checkNode S x0 x1) >>= fun r1 =>
  (C_X1_isIn x2 0 9) >>= fun r2 =>
  tor (T_X1_check 2 c S r2) (
  (C_X1_checkThat r2) >>= fun r3 =>
  none))
theorem rct_X1_setWeight {F : Nat} {c : Nat} {S : St} {x0 : Nat} {x1 : Int32} {x2 : Int32} {r : St} (h : T_X1_setWeight F c S x0 x1 x2 = some r) : ∃ fs, gO S 1 x0 = some fs := by
  unfold T_X1_setWeight at h
  obtain ⟨fs, h1, -⟩ := ob h
  exact ⟨fs, h1⟩
/- setTrend throws -/
def T_X1_setTrend (F : Nat) (c : Nat) (S : St) (x0 : Nat) (x1 : Int32) (x2 : Int32) : Option St :=
  (gO S 1 x0) >>= fun _ =>
  tor (T_X1_checkNode c S x0 x1) (
  (C_X1_checkNode S x0 x1) >>= fun r1 =>
  (C_X1_isIn x2 0 9) >>= fun r2 =>
  tor (T_X1_check 2 c S r2) (
  (C_X1_checkThat r2) >>= fun r3 =>
  none))
theorem rct_X1_setTrend {F : Nat} {c : Nat} {S : St} {x0 : Nat} {x1 : Int32} {x2 : Int32} {r : St} (h : T_X1_setTrend F c S x0 x1 x2 = some r) : ∃ fs, gO S 1 x0 = some fs := by
  unfold T_X1_setTrend at h
  obtain ⟨fs, h1, -⟩ := ob h
  exact ⟨fs, h1⟩
/- forbid throws -/
def T_X1_forbid_36 (F : Nat) (c : Nat) (x0 : Nat) (x1 : Int32) (x2 : Int32) (x3 : Int32) (s0 : Int32) (S : St) : Option St :=
  tor (T_X1_check 3 c S s0) (
  (C_X1_checkState s0) >>= fun r8 =>
  none)
def T_X1_forbid (F : Nat) (c : Nat) (S : St) (x0 : Nat) (x1 : Int32) (x2 : Int32) (x3 : Int32) : Option St :=
  (gO S 1 x0) >>= fun _ =>
  tor (T_X1_checkEdge c S x0 x1) (
  (C_X1_checkEdge S x0 x1) >>= fun r1 =>
  (gA S 1 x0 0) >>= fun y2 =>
  (C_X2_mayForbid S y2 x1 x2 x3) >>= fun r3 =>
  tor (T_X1_check 2 c S r3) (
  (C_X1_checkThat r3) >>= fun r4 =>
  (gA S 1 x0 0) >>= fun y5 =>
  (gA S 2 y5 3) >>= fun y6 =>
  (aN S 4 y6) >>= fun y7 =>
  if 6 ≤ y7 then (
  T_X1_forbid_36 F c x0 x1 x2 x3 0 S)
  else (
  T_X1_forbid_36 F c x0 x1 x2 x3 1 S)))
theorem rct_X1_forbid {F : Nat} {c : Nat} {S : St} {x0 : Nat} {x1 : Int32} {x2 : Int32} {x3 : Int32} {r : St} (h : T_X1_forbid F c S x0 x1 x2 x3 = some r) : ∃ fs, gO S 1 x0 = some fs := by
  unfold T_X1_forbid at h
  obtain ⟨fs, h1, -⟩ := ob h
  exact ⟨fs, h1⟩
/- checkStretch throws -/
def T_X1_checkStretch (c : Nat) (S : St) (x0 : Nat) (x1 : Int32) : Option St :=
  (gO S 1 x0) >>= fun _ =>
  (gA S 1 x0 0) >>= fun y1 =>
  (gA S 2 y1 3) >>= fun y2 =>
  (aN S 4 y2) >>= fun y3 =>
  (C_X1_isIn x1 0 (y3 - 1)) >>= fun r4 =>
  tor (T_X1_check 1 c S r4) (
  (C_X1_checkIndex r4) >>= fun r5 =>
  none)
theorem rct_X1_checkStretch {c : Nat} {S : St} {x0 : Nat} {x1 : Int32} {r : St} (h : T_X1_checkStretch c S x0 x1 = some r) : ∃ fs, gO S 1 x0 = some fs := by
  unfold T_X1_checkStretch at h
  obtain ⟨fs, h1, -⟩ := ob h
  exact ⟨fs, h1⟩
/- allow throws -/
def T_X1_allow (F : Nat) (c : Nat) (S : St) (x0 : Nat) (x1 : Int32) : Option St :=
  (gO S 1 x0) >>= fun _ =>
  tor (T_X1_checkStretch c S x0 x1) (
  (C_X1_checkStretch S x0 x1) >>= fun r1 =>
  none)
theorem rct_X1_allow {F : Nat} {c : Nat} {S : St} {x0 : Nat} {x1 : Int32} {r : St} (h : T_X1_allow F c S x0 x1 = some r) : ∃ fs, gO S 1 x0 = some fs := by
  unfold T_X1_allow at h
  obtain ⟨fs, h1, -⟩ := ob h
  exact ⟨fs, h1⟩
/- count throws -/
def T_X1_count (F : Nat) (c : Nat) (S : St) (x0 : Nat) (x1 : Int32) : Option St :=
  (gO S 1 x0) >>= fun _ =>
  (C_X1_isIn x1 0 3) >>= fun r1 =>
  tor (T_X1_check 2 c S r1) (
  (C_X1_checkThat r1) >>= fun r2 =>
  none)
theorem rct_X1_count {F : Nat} {c : Nat} {S : St} {x0 : Nat} {x1 : Int32} {r : St} (h : T_X1_count F c S x0 x1 = some r) : ∃ fs, gO S 1 x0 = some fs := by
  unfold T_X1_count at h
  obtain ⟨fs, h1, -⟩ := ob h
  exact ⟨fs, h1⟩
/- edge throws -/
def T_X1_edge (c : Nat) (S : St) (x0 : Nat) (x1 : Int32) (x2 : Int32) : Option St :=
  (gO S 1 x0) >>= fun _ =>
  tor (T_X1_checkEdge c S x0 x1) (
  (C_X1_checkEdge S x0 x1) >>= fun r1 =>
  (C_X1_isIn x2 0 2) >>= fun r2 =>
  tor (T_X1_check 2 c S r2) (
  (C_X1_checkThat r2) >>= fun r3 =>
  none))
theorem rct_X1_edge {c : Nat} {S : St} {x0 : Nat} {x1 : Int32} {x2 : Int32} {r : St} (h : T_X1_edge c S x0 x1 x2 = some r) : ∃ fs, gO S 1 x0 = some fs := by
  unfold T_X1_edge at h
  obtain ⟨fs, h1, -⟩ := ob h
  exact ⟨fs, h1⟩
/- node throws -/
def T_X1_node (F : Nat) (c : Nat) (S : St) (x0 : Nat) (x1 : Int32) (x2 : Int32) : Option St :=
  (gO S 1 x0) >>= fun _ =>
  tor (T_X1_checkNode c S x0 x1) (
  (C_X1_checkNode S x0 x1) >>= fun r1 =>
  (C_X1_isIn x2 0 2) >>= fun r2 =>
  tor (T_X1_check 2 c S r2) (
  (C_X1_checkThat r2) >>= fun r3 =>
  none))
theorem rct_X1_node {F : Nat} {c : Nat} {S : St} {x0 : Nat} {x1 : Int32} {x2 : Int32} {r : St} (h : T_X1_node F c S x0 x1 x2 = some r) : ∃ fs, gO S 1 x0 = some fs := by
  unfold T_X1_node at h
  obtain ⟨fs, h1, -⟩ := ob h
  exact ⟨fs, h1⟩
/- stretch throws -/
def T_X1_stretch (c : Nat) (S : St) (x0 : Nat) (x1 : Int32) (x2 : Int32) : Option St :=
  (gO S 1 x0) >>= fun _ =>
  tor (T_X1_checkStretch c S x0 x1) (
  (C_X1_checkStretch S x0 x1) >>= fun r1 =>
  (C_X1_isIn x2 0 2) >>= fun r2 =>
  tor (T_X1_check 2 c S r2) (
  (C_X1_checkThat r2) >>= fun r3 =>
  none))
theorem rct_X1_stretch {c : Nat} {S : St} {x0 : Nat} {x1 : Int32} {x2 : Int32} {r : St} (h : T_X1_stretch c S x0 x1 x2 = some r) : ∃ fs, gO S 1 x0 = some fs := by
  unfold T_X1_stretch at h
  obtain ⟨fs, h1, -⟩ := ob h
  exact ⟨fs, h1⟩
/- distance throws -/
def T_X1_distance (c : Nat) (S : St) (x0 : Nat) (x1 : Int32) (x2 : Int32) : Option St :=
  (gO S 1 x0) >>= fun _ =>
  tor (T_X1_checkNode c S x0 x1) (
  (C_X1_checkNode S x0 x1) >>= fun r1 =>
  tor (T_X1_checkNode c S x0 x2) (
  (C_X1_checkNode S x0 x2) >>= fun r2 =>
  none))
theorem rct_X1_distance {c : Nat} {S : St} {x0 : Nat} {x1 : Int32} {x2 : Int32} {r : St} (h : T_X1_distance c S x0 x1 x2 = some r) : ∃ fs, gO S 1 x0 = some fs := by
  unfold T_X1_distance at h
  obtain ⟨fs, h1, -⟩ := ob h
  exact ⟨fs, h1⟩
/- next throws -/
def T_X1_next (F : Nat) (c : Nat) (S : St) (x0 : Nat) (x1 : Int32) (x2 : Int32) : Option St :=
  (gO S 1 x0) >>= fun _ =>
  tor (T_X1_checkNode c S x0 x1) (
  (C_X1_checkNode S x0 x1) >>= fun r1 =>
  tor (T_X1_checkNode c S x0 x2) (
  (C_X1_checkNode S x0 x2) >>= fun r2 =>
  none))
theorem rct_X1_next {F : Nat} {c : Nat} {S : St} {x0 : Nat} {x1 : Int32} {x2 : Int32} {r : St} (h : T_X1_next F c S x0 x1 x2 = some r) : ∃ fs, gO S 1 x0 = some fs := by
  unfold T_X1_next at h
  obtain ⟨fs, h1, -⟩ := ob h
  exact ⟨fs, h1⟩
/- distanceTo throws -/
def T_X1_distanceTo_67 (c : Nat) (x0 : Nat) (x1 : Int32) (x2 : Int32) (x3 : Int32) (x4 : Int32) (x5 : Int32) (s0 : Int32) (S : St) : Option St :=
  tor (T_X1_check 3 c S s0) (
  (C_X1_checkState s0) >>= fun r12 =>
  none)
def T_X1_distanceTo_34 (c : Nat) (x0 : Nat) (x1 : Int32) (x2 : Int32) (x3 : Int32) (x4 : Int32) (x5 : Int32) (s0 : Int32) (S : St) : Option St :=
  tor (T_X1_check 2 c S s0) (
  (C_X1_checkThat s0) >>= fun r5 =>
  (gA S 1 x0 1) >>= fun y6 =>
  (gA S 1 x0 0) >>= fun y7 =>
  (gA S 2 y7 2) >>= fun y8 =>
  (lA S 3 y8 x2) >>= fun y9 =>
  (gI S 4 y9 0) >>= fun y10 =>
  (C_X3_distance S y6 x1 y10) >>= fun r11 =>
  if 100000 ≤ r11 then (
  T_X1_distanceTo_67 c x0 x1 x2 x3 x4 x5 0 S)
  else (
  T_X1_distanceTo_67 c x0 x1 x2 x3 x4 x5 1 S))
def T_X1_distanceTo_33 (c : Nat) (x0 : Nat) (x1 : Int32) (x2 : Int32) (x3 : Int32) (x4 : Int32) (x5 : Int32) (S : St) : Option St :=
  T_X1_distanceTo_34 c x0 x1 x2 x3 x4 x5 0 S
def T_X1_distanceTo (c : Nat) (S : St) (x0 : Nat) (x1 : Int32) (x2 : Int32) (x3 : Int32) (x4 : Int32) (x5 : Int32) : Option St :=
  (gO S 1 x0) >>= fun _ =>
  tor (T_X1_checkNode c S x0 x1) (
  (C_X1_checkNode S x0 x1) >>= fun r1 =>
  tor (T_X1_checkEdge c S x0 x2) (
  (C_X1_checkEdge S x0 x2) >>= fun r2 =>
  (C_X1_isPoint S x0 x2 x3 x4) >>= fun r3 =>
  if r3 = 0 then (
  T_X1_distanceTo_33 c x0 x1 x2 x3 x4 x5 S)
  else (
  (C_X1_isPart x5) >>= fun r4 =>
  if r4 = 0 then (
  T_X1_distanceTo_33 c x0 x1 x2 x3 x4 x5 S)
  else (
  T_X1_distanceTo_34 c x0 x1 x2 x3 x4 x5 1 S))))
theorem rct_X1_distanceTo {c : Nat} {S : St} {x0 : Nat} {x1 : Int32} {x2 : Int32} {x3 : Int32} {x4 : Int32} {x5 : Int32} {r : St} (h : T_X1_distanceTo c S x0 x1 x2 x3 x4 x5 = some r) : ∃ fs, gO S 1 x0 = some fs := by
  unfold T_X1_distanceTo at h
  obtain ⟨fs, h1, -⟩ := ob h
  exact ⟨fs, h1⟩
/- isAllowed throws -/
def T_X1_isAllowed (F : Nat) (c : Nat) (S : St) (x0 : Nat) (x1 : Int32) (x2 : Int32) (x3 : Int32) : Option St :=
  (gO S 1 x0) >>= fun _ =>
  tor (T_X1_checkEdge c S x0 x1) (
  (C_X1_checkEdge S x0 x1) >>= fun r1 =>
  (C_X1_isPoint S x0 x1 x2 x3) >>= fun r2 =>
  tor (T_X1_check 2 c S r2) (
  (C_X1_checkThat r2) >>= fun r3 =>
  none))
theorem rct_X1_isAllowed {F : Nat} {c : Nat} {S : St} {x0 : Nat} {x1 : Int32} {x2 : Int32} {x3 : Int32} {r : St} (h : T_X1_isAllowed F c S x0 x1 x2 x3 = some r) : ∃ fs, gO S 1 x0 = some fs := by
  unfold T_X1_isAllowed at h
  obtain ⟨fs, h1, -⟩ := ob h
  exact ⟨fs, h1⟩
/- height throws -/
def T_X1_height_37 (F : Nat) (c : Nat) (x0 : Nat) (x1 : Int32) (x2 : Int32) (x3 : Int32) (x4 : Int32) (x5 : Int32) (s0 : Int32) (S : St) : Option St :=
  tor (T_X1_check 2 c S s0) (
  (C_X1_checkThat s0) >>= fun r5 =>
  (gA S 1 x0 1) >>= fun y6 =>
  (C_X3_isConnected F S y6) >>= fun r7 =>
  tor (T_X1_check 3 c S r7) (
  (C_X1_checkState r7) >>= fun r8 =>
  none))
def T_X1_height_36 (F : Nat) (c : Nat) (x0 : Nat) (x1 : Int32) (x2 : Int32) (x3 : Int32) (x4 : Int32) (x5 : Int32) (S : St) : Option St :=
  T_X1_height_37 F c x0 x1 x2 x3 x4 x5 0 S
def T_X1_height (F : Nat) (c : Nat) (S : St) (x0 : Nat) (x1 : Int32) (x2 : Int32) (x3 : Int32) (x4 : Int32) (x5 : Int32) : Option St :=
  (gO S 1 x0) >>= fun _ =>
  tor (T_X1_checkEdge c S x0 x2) (
  (C_X1_checkEdge S x0 x2) >>= fun r1 =>
  (C_X1_isSet S x0 x1) >>= fun r2 =>
  if r2 = 0 then (
  T_X1_height_36 F c x0 x1 x2 x3 x4 x5 S)
  else (
  (C_X1_isPoint S x0 x2 x3 x4) >>= fun r3 =>
  if r3 = 0 then (
  T_X1_height_36 F c x0 x1 x2 x3 x4 x5 S)
  else (
  (C_X1_isPart x5) >>= fun r4 =>
  if r4 = 0 then (
  T_X1_height_36 F c x0 x1 x2 x3 x4 x5 S)
  else (
  T_X1_height_37 F c x0 x1 x2 x3 x4 x5 1 S))))
theorem rct_X1_height {F : Nat} {c : Nat} {S : St} {x0 : Nat} {x1 : Int32} {x2 : Int32} {x3 : Int32} {x4 : Int32} {x5 : Int32} {r : St} (h : T_X1_height F c S x0 x1 x2 x3 x4 x5 = some r) : ∃ fs, gO S 1 x0 = some fs := by
  unfold T_X1_height at h
  obtain ⟨fs, h1, -⟩ := ob h
  exact ⟨fs, h1⟩
/- cost throws -/
def T_X1_cost_28 (F : Nat) (c : Nat) (x0 : Nat) (x1 : Int32) (x2 : Int32) (x3 : Int32) (x4 : Int32) (s0 : Int32) (S : St) : Option St :=
  tor (T_X1_check 2 c S s0) (
  (C_X1_checkThat s0) >>= fun r4 =>
  (gA S 1 x0 1) >>= fun y5 =>
  (C_X3_isConnected F S y5) >>= fun r6 =>
  tor (T_X1_check 3 c S r6) (
  (C_X1_checkState r6) >>= fun r7 =>
  none))
def T_X1_cost_27 (F : Nat) (c : Nat) (x0 : Nat) (x1 : Int32) (x2 : Int32) (x3 : Int32) (x4 : Int32) (S : St) : Option St :=
  T_X1_cost_28 F c x0 x1 x2 x3 x4 0 S
def T_X1_cost (F : Nat) (c : Nat) (S : St) (x0 : Nat) (x1 : Int32) (x2 : Int32) (x3 : Int32) (x4 : Int32) : Option St :=
  (gO S 1 x0) >>= fun _ =>
  tor (T_X1_checkEdge c S x0 x1) (
  (C_X1_checkEdge S x0 x1) >>= fun r1 =>
  (C_X1_isPoint S x0 x1 x2 x3) >>= fun r2 =>
  if r2 = 0 then (
  T_X1_cost_27 F c x0 x1 x2 x3 x4 S)
  else (
  (C_X1_isPart x4) >>= fun r3 =>
  if r3 = 0 then (
  T_X1_cost_27 F c x0 x1 x2 x3 x4 S)
  else (
  T_X1_cost_28 F c x0 x1 x2 x3 x4 1 S)))
theorem rct_X1_cost {F : Nat} {c : Nat} {S : St} {x0 : Nat} {x1 : Int32} {x2 : Int32} {x3 : Int32} {x4 : Int32} {r : St} (h : T_X1_cost F c S x0 x1 x2 x3 x4 = some r) : ∃ fs, gO S 1 x0 = some fs := by
  unfold T_X1_cost at h
  obtain ⟨fs, h1, -⟩ := ob h
  exact ⟨fs, h1⟩
/- corner throws -/
def T_X1_corner (F : Nat) (c : Nat) (S : St) (x0 : Nat) (x1 : Int32) (x2 : Int32) (x3 : Int32) : Option St :=
  (gO S 1 x0) >>= fun _ =>
  tor (T_X1_checkEdge c S x0 x1) (
  (C_X1_checkEdge S x0 x1) >>= fun r1 =>
  (C_X1_isIn x3 0 3) >>= fun r2 =>
  tor (T_X1_check 2 c S r2) (
  (C_X1_checkThat r2) >>= fun r3 =>
  (gA S 1 x0 1) >>= fun y4 =>
  (C_X3_isConnected F S y4) >>= fun r5 =>
  tor (T_X1_check 3 c S r5) (
  (C_X1_checkState r5) >>= fun r6 =>
  none)))
theorem rct_X1_corner {F : Nat} {c : Nat} {S : St} {x0 : Nat} {x1 : Int32} {x2 : Int32} {x3 : Int32} {r : St} (h : T_X1_corner F c S x0 x1 x2 x3 = some r) : ∃ fs, gO S 1 x0 = some fs := by
  unfold T_X1_corner at h
  obtain ⟨fs, h1, -⟩ := ob h
  exact ⟨fs, h1⟩
/- radius throws -/
def T_X1_radius_20 (F : Nat) (c : Nat) (x0 : Nat) (x1 : Int32) (x2 : Int32) (s0 : Int32) (S : St) : Option St :=
  tor (T_X1_check 2 c S s0) (
  (C_X1_checkThat s0) >>= fun r3 =>
  (gA S 1 x0 1) >>= fun y4 =>
  (C_X3_isUsable F S y4) >>= fun r5 =>
  tor (T_X1_check 3 c S r5) (
  (C_X1_checkState r5) >>= fun r6 =>
  none))
def T_X1_radius_19 (F : Nat) (c : Nat) (x0 : Nat) (x1 : Int32) (x2 : Int32) (S : St) : Option St :=
  T_X1_radius_20 F c x0 x1 x2 0 S
def T_X1_radius (F : Nat) (c : Nat) (S : St) (x0 : Nat) (x1 : Int32) (x2 : Int32) : Option St :=
  (gO S 1 x0) >>= fun _ =>
  (C_X1_isSet S x0 x1) >>= fun r1 =>
  if r1 = 0 then (
  T_X1_radius_19 F c x0 x1 x2 S)
  else (
  (C_X1_isPart x2) >>= fun r2 =>
  if r2 = 0 then (
  T_X1_radius_19 F c x0 x1 x2 S)
  else (
  T_X1_radius_20 F c x0 x1 x2 1 S))
theorem rct_X1_radius {F : Nat} {c : Nat} {S : St} {x0 : Nat} {x1 : Int32} {x2 : Int32} {r : St} (h : T_X1_radius F c S x0 x1 x2 = some r) : ∃ fs, gO S 1 x0 = some fs := by
  unfold T_X1_radius at h
  obtain ⟨fs, h1, -⟩ := ob h
  exact ⟨fs, h1⟩
/- center throws -/
def T_X1_center_22 (F : Nat) (c : Nat) (x0 : Nat) (x1 : Int32) (x2 : Int32) (s0 : Int32) (S : St) : Option St :=
  tor (T_X1_check 2 c S s0) (
  (C_X1_checkThat s0) >>= fun r3 =>
  (gA S 1 x0 1) >>= fun y4 =>
  (C_X3_isUsable F S y4) >>= fun r5 =>
  tor (T_X1_check 3 c S r5) (
  (C_X1_checkState r5) >>= fun r6 =>
  none))
def T_X1_center_21 (F : Nat) (c : Nat) (x0 : Nat) (x1 : Int32) (x2 : Int32) (S : St) : Option St :=
  T_X1_center_22 F c x0 x1 x2 0 S
def T_X1_center (F : Nat) (c : Nat) (S : St) (x0 : Nat) (x1 : Int32) (x2 : Int32) : Option St :=
  (gO S 1 x0) >>= fun _ =>
  (C_X1_isSet S x0 x1) >>= fun r1 =>
  if r1 = 0 then (
  T_X1_center_21 F c x0 x1 x2 S)
  else (
  (C_X1_isIn x2 0 2) >>= fun r2 =>
  if r2 = 0 then (
  T_X1_center_21 F c x0 x1 x2 S)
  else (
  T_X1_center_22 F c x0 x1 x2 1 S))
theorem rct_X1_center {F : Nat} {c : Nat} {S : St} {x0 : Nat} {x1 : Int32} {x2 : Int32} {r : St} (h : T_X1_center F c S x0 x1 x2 = some r) : ∃ fs, gO S 1 x0 = some fs := by
  unfold T_X1_center at h
  obtain ⟨fs, h1, -⟩ := ob h
  exact ⟨fs, h1⟩
/- critical throws -/
def T_X1_critical (F : Nat) (c : Nat) (S : St) (x0 : Nat) (x1 : Int32) : Option St :=
  (gO S 1 x0) >>= fun _ =>
  (C_X1_isSet S x0 x1) >>= fun r1 =>
  tor (T_X1_check 2 c S r1) (
  (C_X1_checkThat r1) >>= fun r2 =>
  (gA S 1 x0 1) >>= fun y3 =>
  (C_X3_isUsable F S y3) >>= fun r4 =>
  tor (T_X1_check 3 c S r4) (
  (C_X1_checkState r4) >>= fun r5 =>
  none))
theorem rct_X1_critical {F : Nat} {c : Nat} {S : St} {x0 : Nat} {x1 : Int32} {r : St} (h : T_X1_critical F c S x0 x1 = some r) : ∃ fs, gO S 1 x0 = some fs := by
  unfold T_X1_critical at h
  obtain ⟨fs, h1, -⟩ := ob h
  exact ⟨fs, h1⟩
/- median throws -/
def T_X1_median (F : Nat) (c : Nat) (S : St) (x0 : Nat) (x1 : Int32) : Option St :=
  (gO S 1 x0) >>= fun _ =>
  (C_X1_isIn x1 0 4) >>= fun r1 =>
  tor (T_X1_check 2 c S r1) (
  (C_X1_checkThat r1) >>= fun r2 =>
  (gA S 1 x0 1) >>= fun y3 =>
  (C_X3_isUsable F S y3) >>= fun r4 =>
  tor (T_X1_check 3 c S r4) (
  (C_X1_checkState r4) >>= fun r5 =>
  none))
theorem rct_X1_median {F : Nat} {c : Nat} {S : St} {x0 : Nat} {x1 : Int32} {r : St} (h : T_X1_median F c S x0 x1 = some r) : ∃ fs, gO S 1 x0 = some fs := by
  unfold T_X1_median at h
  obtain ⟨fs, h1, -⟩ := ob h
  exact ⟨fs, h1⟩
/- radiusOf throws -/
def T_X1_radiusOf_21 (F : Nat) (c : Nat) (x0 : Nat) (x1 : Int32) (x2 : Int32) (s0 : Int32) (S : St) : Option St :=
  tor (T_X1_check 2 c S s0) (
  (C_X1_checkThat s0) >>= fun r3 =>
  (gA S 1 x0 1) >>= fun y4 =>
  (C_X3_isUsable F S y4) >>= fun r5 =>
  tor (T_X1_check 3 c S r5) (
  (C_X1_checkState r5) >>= fun r6 =>
  none))
def T_X1_radiusOf_20 (F : Nat) (c : Nat) (x0 : Nat) (x1 : Int32) (x2 : Int32) (S : St) : Option St :=
  T_X1_radiusOf_21 F c x0 x1 x2 0 S
def T_X1_radiusOf (F : Nat) (c : Nat) (S : St) (x0 : Nat) (x1 : Int32) (x2 : Int32) : Option St :=
  (gO S 1 x0) >>= fun _ =>
  (C_X1_isIn x1 1 3) >>= fun r1 =>
  if r1 = 0 then (
  T_X1_radiusOf_20 F c x0 x1 x2 S)
  else (
  (C_X1_isPart x2) >>= fun r2 =>
  if r2 = 0 then (
  T_X1_radiusOf_20 F c x0 x1 x2 S)
  else (
  T_X1_radiusOf_21 F c x0 x1 x2 1 S))
theorem rct_X1_radiusOf {F : Nat} {c : Nat} {S : St} {x0 : Nat} {x1 : Int32} {x2 : Int32} {r : St} (h : T_X1_radiusOf F c S x0 x1 x2 = some r) : ∃ fs, gO S 1 x0 = some fs := by
  unfold T_X1_radiusOf at h
  obtain ⟨fs, h1, -⟩ := ob h
  exact ⟨fs, h1⟩
/- group throws -/
def T_X1_group_25 (F : Nat) (c : Nat) (x0 : Nat) (x1 : Int32) (x2 : Int32) (s0 : Int32) (S : St) : Option St :=
  tor (T_X1_check 2 c S s0) (
  (C_X1_checkThat s0) >>= fun r3 =>
  (gA S 1 x0 1) >>= fun y4 =>
  (C_X3_isUsable F S y4) >>= fun r5 =>
  tor (T_X1_check 3 c S r5) (
  (C_X1_checkState r5) >>= fun r6 =>
  none))
def T_X1_group_24 (F : Nat) (c : Nat) (x0 : Nat) (x1 : Int32) (x2 : Int32) (S : St) : Option St :=
  T_X1_group_25 F c x0 x1 x2 0 S
def T_X1_group (F : Nat) (c : Nat) (S : St) (x0 : Nat) (x1 : Int32) (x2 : Int32) : Option St :=
  (gO S 1 x0) >>= fun _ =>
  (C_X1_isIn x1 1 3) >>= fun r1 =>
  if r1 = 0 then (
  T_X1_group_24 F c x0 x1 x2 S)
  else (
  (C_X1_isIn x2 0 (x1 - 1)) >>= fun r2 =>
  if r2 = 0 then (
  T_X1_group_24 F c x0 x1 x2 S)
  else (
  T_X1_group_25 F c x0 x1 x2 1 S))
theorem rct_X1_group {F : Nat} {c : Nat} {S : St} {x0 : Nat} {x1 : Int32} {x2 : Int32} {r : St} (h : T_X1_group F c S x0 x1 x2 = some r) : ∃ fs, gO S 1 x0 = some fs := by
  unfold T_X1_group at h
  obtain ⟨fs, h1, -⟩ := ob h
  exact ⟨fs, h1⟩
/- covering throws -/
def T_X1_covering_20 (F : Nat) (c : Nat) (x0 : Nat) (x1 : Int32) (x2 : Int32) (s0 : Int32) (S : St) : Option St :=
  tor (T_X1_check 2 c S s0) (
  (C_X1_checkThat s0) >>= fun r2 =>
  (gA S 1 x0 1) >>= fun y3 =>
  (C_X3_isUsable F S y3) >>= fun r4 =>
  tor (T_X1_check 3 c S r4) (
  (C_X1_checkState r4) >>= fun r5 =>
  none))
def T_X1_covering_19 (F : Nat) (c : Nat) (x0 : Nat) (x1 : Int32) (x2 : Int32) (S : St) : Option St :=
  T_X1_covering_20 F c x0 x1 x2 0 S
def T_X1_covering (F : Nat) (c : Nat) (S : St) (x0 : Nat) (x1 : Int32) (x2 : Int32) : Option St :=
  (gO S 1 x0) >>= fun _ =>
  if x1 < 0 then (
  T_X1_covering_19 F c x0 x1 x2 S)
  else (
  (C_X1_isIn x2 1 1000) >>= fun r1 =>
  if r1 = 0 then (
  T_X1_covering_19 F c x0 x1 x2 S)
  else (
  T_X1_covering_20 F c x0 x1 x2 1 S))
theorem rct_X1_covering {F : Nat} {c : Nat} {S : St} {x0 : Nat} {x1 : Int32} {x2 : Int32} {r : St} (h : T_X1_covering F c S x0 x1 x2 = some r) : ∃ fs, gO S 1 x0 = some fs := by
  unfold T_X1_covering at h
  obtain ⟨fs, h1, -⟩ := ob h
  exact ⟨fs, h1⟩
/- covered throws -/
def T_X1_covered_34 (F : Nat) (c : Nat) (x0 : Nat) (x1 : Int32) (x2 : Int32) (x3 : Int32) (s0 : Int32) (S : St) : Option St :=
  tor (T_X1_check 2 c S s0) (
  (C_X1_checkThat s0) >>= fun r7 =>
  (gA S 1 x0 1) >>= fun y8 =>
  (C_X3_isConnected F S y8) >>= fun r9 =>
  tor (T_X1_check 3 c S r9) (
  (C_X1_checkState r9) >>= fun r10 =>
  none))
def T_X1_covered_33 (F : Nat) (c : Nat) (x0 : Nat) (x1 : Int32) (x2 : Int32) (x3 : Int32) (S : St) : Option St :=
  T_X1_covered_34 F c x0 x1 x2 x3 0 S
def T_X1_covered (F : Nat) (c : Nat) (S : St) (x0 : Nat) (x1 : Int32) (x2 : Int32) (x3 : Int32) : Option St :=
  (gO S 1 x0) >>= fun _ =>
  tor (T_X1_checkEdge c S x0 x1) (
  (C_X1_checkEdge S x0 x1) >>= fun r1 =>
  (gA S 1 x0 0) >>= fun y2 =>
  (gA S 2 y2 2) >>= fun y3 =>
  (lA S 3 y3 x1) >>= fun y4 =>
  (gI S 4 y4 2) >>= fun y5 =>
  (C_X1_isIn x2 0 y5) >>= fun r6 =>
  if r6 = 0 then (
  T_X1_covered_33 F c x0 x1 x2 x3 S)
  else (
  if x3 < 0 then (
  T_X1_covered_33 F c x0 x1 x2 x3 S)
  else (
  T_X1_covered_34 F c x0 x1 x2 x3 1 S)))
theorem rct_X1_covered {F : Nat} {c : Nat} {S : St} {x0 : Nat} {x1 : Int32} {x2 : Int32} {x3 : Int32} {r : St} (h : T_X1_covered F c S x0 x1 x2 x3 = some r) : ∃ fs, gO S 1 x0 = some fs := by
  unfold T_X1_covered at h
  obtain ⟨fs, h1, -⟩ := ob h
  exact ⟨fs, h1⟩
/- changedRadius throws -/
def T_X1_changedRadius_22 (F : Nat) (c : Nat) (x0 : Nat) (x1 : Int32) (x2 : Int32) (s0 : Int32) (S : St) : Option St :=
  tor (T_X1_check 2 c S s0) (
  (C_X1_checkThat s0) >>= fun r3 =>
  (gA S 1 x0 1) >>= fun y4 =>
  (C_X3_isUsable F S y4) >>= fun r5 =>
  tor (T_X1_check 3 c S r5) (
  (C_X1_checkState r5) >>= fun r6 =>
  none))
def T_X1_changedRadius_21 (F : Nat) (c : Nat) (x0 : Nat) (x1 : Int32) (x2 : Int32) (S : St) : Option St :=
  T_X1_changedRadius_22 F c x0 x1 x2 0 S
def T_X1_changedRadius (F : Nat) (c : Nat) (S : St) (x0 : Nat) (x1 : Int32) (x2 : Int32) : Option St :=
  (gO S 1 x0) >>= fun _ =>
  (C_X1_isIn x1 0 10) >>= fun r1 =>
  if r1 = 0 then (
  T_X1_changedRadius_21 F c x0 x1 x2 S)
  else (
  (C_X1_isPart x2) >>= fun r2 =>
  if r2 = 0 then (
  T_X1_changedRadius_21 F c x0 x1 x2 S)
  else (
  T_X1_changedRadius_22 F c x0 x1 x2 1 S))
theorem rct_X1_changedRadius {F : Nat} {c : Nat} {S : St} {x0 : Nat} {x1 : Int32} {x2 : Int32} {r : St} (h : T_X1_changedRadius F c S x0 x1 x2 = some r) : ∃ fs, gO S 1 x0 = some fs := by
  unfold T_X1_changedRadius at h
  obtain ⟨fs, h1, -⟩ := ob h
  exact ⟨fs, h1⟩
/- radiusWithout throws -/
def T_X1_radiusWithout (F : Nat) (c : Nat) (S : St) (x0 : Nat) (x1 : Int32) (x2 : Int32) : Option St :=
  (gO S 1 x0) >>= fun _ =>
  tor (T_X1_checkEdge c S x0 x1) (
  (C_X1_checkEdge S x0 x1) >>= fun r1 =>
  (C_X1_isPart x2) >>= fun r2 =>
  tor (T_X1_check 2 c S r2) (
  (C_X1_checkThat r2) >>= fun r3 =>
  none))
theorem rct_X1_radiusWithout {F : Nat} {c : Nat} {S : St} {x0 : Nat} {x1 : Int32} {x2 : Int32} {r : St} (h : T_X1_radiusWithout F c S x0 x1 x2 = some r) : ∃ fs, gO S 1 x0 = some fs := by
  unfold T_X1_radiusWithout at h
  obtain ⟨fs, h1, -⟩ := ob h
  exact ⟨fs, h1⟩
/- type throws -/
def T_X1_type_28 (c : Nat) (x0 : Nat) (x1 : Int32) (s0 : Int32) (S : St) : Option St :=
  tor (T_X1_check 3 c S s0) (
  (C_X1_checkState s0) >>= fun r5 =>
  none)
def T_X1_type (c : Nat) (S : St) (x0 : Nat) (x1 : Int32) : Option St :=
  (gO S 1 x0) >>= fun _ =>
  (C_X1_isIn x1 32 126) >>= fun r1 =>
  tor (T_X1_check 2 c S r1) (
  (C_X1_checkThat r1) >>= fun r2 =>
  (gA S 1 x0 3) >>= fun y3 =>
  (C_J4_length S y3) >>= fun r4 =>
  if 120 ≤ r4 then (
  T_X1_type_28 c x0 x1 0 S)
  else (
  T_X1_type_28 c x0 x1 1 S))
theorem rct_X1_type {c : Nat} {S : St} {x0 : Nat} {x1 : Int32} {r : St} (h : T_X1_type c S x0 x1 = some r) : ∃ fs, gO S 1 x0 = some fs := by
  unfold T_X1_type at h
  obtain ⟨fs, h1, -⟩ := ob h
  exact ⟨fs, h1⟩
/- undo throws -/
def T_X1_undo_15 (F : Nat) (c : Nat) (x0 : Nat) (s0 : Int32) (S : St) : Option St :=
  tor (T_X1_check 3 c S s0) (
  (C_X1_checkState s0) >>= fun r3 =>
  none)
def T_X1_undo (F : Nat) (c : Nat) (S : St) (x0 : Nat) : Option St :=
  (gO S 1 x0) >>= fun _ =>
  (gA S 1 x0 2) >>= fun y1 =>
  (C_J2_isEmpty S y1) >>= fun r2 =>
  if r2 = 0 then (
  T_X1_undo_15 F c x0 1 S)
  else (
  T_X1_undo_15 F c x0 0 S)
theorem rct_X1_undo {F : Nat} {c : Nat} {S : St} {x0 : Nat} {r : St} (h : T_X1_undo F c S x0 = some r) : ∃ fs, gO S 1 x0 = some fs := by
  unfold T_X1_undo at h
  obtain ⟨fs, h1, -⟩ := ob h
  exact ⟨fs, h1⟩
