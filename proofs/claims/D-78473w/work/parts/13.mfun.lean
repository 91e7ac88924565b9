/-! THE MODEL, AS PURE PARTIAL FUNCTIONS (by program out of its bytecode) -/
/- begins(I)V -/
def M_begins_30 (F : Nat) (k2 : Int32 → MS → Option MS) (x1 : Int32) (x2 : Int32) (s1 : Int32) (s2 : Int32) (σ : MS) : Option MS :=
  (stA σ 0 73 s1 s2) >>= fun σ2 =>
  (some (x2 + 1)) >>= fun y3 =>
  k2 y3 σ2
def M_begins_29 (F : Nat) (k2 : Int32 → MS → Option MS) (x1 : Int32) (x2 : Int32) (s1 : Int32) (σ : MS) : Option MS :=
  M_begins_30 F k2 x1 x2 s1 0 σ
def M_begins_37 (F : Nat) (x1 : Int32) (σ : MS) : Option MS :=
  (stA σ 0 73 0 x1) >>= fun σ1 =>
  some σ1
def M_begins_2 (F : Nat) (x1 : Int32) : Nat → Int32 → MS → Option MS
  | 0, _, _ => none
  | n + 1, x2, σ =>
    if 73 ≤ x2 then (
    M_begins_37 F x1 σ)
    else (
    if x2 < 1 then (
    M_begins_29 F (M_begins_2 F x1 n) x1 x2 x2 σ)
    else (
    if 1 + x1 ≤ x2 then (
    M_begins_29 F (M_begins_2 F x1 n) x1 x2 x2 σ)
    else (
    M_begins_30 F (M_begins_2 F x1 n) x1 x2 x2 1 σ)))
def M_begins (F : Nat) (σ : MS) (x1 : Int32) : Option MS :=
  M_begins_2 F x1 F 0 σ
/- thrown()I -/
def M_thrown (σ : MS) : Option Int32 :=
  some (mI σ 1)
/- refused(I)Z -/
def M_refused (σ : MS) (x1 : Int32) : Option (Int32 × MS) :=
  (some (sI σ 1 x1)) >>= fun σ1 =>
  if x1 ≤ 0 then (
  some (0, σ1))
  else (
  some (1, σ1))
/- undo()I -/
def M_undo_65 (F : Nat) (σ : MS) : Option (Int32 × MS) :=
  some ((mI σ 0), σ)
def M_undo_33 (F : Nat) : Nat → Int32 → MS → Option (Int32 × MS)
  | 0, _, _ => none
  | n + 1, x1, σ =>
    if 73 ≤ x1 then (
    M_undo_65 F σ)
    else (
    (rdI (mA σ 1) 438 ((73 * (mI σ 0)) + x1)) >>= fun y3 =>
    (stA σ 0 73 x1 y3) >>= fun σ4 =>
    (some (x1 + 1)) >>= fun y5 =>
    M_undo_33 F n y5 σ4)
def M_undo_13 (F : Nat) (s1 : Int32) (σ : MS) : Option (Int32 × MS) :=
  (M_refused σ s1) >>= fun r1 =>
  if r1.1 = 0 then (
  (some (sI r1.2 0 ((mI r1.2 0) - 1))) >>= fun σ2 =>
  M_undo_33 F F 0 σ2)
  else (
  some (0, r1.2))
def M_undo (F : Nat) (σ : MS) : Option (Int32 × MS) :=
  if (mI σ 0) = 0 then (
  M_undo_13 F 1 σ)
  else (
  M_undo_13 F 0 σ)
/- many()I -/
def M_many (σ : MS) : Option Int32 :=
  (rdI (mA σ 0) 73 0) >>= fun y1 =>
  some y1
/- saves()V -/
def M_saves_83 (F : Nat) (σ : MS) : Option MS :=
  (some (sI σ 0 ((mI σ 0) + 1))) >>= fun σ8 =>
  some σ8
def M_saves_51 (F : Nat) : Nat → Int32 → MS → Option MS
  | 0, _, _ => none
  | n + 1, x1, σ =>
    if 73 ≤ x1 then (
    M_saves_83 F σ)
    else (
    (rdI (mA σ 0) 73 x1) >>= fun y5 =>
    (stA σ 1 438 ((73 * (mI σ 0)) + x1) y5) >>= fun σ6 =>
    (some (x1 + 1)) >>= fun y7 =>
    M_saves_51 F n y7 σ6)
def M_saves_49 (F : Nat) (σ : MS) : Option MS :=
  M_saves_51 F F 0 σ
def M_saves_39 (F : Nat) (σ : MS) : Option MS :=
  (some (sI σ 0 ((mI σ 0) - 1))) >>= fun σ4 =>
  M_saves_49 F σ4
def M_saves_11 (F : Nat) : Nat → Int32 → MS → Option MS
  | 0, _, _ => none
  | n + 1, x1, σ =>
    if 365 ≤ x1 then (
    M_saves_39 F σ)
    else (
    (rdI (mA σ 1) 438 (x1 + 73)) >>= fun y1 =>
    (stA σ 1 438 x1 y1) >>= fun σ2 =>
    (some (x1 + 1)) >>= fun y3 =>
    M_saves_11 F n y3 σ2)
def M_saves (F : Nat) (σ : MS) : Option MS :=
  if (mI σ 0) = 6 then (
  M_saves_11 F F 0 σ)
  else (
  M_saves_49 F σ)
/- within(III)Z -/
def M_within (x0 : Int32) (x1 : Int32) (x2 : Int32) : Option Int32 :=
  if x0 < x1 then (
  some 0)
  else (
  if x2 < x0 then (
  some 0)
  else (
  some 1))
/- reset(I)I -/
def M_reset_16 (F : Nat) (x1 : Int32) (s1 : Int32) (σ : MS) : Option (Int32 × MS) :=
  (M_refused σ s1) >>= fun r2 =>
  if r2.1 = 0 then (
  (M_many r2.2) >>= fun r3 =>
  (M_saves F r2.2) >>= fun r4 =>
  (M_begins F r4 x1) >>= fun r5 =>
  some (r3, r5))
  else (
  some (0, r2.2))
def M_reset (F : Nat) (σ : MS) (x1 : Int32) : Option (Int32 × MS) :=
  (M_within x1 1 8) >>= fun r1 =>
  if r1 = 0 then (
  M_reset_16 F x1 1 σ)
  else (
  M_reset_16 F x1 0 σ)
/- edgeMany()I -/
def M_edgeMany (σ : MS) : Option Int32 :=
  (rdI (mA σ 0) 73 17) >>= fun y1 =>
  some y1
/- connects(III)I -/
def M_connects (σ : MS) (x1 : Int32) (x2 : Int32) (x3 : Int32) : Option (Int32 × MS) :=
  (M_edgeMany σ) >>= fun r1 =>
  (stA σ 0 73 (18 + (3 * r1)) x1) >>= fun σ2 =>
  (stA σ2 0 73 ((18 + (3 * r1)) + 1) x2) >>= fun σ3 =>
  (stA σ3 0 73 ((18 + (3 * r1)) + 2) x3) >>= fun σ4 =>
  (rdI (mA σ4 0) 73 17) >>= fun y5 =>
  (stA σ4 0 73 17 (y5 + 1)) >>= fun σ6 =>
  some (r1, σ6)
/- of(II)I -/
def M_of (σ : MS) (x1 : Int32) (x2 : Int32) : Option Int32 :=
  (rdI (mA σ 0) 73 ((18 + (3 * x1)) + x2)) >>= fun y1 =>
  some y1
/- areJoined(II)Z -/
def M_areJoined_67 (F : Nat) (k5 : Int32 → Int32 → Option Int32) (σ : MS) (x1 : Int32) (x2 : Int32) (x4 : Int32) (s0 : Int32) : Option Int32 :=
  (some (x4 + 1)) >>= fun y7 =>
  k5 s0 y7
def M_areJoined_62 (F : Nat) (k5 : Int32 → Int32 → Option Int32) (σ : MS) (x1 : Int32) (x2 : Int32) (x4 : Int32) : Option Int32 :=
  M_areJoined_67 F k5 σ x1 x2 x4 1
def M_areJoined_66 (F : Nat) (k5 : Int32 → Int32 → Option Int32) (σ : MS) (x1 : Int32) (x2 : Int32) (x4 : Int32) : Option Int32 :=
  M_areJoined_67 F k5 σ x1 x2 x4 0
def M_areJoined_40 (F : Nat) (k5 : Int32 → Int32 → Option Int32) (σ : MS) (x1 : Int32) (x2 : Int32) (x4 : Int32) : Option Int32 :=
  (M_of σ x4 0) >>= fun r5 =>
  if r5 = x2 then (
  (M_of σ x4 1) >>= fun r6 =>
  if r6 = x1 then (
  M_areJoined_62 F k5 σ x1 x2 x4)
  else (
  M_areJoined_66 F k5 σ x1 x2 x4))
  else (
  M_areJoined_66 F k5 σ x1 x2 x4)
def M_areJoined_5 (F : Nat) (σ : MS) (x1 : Int32) (x2 : Int32) : Nat → Int32 → Int32 → Option Int32
  | 0, _, _ => none
  | n + 1, x3, x4 =>
    (M_edgeMany σ) >>= fun r1 =>
    if r1 ≤ x4 then (
    (zz x3) >>= fun b2 => some b2)
    else (
    if x3 = 0 then (
    (M_of σ x4 0) >>= fun r3 =>
    if r3 = x1 then (
    (M_of σ x4 1) >>= fun r4 =>
    if r4 = x2 then (
    M_areJoined_62 F (M_areJoined_5 F σ x1 x2 n) σ x1 x2 x4)
    else (
    M_areJoined_40 F (M_areJoined_5 F σ x1 x2 n) σ x1 x2 x4))
    else (
    M_areJoined_40 F (M_areJoined_5 F σ x1 x2 n) σ x1 x2 x4))
    else (
    M_areJoined_62 F (M_areJoined_5 F σ x1 x2 n) σ x1 x2 x4))
def M_areJoined (F : Nat) (σ : MS) (x1 : Int32) (x2 : Int32) : Option Int32 :=
  M_areJoined_5 F σ x1 x2 F 0 0
/- isNode(I)Z -/
def M_isNode (σ : MS) (x1 : Int32) : Option Int32 :=
  (M_many σ) >>= fun r1 =>
  (M_within x1 0 (r1 - 1)) >>= fun r2 =>
  (zz r2) >>= fun b3 => some b3
/- needConnect(III)I -/
def M_needConnect (F : Nat) (σ : MS) (x1 : Int32) (x2 : Int32) (x3 : Int32) : Option Int32 :=
  (M_isNode σ x1) >>= fun r1 =>
  if r1 = 0 then (
  some 1)
  else (
  (M_isNode σ x2) >>= fun r2 =>
  if r2 = 0 then (
  some 1)
  else (
  if x1 = x2 then (
  some 2)
  else (
  (M_within x3 1 50) >>= fun r3 =>
  if r3 = 0 then (
  some 2)
  else (
  (M_areJoined F σ x1 x2) >>= fun r4 =>
  if r4 = 0 then (
  (M_edgeMany σ) >>= fun r5 =>
  if r5 = 12 then (
  some 3)
  else (
  some 0))
  else (
  some 3)))))
/- connect(III)I -/
def M_connect (F : Nat) (σ : MS) (x1 : Int32) (x2 : Int32) (x3 : Int32) : Option (Int32 × MS) :=
  (M_needConnect F σ x1 x2 x3) >>= fun r1 =>
  (M_refused σ r1) >>= fun r2 =>
  if r2.1 = 0 then (
  (M_saves F r2.2) >>= fun r3 =>
  (M_connects r3 x1 x2 x3) >>= fun r4 =>
  some (r4.1, r4.2))
  else (
  some (0, r2.2))
/- at(II)I -/
def M_at (σ : MS) (x1 : Int32) (x2 : Int32) : Option Int32 :=
  (rdI (mA σ 0) 73 ((55 + (3 * x1)) + x2)) >>= fun y1 =>
  some y1
/- stretchMany()I -/
def M_stretchMany (σ : MS) : Option Int32 :=
  (rdI (mA σ 0) 73 54) >>= fun y1 =>
  some y1
/- dropsStretch(I)V -/
def M_dropsStretch_42 (F : Nat) (σ : MS) : Option MS :=
  (rdI (mA σ 0) 73 54) >>= fun y6 =>
  (stA σ 0 73 54 (y6 - 1)) >>= fun σ7 =>
  some σ7
def M_dropsStretch_7 (F : Nat) : Nat → Int32 → MS → Option MS
  | 0, _, _ => none
  | n + 1, x2, σ =>
    (M_stretchMany σ) >>= fun r2 =>
    if 55 + (3 * (r2 - 1)) ≤ x2 then (
    M_dropsStretch_42 F σ)
    else (
    (rdI (mA σ 0) 73 (x2 + 3)) >>= fun y3 =>
    (stA σ 0 73 x2 y3) >>= fun σ4 =>
    (some (x2 + 1)) >>= fun y5 =>
    M_dropsStretch_7 F n y5 σ4)
def M_dropsStretch (F : Nat) (σ : MS) (x1 : Int32) : Option MS :=
  (some (55 + (3 * x1))) >>= fun y1 =>
  M_dropsStretch_7 F F y1 σ
/- dropsEdge(I)I -/
def M_dropsEdge_59 (F : Nat) (k9 : Int32 → Int32 → MS → Option (Int32 × MS)) (x1 : Int32) (x2 : Int32) (x3 : Int32) (σ : MS) : Option (Int32 × MS) :=
  (some (x3 + (-1))) >>= fun y11 =>
  k9 x2 y11 σ
def M_dropsEdge_107 (F : Nat) (x2 : Int32) (σ : MS) : Option (Int32 × MS) :=
  (rdI (mA σ 0) 73 17) >>= fun y16 =>
  (stA σ 0 73 17 (y16 - 1)) >>= fun σ17 =>
  some (x2, σ17)
def M_dropsEdge_72 (F : Nat) (x2 : Int32) : Nat → Int32 → MS → Option (Int32 × MS)
  | 0, _, _ => none
  | n + 1, x3, σ =>
    (M_edgeMany σ) >>= fun r12 =>
    if 18 + (3 * (r12 - 1)) ≤ x3 then (
    M_dropsEdge_107 F x2 σ)
    else (
    (rdI (mA σ 0) 73 (x3 + 3)) >>= fun y13 =>
    (stA σ 0 73 x3 y13) >>= fun σ14 =>
    (some (x3 + 1)) >>= fun y15 =>
    M_dropsEdge_72 F x2 n y15 σ14)
def M_dropsEdge_65 (F : Nat) (x1 : Int32) (x2 : Int32) (σ : MS) : Option (Int32 × MS) :=
  (some (18 + (3 * x1))) >>= fun y10 =>
  M_dropsEdge_72 F x2 F y10 σ
def M_dropsEdge_9 (F : Nat) (x1 : Int32) : Nat → Int32 → Int32 → MS → Option (Int32 × MS)
  | 0, _, _, _ => none
  | n + 1, x2, x3, σ =>
    if x3 < 0 then (
    M_dropsEdge_65 F x1 x2 σ)
    else (
    (M_at σ x3 0) >>= fun r3 =>
    if r3 = x1 then (
    (M_dropsStretch F σ x3) >>= fun r4 =>
    (some (x2 + 1)) >>= fun y5 =>
    M_dropsEdge_59 F (M_dropsEdge_9 F x1 n) x1 y5 x3 r4)
    else (
    (M_at σ x3 0) >>= fun r6 =>
    if r6 ≤ x1 then (
    M_dropsEdge_59 F (M_dropsEdge_9 F x1 n) x1 x2 x3 σ)
    else (
    (some (55 + (3 * x3))) >>= fun y7 =>
    (rdI (mA σ 0) 73 y7) >>= fun y8 =>
    (stA σ 0 73 y7 (y8 - 1)) >>= fun σ9 =>
    M_dropsEdge_59 F (M_dropsEdge_9 F x1 n) x1 x2 x3 σ9)))
def M_dropsEdge (F : Nat) (σ : MS) (x1 : Int32) : Option (Int32 × MS) :=
  (M_stretchMany σ) >>= fun r1 =>
  (some (r1 - 1)) >>= fun y2 =>
  M_dropsEdge_9 F x1 F 0 y2 σ
/- isEdge(I)Z -/
def M_isEdge (σ : MS) (x1 : Int32) : Option Int32 :=
  (M_edgeMany σ) >>= fun r1 =>
  (M_within x1 0 (r1 - 1)) >>= fun r2 =>
  (zz r2) >>= fun b3 => some b3
/- disconnect(I)I -/
def M_disconnect_14 (F : Nat) (x1 : Int32) (s1 : Int32) (σ : MS) : Option (Int32 × MS) :=
  (M_refused σ s1) >>= fun r2 =>
  if r2.1 = 0 then (
  (M_saves F r2.2) >>= fun r3 =>
  (M_dropsEdge F r3 x1) >>= fun r4 =>
  some (r4.1, r4.2))
  else (
  some (0, r2.2))
def M_disconnect (F : Nat) (σ : MS) (x1 : Int32) : Option (Int32 × MS) :=
  (M_isEdge σ x1) >>= fun r1 =>
  if r1 = 0 then (
  M_disconnect_14 F x1 1 σ)
  else (
  M_disconnect_14 F x1 0 σ)
/- needSet(II)I -/
def M_needSet (σ : MS) (x1 : Int32) (x2 : Int32) : Option Int32 :=
  (M_isNode σ x1) >>= fun r1 =>
  if r1 = 0 then (
  some 1)
  else (
  (M_within x2 0 9) >>= fun r2 =>
  if r2 = 0 then (
  some 2)
  else (
  some 0))
/- setWeight(II)I -/
def M_setWeight (F : Nat) (σ : MS) (x1 : Int32) (x2 : Int32) : Option (Int32 × MS) :=
  (M_needSet σ x1 x2) >>= fun r1 =>
  (M_refused σ r1) >>= fun r2 =>
  if r2.1 = 0 then (
  (rdI (mA r2.2 0) 73 (1 + x1)) >>= fun y3 =>
  (M_saves F r2.2) >>= fun r4 =>
  (stA r4 0 73 (1 + x1) x2) >>= fun σ5 =>
  some (y3, σ5))
  else (
  some (0, r2.2))
/- setTrend(II)I -/
def M_setTrend (F : Nat) (σ : MS) (x1 : Int32) (x2 : Int32) : Option (Int32 × MS) :=
  (M_needSet σ x1 x2) >>= fun r1 =>
  (M_refused σ r1) >>= fun r2 =>
  if r2.1 = 0 then (
  (rdI (mA r2.2 0) 73 (9 + x1)) >>= fun y3 =>
  (M_saves F r2.2) >>= fun r4 =>
  (stA r4 0 73 (9 + x1) x2) >>= fun σ5 =>
  some (y3, σ5))
  else (
  some (0, r2.2))
/- forbids(III)I -/
def M_forbids (σ : MS) (x1 : Int32) (x2 : Int32) (x3 : Int32) : Option (Int32 × MS) :=
  (M_stretchMany σ) >>= fun r1 =>
  (stA σ 0 73 (55 + (3 * r1)) x1) >>= fun σ2 =>
  (stA σ2 0 73 ((55 + (3 * r1)) + 1) x2) >>= fun σ3 =>
  (stA σ3 0 73 ((55 + (3 * r1)) + 2) x3) >>= fun σ4 =>
  (rdI (mA σ4 0) 73 54) >>= fun y5 =>
  (stA σ4 0 73 54 (y5 + 1)) >>= fun σ6 =>
  some (r1, σ6)
/- needForbid(III)I -/
def M_needForbid (σ : MS) (x1 : Int32) (x2 : Int32) (x3 : Int32) : Option Int32 :=
  (M_isEdge σ x1) >>= fun r1 =>
  if r1 = 0 then (
  some 1)
  else (
  if x2 < 0 then (
  some 2)
  else (
  if x3 ≤ x2 then (
  some 2)
  else (
  (M_of σ x1 2) >>= fun r2 =>
  if x3 ≤ r2 then (
  (M_stretchMany σ) >>= fun r3 =>
  if r3 = 6 then (
  some 3)
  else (
  some 0))
  else (
  some 2))))
/- forbid(III)I -/
def M_forbid (F : Nat) (σ : MS) (x1 : Int32) (x2 : Int32) (x3 : Int32) : Option (Int32 × MS) :=
  (M_needForbid σ x1 x2 x3) >>= fun r1 =>
  (M_refused σ r1) >>= fun r2 =>
  if r2.1 = 0 then (
  (M_saves F r2.2) >>= fun r3 =>
  (M_forbids r3 x1 x2 x3) >>= fun r4 =>
  some (r4.1, r4.2))
  else (
  some (0, r2.2))
/- allow(I)I -/
def M_allow_20 (F : Nat) (x1 : Int32) (s1 : Int32) (σ : MS) : Option (Int32 × MS) :=
  (M_refused σ s1) >>= fun r3 =>
  if r3.1 = 0 then (
  (M_at r3.2 x1 0) >>= fun r4 =>
  (M_saves F r3.2) >>= fun r5 =>
  (M_dropsStretch F r5 x1) >>= fun r6 =>
  some (r4, r6))
  else (
  some (0, r3.2))
def M_allow (F : Nat) (σ : MS) (x1 : Int32) : Option (Int32 × MS) :=
  (M_stretchMany σ) >>= fun r1 =>
  (M_within x1 0 (r1 - 1)) >>= fun r2 =>
  if r2 = 0 then (
  M_allow_20 F x1 1 σ)
  else (
  M_allow_20 F x1 0 σ)
/- lays()V -/
def M_lays_26 (F : Nat) (k2 : Int32 → MS → Option MS) (x1 : Int32) (s1 : Int32) (s2 : Int32) (σ : MS) : Option MS :=
  (stA σ 4 64 s1 s2) >>= fun σ1 =>
  (some (x1 + 1)) >>= fun y2 =>
  k2 y2 σ1
def M_lays_200 (F : Nat) (k105 : Int32 → MS → Option MS) (k115 : Int32 → MS → Option MS) (k125 : Int32 → MS → Option MS) (x1 : Int32) (x2 : Int32) (x3 : Int32) (s1 : Int32) (s2 : Int32) (σ : MS) : Option MS :=
  (stA σ 4 64 s1 s2) >>= fun σ23 =>
  (some (x3 + 1)) >>= fun y24 =>
  k125 y24 σ23
def M_lays_207 (F : Nat) (k105 : Int32 → MS → Option MS) (k115 : Int32 → MS → Option MS) (x1 : Int32) (x2 : Int32) (σ : MS) : Option MS :=
  (some (x2 + 1)) >>= fun y22 =>
  k115 y22 σ
def M_lays_125 (F : Nat) (k105 : Int32 → MS → Option MS) (k115 : Int32 → MS → Option MS) (x1 : Int32) (x2 : Int32) : Nat → Int32 → MS → Option MS
  | 0, _, _ => none
  | n + 1, x3, σ =>
    (M_many σ) >>= fun r16 =>
    if r16 ≤ x3 then (
    M_lays_207 F k105 k115 x1 x2 σ)
    else (
    (rdI (mA σ 4) 64 ((8 * x2) + x1)) >>= fun y17 =>
    (rdI (mA σ 4) 64 ((8 * x1) + x3)) >>= fun y18 =>
    (some (y17 + y18)) >>= fun y19 =>
    (rdI (mA σ 4) 64 ((8 * x2) + x3)) >>= fun y20 =>
    if y20 ≤ y19 then (
    (rdI (mA σ 4) 64 ((8 * x2) + x3)) >>= fun y21 =>
    M_lays_200 F k105 k115 (M_lays_125 F k105 k115 x1 x2 n) x1 x2 x3 ((8 * x2) + x3) y21 σ)
    else (
    M_lays_200 F k105 k115 (M_lays_125 F k105 k115 x1 x2 n) x1 x2 x3 ((8 * x2) + x3) y19 σ))
def M_lays_213 (F : Nat) (k105 : Int32 → MS → Option MS) (x1 : Int32) (σ : MS) : Option MS :=
  (some (x1 + 1)) >>= fun y15 =>
  k105 y15 σ
def M_lays_115 (F : Nat) (k105 : Int32 → MS → Option MS) (x1 : Int32) : Nat → Int32 → MS → Option MS
  | 0, _, _ => none
  | n + 1, x2, σ =>
    (M_many σ) >>= fun r14 =>
    if r14 ≤ x2 then (
    M_lays_213 F k105 x1 σ)
    else (
    M_lays_125 F k105 (M_lays_115 F k105 x1 n) x1 x2 F 0 σ)
def M_lays_105 (F : Nat) : Nat → Int32 → MS → Option MS
  | 0, _, _ => none
  | n + 1, x1, σ =>
    (M_many σ) >>= fun r13 =>
    if r13 ≤ x1 then (
    some σ)
    else (
    M_lays_115 F (M_lays_105 F n) x1 F 0 σ)
def M_lays_103 (F : Nat) (σ : MS) : Option MS :=
  M_lays_105 F F 0 σ
def M_lays_35 (F : Nat) : Nat → Int32 → MS → Option MS
  | 0, _, _ => none
  | n + 1, x1, σ =>
    (M_edgeMany σ) >>= fun r3 =>
    if r3 ≤ x1 then (
    M_lays_103 F σ)
    else (
    (M_of σ x1 0) >>= fun r4 =>
    (M_of σ x1 1) >>= fun r5 =>
    (M_of σ x1 2) >>= fun r6 =>
    (stA σ 4 64 ((8 * r4) + r5) r6) >>= fun σ7 =>
    (M_of σ7 x1 1) >>= fun r8 =>
    (M_of σ7 x1 0) >>= fun r9 =>
    (M_of σ7 x1 2) >>= fun r10 =>
    (stA σ7 4 64 ((8 * r8) + r9) r10) >>= fun σ11 =>
    (some (x1 + 1)) >>= fun y12 =>
    M_lays_35 F n y12 σ11)
def M_lays_33 (F : Nat) (σ : MS) : Option MS :=
  M_lays_35 F F 0 σ
def M_lays_2 (F : Nat) : Nat → Int32 → MS → Option MS
  | 0, _, _ => none
  | n + 1, x1, σ =>
    if 64 ≤ x1 then (
    M_lays_33 F σ)
    else (
    if (9 : Int32) = 0 then none else
    if x1 - x1 / 9 * 9 = 0 then (
    M_lays_26 F (M_lays_2 F n) x1 x1 0 σ)
    else (
    M_lays_26 F (M_lays_2 F n) x1 x1 100000 σ))
def M_lays (F : Nat) (σ : MS) : Option MS :=
  M_lays_2 F F 0 σ
/- isConnected()Z -/
def M_isConnected_36 (F : Nat) (k8 : Int32 → Int32 → MS → Option (Int32 × MS)) (x2 : Int32) (s0 : Int32) (σ : MS) : Option (Int32 × MS) :=
  (some (x2 + 1)) >>= fun y5 =>
  k8 s0 y5 σ
def M_isConnected_35 (F : Nat) (k8 : Int32 → Int32 → MS → Option (Int32 × MS)) (x2 : Int32) (σ : MS) : Option (Int32 × MS) :=
  M_isConnected_36 F k8 x2 0 σ
def M_isConnected_8 (F : Nat) : Nat → Int32 → Int32 → MS → Option (Int32 × MS)
  | 0, _, _, _ => none
  | n + 1, x1, x2, σ =>
    (M_many σ) >>= fun r2 =>
    if r2 ≤ x2 then (
    (zz x1) >>= fun b3 => some (b3, σ))
    else (
    if x1 = 0 then (
    M_isConnected_35 F (M_isConnected_8 F n) x2 σ)
    else (
    (rdI (mA σ 4) 64 x2) >>= fun y4 =>
    if 100000 ≤ y4 then (
    M_isConnected_35 F (M_isConnected_8 F n) x2 σ)
    else (
    M_isConnected_36 F (M_isConnected_8 F n) x2 1 σ)))
def M_isConnected (F : Nat) (σ : MS) : Option (Int32 × MS) :=
  (M_lays F σ) >>= fun r1 =>
  M_isConnected_8 F F 1 0 r1
/- counted(I)I -/
def M_counted (F : Nat) (σ : MS) (x1 : Int32) : Option (Int32 × MS) :=
  if x1 = 0 then (
  (M_many σ) >>= fun r1 =>
  some (r1, σ))
  else (
  if x1 = 1 then (
  (M_edgeMany σ) >>= fun r2 =>
  some (r2, σ))
  else (
  if x1 = 2 then (
  (M_stretchMany σ) >>= fun r3 =>
  some (r3, σ))
  else (
  (M_isConnected F σ) >>= fun r4 =>
  if r4.1 = 0 then (
  some (0, r4.2))
  else (
  some (1, r4.2)))))
/- count(I)I -/
def M_count_15 (F : Nat) (x1 : Int32) (s1 : Int32) (σ : MS) : Option (Int32 × MS) :=
  (M_refused σ s1) >>= fun r2 =>
  if r2.1 = 0 then (
  (M_counted F r2.2 x1) >>= fun r3 =>
  some (r3.1, r3.2))
  else (
  some (0, r2.2))
def M_count (F : Nat) (σ : MS) (x1 : Int32) : Option (Int32 × MS) :=
  (M_within x1 0 3) >>= fun r1 =>
  if r1 = 0 then (
  M_count_15 F x1 1 σ)
  else (
  M_count_15 F x1 0 σ)
/- edge(II)I -/
def M_edge_27 (x1 : Int32) (x2 : Int32) (s1 : Int32) (σ : MS) : Option (Int32 × MS) :=
  (M_refused σ s1) >>= fun r3 =>
  if r3.1 = 0 then (
  (M_of r3.2 x1 x2) >>= fun r4 =>
  some (r4, r3.2))
  else (
  some (0, r3.2))
def M_edge (σ : MS) (x1 : Int32) (x2 : Int32) : Option (Int32 × MS) :=
  (M_isEdge σ x1) >>= fun r1 =>
  if r1 = 0 then (
  M_edge_27 x1 x2 1 σ)
  else (
  (M_within x2 0 2) >>= fun r2 =>
  if r2 = 0 then (
  M_edge_27 x1 x2 2 σ)
  else (
  M_edge_27 x1 x2 0 σ))
/- nodeTold(II)I -/
def M_nodeTold_42 (F : Nat) (k5 : Int32 → Int32 → Option Int32) (σ : MS) (x1 : Int32) (x2 : Int32) (x4 : Int32) (s0 : Int32) (s1 : Int32) : Option Int32 :=
  (some (s0 + s1)) >>= fun y6 =>
  (some (x4 + 1)) >>= fun y7 =>
  k5 y6 y7
def M_nodeTold_37 (F : Nat) (k5 : Int32 → Int32 → Option Int32) (σ : MS) (x1 : Int32) (x2 : Int32) (x4 : Int32) (s0 : Int32) : Option Int32 :=
  M_nodeTold_42 F k5 σ x1 x2 x4 s0 1
def M_nodeTold_50 (F : Nat) (σ : MS) (x1 : Int32) (x2 : Int32) (x3 : Int32) : Option Int32 :=
  if x2 = 0 then (
  (rdI (mA σ 0) 73 (1 + x1)) >>= fun y4 =>
  some y4)
  else (
  if x2 = 1 then (
  (rdI (mA σ 0) 73 (9 + x1)) >>= fun y5 =>
  some y5)
  else (
  some x3))
def M_nodeTold_5 (F : Nat) (σ : MS) (x1 : Int32) (x2 : Int32) : Nat → Int32 → Int32 → Option Int32
  | 0, _, _ => none
  | n + 1, x3, x4 =>
    (M_edgeMany σ) >>= fun r1 =>
    if r1 ≤ x4 then (
    M_nodeTold_50 F σ x1 x2 x3)
    else (
    (M_of σ x4 0) >>= fun r2 =>
    if r2 = x1 then (
    M_nodeTold_37 F (M_nodeTold_5 F σ x1 x2 n) σ x1 x2 x4 x3)
    else (
    (M_of σ x4 1) >>= fun r3 =>
    if r3 = x1 then (
    M_nodeTold_37 F (M_nodeTold_5 F σ x1 x2 n) σ x1 x2 x4 x3)
    else (
    M_nodeTold_42 F (M_nodeTold_5 F σ x1 x2 n) σ x1 x2 x4 x3 0)))
def M_nodeTold (F : Nat) (σ : MS) (x1 : Int32) (x2 : Int32) : Option Int32 :=
  M_nodeTold_5 F σ x1 x2 F 0 0
/- node(II)I -/
def M_node_27 (F : Nat) (x1 : Int32) (x2 : Int32) (s1 : Int32) (σ : MS) : Option (Int32 × MS) :=
  (M_refused σ s1) >>= fun r3 =>
  if r3.1 = 0 then (
  (M_nodeTold F r3.2 x1 x2) >>= fun r4 =>
  some (r4, r3.2))
  else (
  some (0, r3.2))
def M_node (F : Nat) (σ : MS) (x1 : Int32) (x2 : Int32) : Option (Int32 × MS) :=
  (M_isNode σ x1) >>= fun r1 =>
  if r1 = 0 then (
  M_node_27 F x1 x2 1 σ)
  else (
  (M_within x2 0 2) >>= fun r2 =>
  if r2 = 0 then (
  M_node_27 F x1 x2 2 σ)
  else (
  M_node_27 F x1 x2 0 σ))
/- stretch(II)I -/
def M_stretch_33 (x1 : Int32) (x2 : Int32) (s1 : Int32) (σ : MS) : Option (Int32 × MS) :=
  (M_refused σ s1) >>= fun r4 =>
  if r4.1 = 0 then (
  (M_at r4.2 x1 x2) >>= fun r5 =>
  some (r5, r4.2))
  else (
  some (0, r4.2))
def M_stretch (σ : MS) (x1 : Int32) (x2 : Int32) : Option (Int32 × MS) :=
  (M_stretchMany σ) >>= fun r1 =>
  (M_within x1 0 (r1 - 1)) >>= fun r2 =>
  if r2 = 0 then (
  M_stretch_33 x1 x2 1 σ)
  else (
  (M_within x2 0 2) >>= fun r3 =>
  if r3 = 0 then (
  M_stretch_33 x1 x2 2 σ)
  else (
  M_stretch_33 x1 x2 0 σ))
/- areNodes(II)Z -/
def M_areNodes (σ : MS) (x1 : Int32) (x2 : Int32) : Option Int32 :=
  (M_isNode σ x1) >>= fun r1 =>
  if r1 = 0 then (
  some 0)
  else (
  (M_isNode σ x2) >>= fun r2 =>
  if r2 = 0 then (
  some 0)
  else (
  some 1))
/- distance(II)I -/
def M_distance_15 (F : Nat) (x1 : Int32) (x2 : Int32) (s1 : Int32) (σ : MS) : Option (Int32 × MS) :=
  (M_refused σ s1) >>= fun r2 =>
  if r2.1 = 0 then (
  (M_lays F r2.2) >>= fun r3 =>
  (rdI (mA r3 4) 64 ((8 * x1) + x2)) >>= fun y4 =>
  if 100000 ≤ y4 then (
  some ((-1), r3))
  else (
  (rdI (mA r3 4) 64 ((8 * x1) + x2)) >>= fun y5 =>
  some (y5, r3)))
  else (
  some (0, r2.2))
def M_distance (F : Nat) (σ : MS) (x1 : Int32) (x2 : Int32) : Option (Int32 × MS) :=
  (M_areNodes σ x1 x2) >>= fun r1 =>
  if r1 = 0 then (
  M_distance_15 F x1 x2 1 σ)
  else (
  M_distance_15 F x1 x2 0 σ)
/- next(II)I -/
def M_next_161 (F : Nat) (k32 : Int32 → Int32 → MS → Option (Int32 × MS)) (x1 : Int32) (x2 : Int32) (x3 : Int32) (x4 : Int32) (σ : MS) : Option (Int32 × MS) :=
  (some (x4 + 1)) >>= fun y13 =>
  k32 x3 y13 σ
def M_next_158 (F : Nat) (k32 : Int32 → Int32 → MS → Option (Int32 × MS)) (x1 : Int32) (x2 : Int32) (x4 : Int32) (x5 : Int32) (σ : MS) : Option (Int32 × MS) :=
  M_next_161 F k32 x1 x2 x5 x4 σ
def M_next_105 (F : Nat) (k32 : Int32 → Int32 → MS → Option (Int32 × MS)) (x1 : Int32) (x2 : Int32) (x3 : Int32) (x4 : Int32) (s0 : Int32) (σ : MS) : Option (Int32 × MS) :=
  if s0 = (-1) then (
  M_next_161 F k32 x1 x2 x3 x4 σ)
  else (
  (M_of σ x4 2) >>= fun r10 =>
  (rdI (mA σ 4) 64 ((8 * s0) + x2)) >>= fun y11 =>
  (rdI (mA σ 4) 64 ((8 * x1) + x2)) >>= fun y12 =>
  if r10 + y11 = y12 then (
  if x3 = (-1) then (
  M_next_158 F k32 x1 x2 x4 s0 σ)
  else (
  if x3 ≤ s0 then (
  M_next_161 F k32 x1 x2 x3 x4 σ)
  else (
  M_next_158 F k32 x1 x2 x4 s0 σ)))
  else (
  M_next_161 F k32 x1 x2 x3 x4 σ))
def M_next_32 (F : Nat) (x1 : Int32) (x2 : Int32) : Nat → Int32 → Int32 → MS → Option (Int32 × MS)
  | 0, _, _, _ => none
  | n + 1, x3, x4, σ =>
    (M_edgeMany σ) >>= fun r4 =>
    if r4 ≤ x4 then (
    some (x3, σ))
    else (
    if x1 = x2 then (
    some (x3, σ))
    else (
    (rdI (mA σ 4) 64 ((8 * x1) + x2)) >>= fun y5 =>
    if 100000 ≤ y5 then (
    some (x3, σ))
    else (
    (M_of σ x4 0) >>= fun r6 =>
    if r6 = x1 then (
    (M_of σ x4 1) >>= fun r7 =>
    M_next_105 F (M_next_32 F x1 x2 n) x1 x2 x3 x4 r7 σ)
    else (
    (M_of σ x4 1) >>= fun r8 =>
    if r8 = x1 then (
    (M_of σ x4 0) >>= fun r9 =>
    M_next_105 F (M_next_32 F x1 x2 n) x1 x2 x3 x4 r9 σ)
    else (
    M_next_105 F (M_next_32 F x1 x2 n) x1 x2 x3 x4 (-1) σ)))))
def M_next_15 (F : Nat) (x1 : Int32) (x2 : Int32) (s1 : Int32) (σ : MS) : Option (Int32 × MS) :=
  (M_refused σ s1) >>= fun r2 =>
  if r2.1 = 0 then (
  (M_lays F r2.2) >>= fun r3 =>
  M_next_32 F x1 x2 F (-1) 0 r3)
  else (
  some (0, r2.2))
def M_next (F : Nat) (σ : MS) (x1 : Int32) (x2 : Int32) : Option (Int32 × MS) :=
  (M_areNodes σ x1 x2) >>= fun r1 =>
  if r1 = 0 then (
  M_next_15 F x1 x2 1 σ)
  else (
  M_next_15 F x1 x2 0 σ)
/- diameter()I -/
def M_diameter_66 (F : Nat) (k18 : Int32 → Int32 → MS → Option (Int32 × MS)) (k28 : Int32 → Int32 → MS → Option (Int32 × MS)) (x2 : Int32) (x3 : Int32) (s0 : Int32) (σ : MS) : Option (Int32 × MS) :=
  (some (x3 + 1)) >>= fun y8 =>
  k28 s0 y8 σ
def M_diameter_73 (F : Nat) (k18 : Int32 → Int32 → MS → Option (Int32 × MS)) (x1 : Int32) (x2 : Int32) (σ : MS) : Option (Int32 × MS) :=
  (some (x2 + 1)) >>= fun y7 =>
  k18 x1 y7 σ
def M_diameter_28 (F : Nat) (k18 : Int32 → Int32 → MS → Option (Int32 × MS)) (x2 : Int32) : Nat → Int32 → Int32 → MS → Option (Int32 × MS)
  | 0, _, _, _ => none
  | n + 1, x1, x3, σ =>
    (M_many σ) >>= fun r4 =>
    if r4 ≤ x3 then (
    M_diameter_73 F k18 x1 x2 σ)
    else (
    (rdI (mA σ 4) 64 ((8 * x2) + x3)) >>= fun y5 =>
    if y5 ≤ x1 then (
    M_diameter_66 F k18 (M_diameter_28 F k18 x2 n) x2 x3 x1 σ)
    else (
    (rdI (mA σ 4) 64 ((8 * x2) + x3)) >>= fun y6 =>
    M_diameter_66 F k18 (M_diameter_28 F k18 x2 n) x2 x3 y6 σ))
def M_diameter_18 (F : Nat) : Nat → Int32 → Int32 → MS → Option (Int32 × MS)
  | 0, _, _, _ => none
  | n + 1, x1, x2, σ =>
    (M_many σ) >>= fun r3 =>
    if r3 ≤ x2 then (
    some (x1, σ))
    else (
    M_diameter_28 F (M_diameter_18 F n) x2 F x1 0 σ)
def M_diameter (F : Nat) (σ : MS) : Option (Int32 × MS) :=
  (some (sI σ 1 0)) >>= fun σ1 =>
  (M_isConnected F σ1) >>= fun r2 =>
  if r2.1 = 0 then (
  some ((-1), r2.2))
  else (
  M_diameter_18 F F 0 0 r2.2)
/- falling(IIJJ)J -/
def M_falling (σ : MS) (x1 : Int32) (x2 : Int32) (x3 : Int64) (x5 : Int64) : Option Int64 :=
  (M_of σ x2 1) >>= fun r1 =>
  (rdI (mA σ 4) 64 ((8 * x1) + r1)) >>= fun y2 =>
  (M_of σ x2 2) >>= fun r3 =>
  some ((x5 * ((y2 + r3).toInt64)) - x3)
/- rising(IIJJ)J -/
def M_rising (σ : MS) (x1 : Int32) (x2 : Int32) (x3 : Int64) (x5 : Int64) : Option Int64 :=
  (M_of σ x2 0) >>= fun r1 =>
  (rdI (mA σ 4) 64 ((8 * x1) + r1)) >>= fun y2 =>
  some ((x5 * (y2.toInt64)) + x3)
/- away(IIJJ)J -/
def M_away (σ : MS) (x1 : Int32) (x2 : Int32) (x3 : Int64) (x5 : Int64) : Option Int64 :=
  (M_rising σ x1 x2 x3 x5) >>= fun r1 =>
  (M_falling σ x1 x2 x3 x5) >>= fun r2 =>
  if r2 ≤ r1 then (
  some r2)
  else (
  some r1)
/- isPoint(III)Z -/
def M_isPoint (σ : MS) (x1 : Int32) (x2 : Int32) (x3 : Int32) : Option Int32 :=
  (M_within x3 1 1000) >>= fun r1 =>
  if r1 = 0 then (
  some 0)
  else (
  if x2 < 0 then (
  some 0)
  else (
  (M_of σ x1 2) >>= fun r2 =>
  if (x3.toInt64) * (r2.toInt64) < x2.toInt64 then (
  some 0)
  else (
  some 1)))
/- divisor(JJ)J -/
def M_divisor_6 (F : Nat) : Nat → Int64 → Int64 → Option Int64
  | 0, _, _ => none
  | n + 1, x4, x6 =>
    if x6 = 0 then (
    some x4)
    else (
    if (x6 : Int64) = 0 then none else
    (some (x4 - x4 / x6 * x6)) >>= fun y1 =>
    M_divisor_6 F n x6 y1)
def M_divisor (F : Nat) (x0 : Int64) (x2 : Int64) : Option Int64 :=
  M_divisor_6 F F x0 x2
/- reduced(JJI)I -/
def M_reduced_17 (F : Nat) (x5 : Int64) (s0 : Int64) : Option Int32 :=
  if (x5 : Int64) = 0 then none else
  some ((s0 / x5).toInt32)
def M_reduced (F : Nat) (x0 : Int64) (x2 : Int64) (x4 : Int32) : Option Int32 :=
  (M_divisor F x0 x2) >>= fun r1 =>
  if x4 = 0 then (
  M_reduced_17 F r1 x0)
  else (
  M_reduced_17 F r1 x2)
/- distanceTo(IIIII)I -/
def M_distanceTo_105 (F : Nat) (x1 : Int32) (x2 : Int32) (x3 : Int32) (x4 : Int32) (x5 : Int32) (s1 : Int32) (σ : MS) : Option (Int32 × MS) :=
  (M_refused σ s1) >>= fun r8 =>
  if r8.1 = 0 then (
  (M_away r8.2 x1 x2 (x3.toInt64) (x4.toInt64)) >>= fun r9 =>
  (M_reduced F r9 (x4.toInt64) x5) >>= fun r10 =>
  some (r10, r8.2))
  else (
  some (0, r8.2))
def M_distanceTo_54 (F : Nat) (x1 : Int32) (x2 : Int32) (x3 : Int32) (x4 : Int32) (x5 : Int32) (x6 : Int32) (s0 : Int32) (σ : MS) : Option (Int32 × MS) :=
  (M_lays F σ) >>= fun r5 =>
  if x6 = 0 then (
  M_distanceTo_105 F x1 x2 x3 x4 x5 1 r5)
  else (
  if s0 = 0 then (
  M_distanceTo_105 F x1 x2 x3 x4 x5 2 r5)
  else (
  (M_of r5 x2 0) >>= fun r6 =>
  (rdI (mA r5 4) 64 ((8 * x1) + r6)) >>= fun y7 =>
  if y7 < 100000 then (
  M_distanceTo_105 F x1 x2 x3 x4 x5 0 r5)
  else (
  M_distanceTo_105 F x1 x2 x3 x4 x5 3 r5)))
def M_distanceTo_53 (F : Nat) (x1 : Int32) (x2 : Int32) (x3 : Int32) (x4 : Int32) (x5 : Int32) (x6 : Int32) (σ : MS) : Option (Int32 × MS) :=
  M_distanceTo_54 F x1 x2 x3 x4 x5 x6 0 σ
def M_distanceTo_21 (F : Nat) (x1 : Int32) (x2 : Int32) (x3 : Int32) (x4 : Int32) (x5 : Int32) (s0 : Int32) (σ : MS) : Option (Int32 × MS) :=
  if s0 = 0 then (
  M_distanceTo_53 F x1 x2 x3 x4 x5 s0 σ)
  else (
  (M_isPoint σ x2 x3 x4) >>= fun r3 =>
  if r3 = 0 then (
  M_distanceTo_53 F x1 x2 x3 x4 x5 s0 σ)
  else (
  (M_within x5 0 1) >>= fun r4 =>
  if r4 = 0 then (
  M_distanceTo_53 F x1 x2 x3 x4 x5 s0 σ)
  else (
  M_distanceTo_54 F x1 x2 x3 x4 x5 s0 1 σ)))
def M_distanceTo_20 (F : Nat) (x1 : Int32) (x2 : Int32) (x3 : Int32) (x4 : Int32) (x5 : Int32) (σ : MS) : Option (Int32 × MS) :=
  M_distanceTo_21 F x1 x2 x3 x4 x5 0 σ
def M_distanceTo (F : Nat) (σ : MS) (x1 : Int32) (x2 : Int32) (x3 : Int32) (x4 : Int32) (x5 : Int32) : Option (Int32 × MS) :=
  (M_isNode σ x1) >>= fun r1 =>
  if r1 = 0 then (
  M_distanceTo_20 F x1 x2 x3 x4 x5 σ)
  else (
  (M_isEdge σ x2) >>= fun r2 =>
  if r2 = 0 then (
  M_distanceTo_20 F x1 x2 x3 x4 x5 σ)
  else (
  M_distanceTo_21 F x1 x2 x3 x4 x5 1 σ))
/- mayLie(IJJ)Z -/
def M_mayLie_68 (F : Nat) (k6 : Int32 → Int32 → Option Int32) (σ : MS) (x1 : Int32) (x2 : Int64) (x4 : Int64) (x7 : Int32) (s0 : Int32) : Option Int32 :=
  (some (x7 + 1)) >>= fun y6 =>
  k6 s0 y6
def M_mayLie_63 (F : Nat) (k6 : Int32 → Int32 → Option Int32) (σ : MS) (x1 : Int32) (x2 : Int64) (x4 : Int64) (x7 : Int32) : Option Int32 :=
  M_mayLie_68 F k6 σ x1 x2 x4 x7 1
def M_mayLie_67 (F : Nat) (k6 : Int32 → Int32 → Option Int32) (σ : MS) (x1 : Int32) (x2 : Int64) (x4 : Int64) (x7 : Int32) : Option Int32 :=
  M_mayLie_68 F k6 σ x1 x2 x4 x7 0
def M_mayLie_6 (F : Nat) (σ : MS) (x1 : Int32) (x2 : Int64) (x4 : Int64) : Nat → Int32 → Int32 → Option Int32
  | 0, _, _ => none
  | n + 1, x6, x7 =>
    (M_stretchMany σ) >>= fun r1 =>
    if r1 ≤ x7 then (
    (zz x6) >>= fun b2 => some b2)
    else (
    if x6 = 0 then (
    M_mayLie_67 F (M_mayLie_6 F σ x1 x2 x4 n) σ x1 x2 x4 x7)
    else (
    (M_at σ x7 0) >>= fun r3 =>
    if r3 = x1 then (
    (M_at σ x7 1) >>= fun r4 =>
    if x2 ≤ x4 * (r4.toInt64) then (
    M_mayLie_63 F (M_mayLie_6 F σ x1 x2 x4 n) σ x1 x2 x4 x7)
    else (
    (M_at σ x7 2) >>= fun r5 =>
    if x2 < x4 * (r5.toInt64) then (
    M_mayLie_67 F (M_mayLie_6 F σ x1 x2 x4 n) σ x1 x2 x4 x7)
    else (
    M_mayLie_63 F (M_mayLie_6 F σ x1 x2 x4 n) σ x1 x2 x4 x7)))
    else (
    M_mayLie_63 F (M_mayLie_6 F σ x1 x2 x4 n) σ x1 x2 x4 x7)))
def M_mayLie (F : Nat) (σ : MS) (x1 : Int32) (x2 : Int64) (x4 : Int64) : Option Int32 :=
  M_mayLie_6 F σ x1 x2 x4 F 1 0
/- isAllowed(III)Z -/
def M_isAllowed_28 (F : Nat) (x1 : Int32) (x2 : Int32) (x3 : Int32) (s1 : Int32) (σ : MS) : Option (Int32 × MS) :=
  (M_refused σ s1) >>= fun r3 =>
  if r3.1 = 0 then (
  (M_mayLie F r3.2 x1 (x2.toInt64) (x3.toInt64)) >>= fun r4 =>
  if r4 = 0 then (
  some (0, r3.2))
  else (
  some (1, r3.2)))
  else (
  some (0, r3.2))
def M_isAllowed (F : Nat) (σ : MS) (x1 : Int32) (x2 : Int32) (x3 : Int32) : Option (Int32 × MS) :=
  (M_isEdge σ x1) >>= fun r1 =>
  if r1 = 0 then (
  M_isAllowed_28 F x1 x2 x3 1 σ)
  else (
  (M_isPoint σ x1 x2 x3) >>= fun r2 =>
  if r2 = 0 then (
  M_isAllowed_28 F x1 x2 x3 2 σ)
  else (
  M_isAllowed_28 F x1 x2 x3 0 σ))
/- has(II)Z -/
def M_has (x0 : Int32) (x1 : Int32) : Option Int32 :=
  if (x0 >>> (x1 &&& 31)) &&& 1 = 1 then (
  some 1)
  else (
  some 0)
/- heightAt(IIJJ)J -/
def M_heightAt_64 (F : Nat) (k6 : Int64 → Int32 → Option Int64) (σ : MS) (x1 : Int32) (x2 : Int32) (x3 : Int64) (x5 : Int64) (x9 : Int32) (s0 : Int64) : Option Int64 :=
  (some (x9 + 1)) >>= fun y5 =>
  k6 s0 y5
def M_heightAt_47 (F : Nat) (k6 : Int64 → Int32 → Option Int64) (σ : MS) (x1 : Int32) (x2 : Int32) (x3 : Int64) (x5 : Int64) (x7 : Int64) (x9 : Int32) (s0 : Int64) : Option Int64 :=
  if s0 ≤ x7 then (
  M_heightAt_64 F k6 σ x1 x2 x3 x5 x9 x7)
  else (
  M_heightAt_64 F k6 σ x1 x2 x3 x5 x9 s0)
def M_heightAt_6 (F : Nat) (σ : MS) (x1 : Int32) (x2 : Int32) (x3 : Int64) (x5 : Int64) : Nat → Int64 → Int32 → Option Int64
  | 0, _, _ => none
  | n + 1, x7, x9 =>
    (M_many σ) >>= fun r1 =>
    if r1 ≤ x9 then (
    some x7)
    else (
    (M_has x1 x9) >>= fun r2 =>
    if r2 = 0 then (
    M_heightAt_47 F (M_heightAt_6 F σ x1 x2 x3 x5 n) σ x1 x2 x3 x5 x7 x9 0)
    else (
    (rdI (mA σ 5) 8 x9) >>= fun y3 =>
    (M_away σ x9 x2 x3 x5) >>= fun r4 =>
    M_heightAt_47 F (M_heightAt_6 F σ x1 x2 x3 x5 n) σ x1 x2 x3 x5 x7 x9 ((y3.toInt64) * r4)))
def M_heightAt (F : Nat) (σ : MS) (x1 : Int32) (x2 : Int32) (x3 : Int64) (x5 : Int64) : Option Int64 :=
  M_heightAt_6 F σ x1 x2 x3 x5 F 0 0
/- isSet(I)Z -/
def M_isSet (σ : MS) (x1 : Int32) : Option Int32 :=
  if x1 < 0 then (
  some 0)
  else (
  (M_many σ) >>= fun r1 =>
  if x1 >>> (r1 &&& 31) = 0 then (
  some 1)
  else (
  some 0))
/- weighs(I)V -/
def M_weighs_2 (F : Nat) (x1 : Int32) : Nat → Int32 → MS → Option MS
  | 0, _, _ => none
  | n + 1, x2, σ =>
    if 8 ≤ x2 then (
    some σ)
    else (
    (rdI (mA σ 0) 73 (1 + x2)) >>= fun y1 =>
    (rdI (mA σ 0) 73 (9 + x2)) >>= fun y2 =>
    (stA σ 5 8 x2 (y1 + (x1 * y2))) >>= fun σ3 =>
    (some (x2 + 1)) >>= fun y4 =>
    M_weighs_2 F x1 n y4 σ3)
def M_weighs (F : Nat) (σ : MS) (x1 : Int32) : Option MS :=
  M_weighs_2 F x1 F 0 σ
/- height(IIIII)I -/
def M_height_78 (F : Nat) (x1 : Int32) (x2 : Int32) (x3 : Int32) (x4 : Int32) (x5 : Int32) (s1 : Int32) (σ : MS) : Option (Int32 × MS) :=
  (M_refused σ s1) >>= fun r7 =>
  if r7.1 = 0 then (
  (M_weighs F r7.2 0) >>= fun r8 =>
  (M_heightAt F r8 x1 x2 (x3.toInt64) (x4.toInt64)) >>= fun r9 =>
  (M_reduced F r9 (x4.toInt64) x5) >>= fun r10 =>
  some (r10, r8))
  else (
  some (0, r7.2))
def M_height_42 (F : Nat) (x1 : Int32) (x2 : Int32) (x3 : Int32) (x4 : Int32) (x5 : Int32) (s0 : Int32) (σ : MS) : Option (Int32 × MS) :=
  (M_isEdge σ x2) >>= fun r5 =>
  if r5 = 0 then (
  M_height_78 F x1 x2 x3 x4 x5 1 σ)
  else (
  if s0 = 0 then (
  M_height_78 F x1 x2 x3 x4 x5 2 σ)
  else (
  (M_isConnected F σ) >>= fun r6 =>
  if r6.1 = 0 then (
  M_height_78 F x1 x2 x3 x4 x5 3 r6.2)
  else (
  M_height_78 F x1 x2 x3 x4 x5 0 r6.2)))
def M_height_41 (F : Nat) (x1 : Int32) (x2 : Int32) (x3 : Int32) (x4 : Int32) (x5 : Int32) (σ : MS) : Option (Int32 × MS) :=
  M_height_42 F x1 x2 x3 x4 x5 0 σ
def M_height (F : Nat) (σ : MS) (x1 : Int32) (x2 : Int32) (x3 : Int32) (x4 : Int32) (x5 : Int32) : Option (Int32 × MS) :=
  (M_isEdge σ x2) >>= fun r1 =>
  if r1 = 0 then (
  M_height_41 F x1 x2 x3 x4 x5 σ)
  else (
  (M_isSet σ x1) >>= fun r2 =>
  if r2 = 0 then (
  M_height_41 F x1 x2 x3 x4 x5 σ)
  else (
  (M_isPoint σ x2 x3 x4) >>= fun r3 =>
  if r3 = 0 then (
  M_height_41 F x1 x2 x3 x4 x5 σ)
  else (
  (M_within x5 0 1) >>= fun r4 =>
  if r4 = 0 then (
  M_height_41 F x1 x2 x3 x4 x5 σ)
  else (
  M_height_42 F x1 x2 x3 x4 x5 1 σ))))
/- costAt(IJJ)J -/
def M_costAt_6 (F : Nat) (σ : MS) (x1 : Int32) (x2 : Int64) (x4 : Int64) : Nat → Int64 → Int32 → Option Int64
  | 0, _, _ => none
  | n + 1, x6, x8 =>
    (M_many σ) >>= fun r1 =>
    if r1 ≤ x8 then (
    some x6)
    else (
    (rdI (mA σ 5) 8 x8) >>= fun y2 =>
    (M_away σ x8 x1 x2 x4) >>= fun r3 =>
    (some (x6 + ((y2.toInt64) * r3))) >>= fun y4 =>
    (some (x8 + 1)) >>= fun y5 =>
    M_costAt_6 F σ x1 x2 x4 n y4 y5)
def M_costAt (F : Nat) (σ : MS) (x1 : Int32) (x2 : Int64) (x4 : Int64) : Option Int64 :=
  M_costAt_6 F σ x1 x2 x4 F 0 0
/- cost(IIII)I -/
def M_cost_69 (F : Nat) (x1 : Int32) (x2 : Int32) (x3 : Int32) (x4 : Int32) (s1 : Int32) (σ : MS) : Option (Int32 × MS) :=
  (M_refused σ s1) >>= fun r6 =>
  if r6.1 = 0 then (
  (M_weighs F r6.2 0) >>= fun r7 =>
  (M_costAt F r7 x1 (x2.toInt64) (x3.toInt64)) >>= fun r8 =>
  (M_reduced F r8 (x3.toInt64) x4) >>= fun r9 =>
  some (r9, r7))
  else (
  some (0, r6.2))
def M_cost_33 (F : Nat) (x1 : Int32) (x2 : Int32) (x3 : Int32) (x4 : Int32) (s0 : Int32) (σ : MS) : Option (Int32 × MS) :=
  (M_isEdge σ x1) >>= fun r4 =>
  if r4 = 0 then (
  M_cost_69 F x1 x2 x3 x4 1 σ)
  else (
  if s0 = 0 then (
  M_cost_69 F x1 x2 x3 x4 2 σ)
  else (
  (M_isConnected F σ) >>= fun r5 =>
  if r5.1 = 0 then (
  M_cost_69 F x1 x2 x3 x4 3 r5.2)
  else (
  M_cost_69 F x1 x2 x3 x4 0 r5.2)))
def M_cost_32 (F : Nat) (x1 : Int32) (x2 : Int32) (x3 : Int32) (x4 : Int32) (σ : MS) : Option (Int32 × MS) :=
  M_cost_33 F x1 x2 x3 x4 0 σ
def M_cost (F : Nat) (σ : MS) (x1 : Int32) (x2 : Int32) (x3 : Int32) (x4 : Int32) : Option (Int32 × MS) :=
  (M_isEdge σ x1) >>= fun r1 =>
  if r1 = 0 then (
  M_cost_32 F x1 x2 x3 x4 σ)
  else (
  (M_isPoint σ x1 x2 x3) >>= fun r2 =>
  if r2 = 0 then (
  M_cost_32 F x1 x2 x3 x4 σ)
  else (
  (M_within x4 0 1) >>= fun r3 =>
  if r3 = 0 then (
  M_cost_32 F x1 x2 x3 x4 σ)
  else (
  M_cost_33 F x1 x2 x3 x4 1 σ)))
/- crosses(IJJ)V -/
def M_crosses_14 (x1 : Int32) (x2 : Int64) (x4 : Int64) (s0 : Int64) (σ : MS) : Option MS :=
  if x4 = 0 then (
  some σ)
  else (
  if s0 * x2 < 0 then (
  some σ)
  else (
  (M_of σ x1 2) >>= fun r1 =>
  if (s0 * x4) * (r1.toInt64) < s0 * x2 then (
  some σ)
  else (
  (stB σ 0 160 (mI σ 3) (s0 * x2)) >>= fun σ2 =>
  (stB σ2 1 160 (mI σ2 3) (s0 * x4)) >>= fun σ3 =>
  (some (sI σ3 3 ((mI σ3 3) + 1))) >>= fun σ4 =>
  some σ4)))
def M_crosses (σ : MS) (x1 : Int32) (x2 : Int64) (x4 : Int64) : Option MS :=
  if 0 ≤ x4 then (
  M_crosses_14 x1 x2 x4 1 σ)
  else (
  M_crosses_14 x1 x2 x4 (-1) σ)
/- line(IIIZ)J -/
def M_line (σ : MS) (x1 : Int32) (x2 : Int32) (x3 : Int32) (x4 : Int32) : Option Int64 :=
  if x4 = 0 then (
  (rdI (mA σ 5) 8 x1) >>= fun y1 =>
  if x3 = 0 then (
  (M_of σ x2 0) >>= fun r2 =>
  (rdI (mA σ 4) 64 ((8 * x1) + r2)) >>= fun y3 =>
  some ((y1.toInt64) * (y3.toInt64)))
  else (
  (M_of σ x2 1) >>= fun r4 =>
  (rdI (mA σ 4) 64 ((8 * x1) + r4)) >>= fun y5 =>
  (M_of σ x2 2) >>= fun r6 =>
  some ((y1.toInt64) * ((y5 + r6).toInt64))))
  else (
  if x3 = 0 then (
  (rdI (mA σ 5) 8 x1) >>= fun y7 =>
  some (y7.toInt64))
  else (
  (rdI (mA σ 5) 8 x1) >>= fun y8 =>
  some ((-y8).toInt64)))
/- laysCrossings(II)V -/
def M_laysCrossings_186 (F : Nat) (k27 : Int32 → MS → Option MS) (k95 : Int32 → MS → Option MS) (x1 : Int32) (x2 : Int32) (x3 : Int32) (x4 : Int32) (σ : MS) : Option MS :=
  (some (x4 + 1)) >>= fun y29 =>
  k95 y29 σ
def M_laysCrossings_104 (F : Nat) (k27 : Int32 → MS → Option MS) (k95 : Int32 → MS → Option MS) (x1 : Int32) (x2 : Int32) (x3 : Int32) (x4 : Int32) : Nat → Int32 → MS → Option MS
  | 0, _, _ => none
  | n + 1, x5, σ =>
    if 4 ≤ x5 then (
    M_laysCrossings_186 F k27 k95 x1 x2 x3 x4 σ)
    else (
    (M_has x1 x3) >>= fun r21 =>
    if r21 = 0 then (
    M_laysCrossings_186 F k27 k95 x1 x2 x3 x4 σ)
    else (
    (M_has x1 x4) >>= fun r22 =>
    if r22 = 0 then (
    M_laysCrossings_186 F k27 k95 x1 x2 x3 x4 σ)
    else (
    if (2 : Int32) = 0 then none else
    (M_line σ x4 x2 (x5 / 2) 0) >>= fun r23 =>
    if (2 : Int32) = 0 then none else
    (M_line σ x3 x2 (x5 - x5 / 2 * 2) 0) >>= fun r24 =>
    if (2 : Int32) = 0 then none else
    (M_line σ x3 x2 (x5 - x5 / 2 * 2) 1) >>= fun r25 =>
    if (2 : Int32) = 0 then none else
    (M_line σ x4 x2 (x5 / 2) 1) >>= fun r26 =>
    (M_crosses σ x2 (r23 - r24) (r25 - r26)) >>= fun r27 =>
    (some (x5 + 1)) >>= fun y28 =>
    M_laysCrossings_104 F k27 k95 x1 x2 x3 x4 n y28 r27)))
def M_laysCrossings_192 (F : Nat) (k27 : Int32 → MS → Option MS) (x1 : Int32) (x2 : Int32) (x3 : Int32) (σ : MS) : Option MS :=
  (some (x3 + 1)) >>= fun y20 =>
  k27 y20 σ
def M_laysCrossings_95 (F : Nat) (k27 : Int32 → MS → Option MS) (x1 : Int32) (x2 : Int32) (x3 : Int32) : Nat → Int32 → MS → Option MS
  | 0, _, _ => none
  | n + 1, x4, σ =>
    if x3 ≤ x4 then (
    M_laysCrossings_192 F k27 x1 x2 x3 σ)
    else (
    M_laysCrossings_104 F k27 (M_laysCrossings_95 F k27 x1 x2 x3 n) x1 x2 x3 x4 F 0 σ)
def M_laysCrossings_92 (F : Nat) (k27 : Int32 → MS → Option MS) (x1 : Int32) (x2 : Int32) (x3 : Int32) (σ : MS) : Option MS :=
  M_laysCrossings_95 F k27 x1 x2 x3 F 0 σ
def M_laysCrossings_244 (F : Nat) (k200 : Int32 → MS → Option MS) (x2 : Int32) (x3 : Int32) (σ : MS) : Option MS :=
  (some (x3 + 1)) >>= fun y19 =>
  k200 y19 σ
def M_laysCrossings_200 (F : Nat) (x2 : Int32) : Nat → Int32 → MS → Option MS
  | 0, _, _ => none
  | n + 1, x3, σ =>
    (M_stretchMany σ) >>= fun r13 =>
    if r13 ≤ x3 then (
    some σ)
    else (
    (M_at σ x3 0) >>= fun r14 =>
    if r14 = x2 then (
    (M_at σ x3 1) >>= fun r15 =>
    (M_crosses σ x2 (r15.toInt64) 1) >>= fun r16 =>
    (M_at r16 x3 2) >>= fun r17 =>
    (M_crosses r16 x2 (r17.toInt64) 1) >>= fun r18 =>
    M_laysCrossings_244 F (M_laysCrossings_200 F x2 n) x2 x3 r18)
    else (
    M_laysCrossings_244 F (M_laysCrossings_200 F x2 n) x2 x3 σ))
def M_laysCrossings_198 (F : Nat) (x2 : Int32) (σ : MS) : Option MS :=
  M_laysCrossings_200 F x2 F 0 σ
def M_laysCrossings_27 (F : Nat) (x1 : Int32) (x2 : Int32) : Nat → Int32 → MS → Option MS
  | 0, _, _ => none
  | n + 1, x3, σ =>
    (M_many σ) >>= fun r5 =>
    if r5 ≤ x3 then (
    M_laysCrossings_198 F x2 σ)
    else (
    (M_has x1 x3) >>= fun r6 =>
    if r6 = 0 then (
    M_laysCrossings_92 F (M_laysCrossings_27 F x1 x2 n) x1 x2 x3 σ)
    else (
    (M_of σ x2 1) >>= fun r7 =>
    (rdI (mA σ 4) 64 ((8 * x3) + r7)) >>= fun y8 =>
    (M_of σ x2 2) >>= fun r9 =>
    (M_of σ x2 0) >>= fun r10 =>
    (rdI (mA σ 4) 64 ((8 * x3) + r10)) >>= fun y11 =>
    (M_crosses σ x2 (((y8 + r9) - y11).toInt64) 2) >>= fun r12 =>
    M_laysCrossings_92 F (M_laysCrossings_27 F x1 x2 n) x1 x2 x3 r12))
def M_laysCrossings (F : Nat) (σ : MS) (x1 : Int32) (x2 : Int32) : Option MS :=
  (some (sI σ 3 0)) >>= fun σ1 =>
  (M_crosses σ1 x2 0 1) >>= fun r2 =>
  (M_of r2 x2 2) >>= fun r3 =>
  (M_crosses r2 x2 (r3.toInt64) 1) >>= fun r4 =>
  M_laysCrossings_27 F x1 x2 F 0 r4
/- isRight(IIZ)Z -/
def M_isRight (σ : MS) (x1 : Int32) (x2 : Int32) (x3 : Int32) : Option Int32 :=
  (rdL (mB σ 0) 160 x2) >>= fun y1 =>
  (rdL (mB σ 1) 160 x2) >>= fun y2 =>
  if x3 = 0 then (
  if y1 ≤ 0 then (
  some 0)
  else (
  some 1))
  else (
  (M_of σ x1 2) >>= fun r3 =>
  if y2 * (r3.toInt64) ≤ y1 then (
  some 0)
  else (
  some 1))
/- slopeAt(IJJZ)J -/
def M_slopeAt_189 (F : Nat) (k27 : Int64 → Int32 → Int32 → Option Int64) (σ : MS) (x1 : Int32) (x2 : Int64) (x4 : Int64) (x6 : Int32) (x7 : Int64) (x9 : Int64) (x11 : Int32) (x12 : Int32) : Option Int64 :=
  (some (x12 + 1)) >>= fun y10 =>
  k27 x9 x11 y10
def M_slopeAt_184 (F : Nat) (k27 : Int64 → Int32 → Int32 → Option Int64) (σ : MS) (x1 : Int32) (x2 : Int64) (x4 : Int64) (x6 : Int32) (x7 : Int64) (x12 : Int32) (s0 : Int64) : Option Int64 :=
  M_slopeAt_189 F k27 σ x1 x2 x4 x6 x7 s0 0 x12
def M_slopeAt_177 (F : Nat) (k27 : Int64 → Int32 → Int32 → Option Int64) (σ : MS) (x1 : Int32) (x2 : Int64) (x4 : Int64) (x6 : Int32) (x7 : Int64) (x12 : Int32) (x18 : Int64) : Option Int64 :=
  M_slopeAt_184 F k27 σ x1 x2 x4 x6 x7 x12 x18
def M_slopeAt_182 (F : Nat) (k27 : Int64 → Int32 → Int32 → Option Int64) (σ : MS) (x1 : Int32) (x2 : Int64) (x4 : Int64) (x6 : Int32) (x7 : Int64) (x9 : Int64) (x12 : Int32) : Option Int64 :=
  M_slopeAt_184 F k27 σ x1 x2 x4 x6 x7 x12 x9
def M_slopeAt_146 (F : Nat) (k27 : Int64 → Int32 → Int32 → Option Int64) (σ : MS) (x1 : Int32) (x2 : Int64) (x4 : Int64) (x6 : Int32) (x7 : Int64) (x9 : Int64) (x11 : Int32) (x12 : Int32) (s0 : Int64) : Option Int64 :=
  if x11 = 0 then (
  if x6 = 0 then (
  if x9 ≤ s0 then (
  M_slopeAt_182 F k27 σ x1 x2 x4 x6 x7 x9 x12)
  else (
  M_slopeAt_177 F k27 σ x1 x2 x4 x6 x7 x12 s0))
  else (
  if s0 ≤ x9 then (
  M_slopeAt_182 F k27 σ x1 x2 x4 x6 x7 x9 x12)
  else (
  M_slopeAt_177 F k27 σ x1 x2 x4 x6 x7 x12 s0)))
  else (
  M_slopeAt_177 F k27 σ x1 x2 x4 x6 x7 x12 s0)
def M_slopeAt_119 (F : Nat) (k27 : Int64 → Int32 → Int32 → Option Int64) (σ : MS) (x1 : Int32) (x2 : Int64) (x4 : Int64) (x6 : Int32) (x7 : Int64) (x9 : Int64) (x11 : Int32) (x12 : Int32) (s0 : Int32) : Option Int64 :=
  if s0 = 0 then (
  (rdI (mA σ 5) 8 x12) >>= fun y8 =>
  M_slopeAt_146 F k27 σ x1 x2 x4 x6 x7 x9 x11 x12 ((-y8).toInt64))
  else (
  (rdI (mA σ 5) 8 x12) >>= fun y9 =>
  M_slopeAt_146 F k27 σ x1 x2 x4 x6 x7 x9 x11 x12 (y9.toInt64))
def M_slopeAt_27 (F : Nat) (σ : MS) (x1 : Int32) (x2 : Int64) (x4 : Int64) (x6 : Int32) (x7 : Int64) : Nat → Int64 → Int32 → Int32 → Option Int64
  | 0, _, _, _ => none
  | n + 1, x9, x11, x12 =>
    (M_many σ) >>= fun r3 =>
    if r3 ≤ x12 then (
    some x9)
    else (
    (rdI (mA σ 5) 8 x12) >>= fun y4 =>
    (M_away σ x12 x1 x2 x4) >>= fun r5 =>
    if (y4.toInt64) * r5 = x7 then (
    (M_rising σ x12 x1 x2 x4) >>= fun r6 =>
    (M_falling σ x12 x1 x2 x4) >>= fun r7 =>
    if x6 = 0 then (
    if r7 < r6 then (
    M_slopeAt_119 F (M_slopeAt_27 F σ x1 x2 x4 x6 x7 n) σ x1 x2 x4 x6 x7 x9 x11 x12 0)
    else (
    M_slopeAt_119 F (M_slopeAt_27 F σ x1 x2 x4 x6 x7 n) σ x1 x2 x4 x6 x7 x9 x11 x12 1))
    else (
    if r7 ≤ r6 then (
    M_slopeAt_119 F (M_slopeAt_27 F σ x1 x2 x4 x6 x7 n) σ x1 x2 x4 x6 x7 x9 x11 x12 0)
    else (
    M_slopeAt_119 F (M_slopeAt_27 F σ x1 x2 x4 x6 x7 n) σ x1 x2 x4 x6 x7 x9 x11 x12 1)))
    else (
    M_slopeAt_189 F (M_slopeAt_27 F σ x1 x2 x4 x6 x7 n) σ x1 x2 x4 x6 x7 x9 x11 x12))
def M_slopeAt (F : Nat) (σ : MS) (x1 : Int32) (x2 : Int64) (x4 : Int64) (x6 : Int32) : Option Int64 :=
  (M_many σ) >>= fun r1 =>
  (M_heightAt F σ ((1 <<< (r1 &&& 31)) - 1) x1 x2 x4) >>= fun r2 =>
  M_slopeAt_27 F σ x1 x2 x4 x6 r2 F 0 1 0
/- isCorner(II)Z -/
def M_isCorner (F : Nat) (σ : MS) (x1 : Int32) (x2 : Int32) : Option Int32 :=
  (M_isRight σ x1 x2 1) >>= fun r1 =>
  if r1 = 0 then (
  some 1)
  else (
  (M_isRight σ x1 x2 0) >>= fun r2 =>
  if r2 = 0 then (
  some 1)
  else (
  (rdL (mB σ 0) 160 x2) >>= fun y3 =>
  (rdL (mB σ 1) 160 x2) >>= fun y4 =>
  (M_slopeAt F σ x1 y3 y4 1) >>= fun r5 =>
  (rdL (mB σ 0) 160 x2) >>= fun y6 =>
  (rdL (mB σ 1) 160 x2) >>= fun y7 =>
  (M_slopeAt F σ x1 y6 y7 0) >>= fun r8 =>
  if r5 = r8 then (
  some 0)
  else (
  some 1)))
/- nextCorner(II)I -/
def M_nextCorner_128 (F : Nat) (k5 : Int32 → Int32 → Option Int32) (σ : MS) (x1 : Int32) (x2 : Int32) (x4 : Int32) (s0 : Int32) : Option Int32 :=
  (some (x4 + 1)) >>= fun y10 =>
  k5 s0 y10
def M_nextCorner_127 (F : Nat) (k5 : Int32 → Int32 → Option Int32) (σ : MS) (x1 : Int32) (x2 : Int32) (x3 : Int32) (x4 : Int32) : Option Int32 :=
  M_nextCorner_128 F k5 σ x1 x2 x4 x3
def M_nextCorner_105 (F : Nat) (k5 : Int32 → Int32 → Option Int32) (σ : MS) (x1 : Int32) (x2 : Int32) (x3 : Int32) (x4 : Int32) (s0 : Int32) : Option Int32 :=
  if s0 = 0 then (
  M_nextCorner_127 F k5 σ x1 x2 x3 x4)
  else (
  (M_isCorner F σ x1 x4) >>= fun r9 =>
  if r9 = 0 then (
  M_nextCorner_127 F k5 σ x1 x2 x3 x4)
  else (
  M_nextCorner_128 F k5 σ x1 x2 x4 x4))
def M_nextCorner_100 (F : Nat) (k5 : Int32 → Int32 → Option Int32) (σ : MS) (x1 : Int32) (x2 : Int32) (x3 : Int32) (x4 : Int32) : Option Int32 :=
  M_nextCorner_105 F k5 σ x1 x2 x3 x4 1
def M_nextCorner_104 (F : Nat) (k5 : Int32 → Int32 → Option Int32) (σ : MS) (x1 : Int32) (x2 : Int32) (x3 : Int32) (x4 : Int32) : Option Int32 :=
  M_nextCorner_105 F k5 σ x1 x2 x3 x4 0
def M_nextCorner_56 (F : Nat) (k5 : Int32 → Int32 → Option Int32) (σ : MS) (x1 : Int32) (x2 : Int32) (x3 : Int32) (x4 : Int32) (s0 : Int32) : Option Int32 :=
  if s0 = 0 then (
  M_nextCorner_104 F k5 σ x1 x2 x3 x4)
  else (
  if x3 = (-1) then (
  M_nextCorner_100 F k5 σ x1 x2 x3 x4)
  else (
  (rdL (mB σ 0) 160 x4) >>= fun y5 =>
  (rdL (mB σ 1) 160 x3) >>= fun y6 =>
  (rdL (mB σ 0) 160 x3) >>= fun y7 =>
  (rdL (mB σ 1) 160 x4) >>= fun y8 =>
  if y7 * y8 ≤ y5 * y6 then (
  M_nextCorner_104 F k5 σ x1 x2 x3 x4)
  else (
  M_nextCorner_100 F k5 σ x1 x2 x3 x4)))
def M_nextCorner_51 (F : Nat) (k5 : Int32 → Int32 → Option Int32) (σ : MS) (x1 : Int32) (x2 : Int32) (x3 : Int32) (x4 : Int32) : Option Int32 :=
  M_nextCorner_56 F k5 σ x1 x2 x3 x4 1
def M_nextCorner_5 (F : Nat) (σ : MS) (x1 : Int32) (x2 : Int32) : Nat → Int32 → Int32 → Option Int32
  | 0, _, _ => none
  | n + 1, x3, x4 =>
    if (mI σ 3) ≤ x4 then (
    some x3)
    else (
    if x2 = (-1) then (
    M_nextCorner_51 F (M_nextCorner_5 F σ x1 x2 n) σ x1 x2 x3 x4)
    else (
    (rdL (mB σ 0) 160 x4) >>= fun y1 =>
    (rdL (mB σ 1) 160 x2) >>= fun y2 =>
    (rdL (mB σ 0) 160 x2) >>= fun y3 =>
    (rdL (mB σ 1) 160 x4) >>= fun y4 =>
    if y1 * y2 ≤ y3 * y4 then (
    M_nextCorner_56 F (M_nextCorner_5 F σ x1 x2 n) σ x1 x2 x3 x4 0)
    else (
    M_nextCorner_51 F (M_nextCorner_5 F σ x1 x2 n) σ x1 x2 x3 x4)))
def M_nextCorner (F : Nat) (σ : MS) (x1 : Int32) (x2 : Int32) : Option Int32 :=
  M_nextCorner_5 F σ x1 x2 F (-1) 0
/- cornerTold(III)I -/
def M_cornerTold_51 (F : Nat) (x1 : Int32) (x2 : Int32) (x3 : Int32) (x4 : Int32) (σ : MS) : Option (Int32 × MS) :=
  if x4 = (-1) then (
  some ((-1), σ))
  else (
  if 0 ≤ x2 then (
  if 2 ≤ x3 then (
  (M_many σ) >>= fun r6 =>
  (rdL (mB σ 0) 160 x4) >>= fun y7 =>
  (rdL (mB σ 1) 160 x4) >>= fun y8 =>
  (M_heightAt F σ ((1 <<< (r6 &&& 31)) - 1) x1 y7 y8) >>= fun r9 =>
  (rdL (mB σ 1) 160 x4) >>= fun y10 =>
  (M_reduced F r9 y10 (x3 - 2)) >>= fun r11 =>
  some (r11, σ))
  else (
  (rdL (mB σ 0) 160 x4) >>= fun y12 =>
  (rdL (mB σ 1) 160 x4) >>= fun y13 =>
  (M_reduced F y12 y13 x3) >>= fun r14 =>
  some (r14, σ)))
  else (
  some ((-1), σ)))
def M_cornerTold_24 (F : Nat) (x1 : Int32) (x2 : Int32) (x3 : Int32) : Nat → Int32 → Int32 → MS → Option (Int32 × MS)
  | 0, _, _, _ => none
  | n + 1, x4, x5, σ =>
    if x2 ≤ x5 then (
    M_cornerTold_51 F x1 x2 x3 x4 σ)
    else (
    if x4 = (-1) then (
    M_cornerTold_51 F x1 x2 x3 x4 σ)
    else (
    (M_nextCorner F σ x1 x4) >>= fun r4 =>
    (some (x5 + 1)) >>= fun y5 =>
    M_cornerTold_24 F x1 x2 x3 n r4 y5 σ))
def M_cornerTold (F : Nat) (σ : MS) (x1 : Int32) (x2 : Int32) (x3 : Int32) : Option (Int32 × MS) :=
  (M_many σ) >>= fun r1 =>
  (M_laysCrossings F σ ((1 <<< (r1 &&& 31)) - 1) x1) >>= fun r2 =>
  (M_nextCorner F r2 x1 (-1)) >>= fun r3 =>
  M_cornerTold_24 F x1 x2 x3 F r3 0 r2
/- corner(III)I -/
def M_corner_38 (F : Nat) (x1 : Int32) (x2 : Int32) (x3 : Int32) (s1 : Int32) (σ : MS) : Option (Int32 × MS) :=
  (M_refused σ s1) >>= fun r4 =>
  if r4.1 = 0 then (
  (M_weighs F r4.2 0) >>= fun r5 =>
  (M_cornerTold F r5 x1 x2 x3) >>= fun r6 =>
  some (r6.1, r6.2))
  else (
  some (0, r4.2))
def M_corner (F : Nat) (σ : MS) (x1 : Int32) (x2 : Int32) (x3 : Int32) : Option (Int32 × MS) :=
  (M_isEdge σ x1) >>= fun r1 =>
  if r1 = 0 then (
  M_corner_38 F x1 x2 x3 1 σ)
  else (
  (M_within x3 0 3) >>= fun r2 =>
  if r2 = 0 then (
  M_corner_38 F x1 x2 x3 2 σ)
  else (
  (M_isConnected F σ) >>= fun r3 =>
  if r3.1 = 0 then (
  M_corner_38 F x1 x2 x3 3 r3.2)
  else (
  M_corner_38 F x1 x2 x3 0 r3.2)))
/- canHave()Z -/
def M_canHave (F : Nat) (σ : MS) : Option (Int32 × MS) :=
  (M_edgeMany σ) >>= fun r1 =>
  if r1 ≤ 0 then (
  some (0, σ))
  else (
  (M_isConnected F σ) >>= fun r2 =>
  if r2.1 = 0 then (
  some (0, r2.2))
  else (
  some (1, r2.2)))
/- tries(IJJJ)V -/
def M_tries_74 (x1 : Int32) (x2 : Int64) (x4 : Int64) (x6 : Int64) (s0 : Int32) (σ : MS) : Option MS :=
  if s0 = 0 then (
  some σ)
  else (
  (some (sI σ 4 x1)) >>= fun σ1 =>
  (some (sL σ1 0 x2)) >>= fun σ2 =>
  (some (sL σ2 1 x4)) >>= fun σ3 =>
  (some (sL σ3 2 x6)) >>= fun σ4 =>
  some σ4)
def M_tries_69 (x1 : Int32) (x2 : Int64) (x4 : Int64) (x6 : Int64) (σ : MS) : Option MS :=
  M_tries_74 x1 x2 x4 x6 1 σ
def M_tries_73 (x1 : Int32) (x2 : Int64) (x4 : Int64) (x6 : Int64) (σ : MS) : Option MS :=
  M_tries_74 x1 x2 x4 x6 0 σ
def M_tries (σ : MS) (x1 : Int32) (x2 : Int64) (x4 : Int64) (x6 : Int64) : Option MS :=
  if (mI σ 4) = (-1) then (
  M_tries_69 x1 x2 x4 x6 σ)
  else (
  if x6 * (mL σ 1) < (mL σ 2) * x4 then (
  M_tries_69 x1 x2 x4 x6 σ)
  else (
  if x6 * (mL σ 1) = (mL σ 2) * x4 then (
  if x1 = (mI σ 4) then (
  if (mL σ 0) * x4 ≤ x2 * (mL σ 1) then (
  M_tries_73 x1 x2 x4 x6 σ)
  else (
  M_tries_69 x1 x2 x4 x6 σ))
  else (
  M_tries_73 x1 x2 x4 x6 σ))
  else (
  M_tries_73 x1 x2 x4 x6 σ)))
/- centers(I)V -/
def M_centers_86 (F : Nat) (k7 : Int32 → MS → Option MS) (k23 : Int32 → MS → Option MS) (x1 : Int32) (x2 : Int32) (x3 : Int32) (σ : MS) : Option MS :=
  (some (x3 + 1)) >>= fun y14 =>
  k23 y14 σ
def M_centers_92 (F : Nat) (k7 : Int32 → MS → Option MS) (x1 : Int32) (x2 : Int32) (σ : MS) : Option MS :=
  (some (x2 + 1)) >>= fun y13 =>
  k7 y13 σ
def M_centers_23 (F : Nat) (k7 : Int32 → MS → Option MS) (x1 : Int32) (x2 : Int32) : Nat → Int32 → MS → Option MS
  | 0, _, _ => none
  | n + 1, x3, σ =>
    if (mI σ 3) ≤ x3 then (
    M_centers_92 F k7 x1 x2 σ)
    else (
    (rdL (mB σ 0) 160 x3) >>= fun y4 =>
    (rdL (mB σ 1) 160 x3) >>= fun y5 =>
    (M_mayLie F σ x2 y4 y5) >>= fun r6 =>
    if r6 = 0 then (
    M_centers_86 F k7 (M_centers_23 F k7 x1 x2 n) x1 x2 x3 σ)
    else (
    (rdL (mB σ 0) 160 x3) >>= fun y7 =>
    (rdL (mB σ 1) 160 x3) >>= fun y8 =>
    (rdL (mB σ 0) 160 x3) >>= fun y9 =>
    (rdL (mB σ 1) 160 x3) >>= fun y10 =>
    (M_heightAt F σ x1 x2 y9 y10) >>= fun r11 =>
    (M_tries σ x2 y7 y8 r11) >>= fun r12 =>
    M_centers_86 F k7 (M_centers_23 F k7 x1 x2 n) x1 x2 x3 r12))
def M_centers_7 (F : Nat) (x1 : Int32) : Nat → Int32 → MS → Option MS
  | 0, _, _ => none
  | n + 1, x2, σ =>
    (M_edgeMany σ) >>= fun r2 =>
    if r2 ≤ x2 then (
    some σ)
    else (
    (M_laysCrossings F σ x1 x2) >>= fun r3 =>
    M_centers_23 F (M_centers_7 F x1 n) x1 x2 F 0 r3)
def M_centers (F : Nat) (σ : MS) (x1 : Int32) : Option MS :=
  (some (sI σ 4 (-1))) >>= fun σ1 =>
  M_centers_7 F x1 F 0 σ1
/- refusedCenter(III)Z -/
def M_refusedCenter_34 (F : Nat) (x1 : Int32) (s1 : Int32) (σ : MS) : Option (Int32 × MS) :=
  (M_refused σ s1) >>= fun r4 =>
  if r4.1 = 0 then (
  (M_weighs F r4.2 0) >>= fun r5 =>
  (M_centers F r5 x1) >>= fun r6 =>
  some (0, r6))
  else (
  some (1, r4.2))
def M_refusedCenter_18 (F : Nat) (x1 : Int32) (σ : MS) : Option (Int32 × MS) :=
  M_refusedCenter_34 F x1 1 σ
def M_refusedCenter (F : Nat) (σ : MS) (x1 : Int32) (x2 : Int32) (x3 : Int32) : Option (Int32 × MS) :=
  (M_isSet σ x1) >>= fun r1 =>
  if r1 = 0 then (
  M_refusedCenter_18 F x1 σ)
  else (
  (M_within x2 0 x3) >>= fun r2 =>
  if r2 = 0 then (
  M_refusedCenter_18 F x1 σ)
  else (
  (M_canHave F σ) >>= fun r3 =>
  if r3.1 = 0 then (
  M_refusedCenter_34 F x1 2 r3.2)
  else (
  M_refusedCenter_34 F x1 0 r3.2)))
/- radius(II)I -/
def M_radius (F : Nat) (σ : MS) (x1 : Int32) (x2 : Int32) : Option (Int32 × MS) :=
  (M_refusedCenter F σ x1 x2 1) >>= fun r1 =>
  if r1.1 = 0 then (
  (M_reduced F (mL r1.2 2) (mL r1.2 1) x2) >>= fun r2 =>
  some (r2, r1.2))
  else (
  some (0, r1.2))
/- centerTold(I)I -/
def M_centerTold (F : Nat) (σ : MS) (x1 : Int32) : Option Int32 :=
  if x1 = 0 then (
  some (mI σ 4))
  else (
  (M_reduced F (mL σ 0) (mL σ 1) (x1 - 1)) >>= fun r1 =>
  some r1)
/- center(II)I -/
def M_center (F : Nat) (σ : MS) (x1 : Int32) (x2 : Int32) : Option (Int32 × MS) :=
  (M_refusedCenter F σ x1 x2 2) >>= fun r1 =>
  if r1.1 = 0 then (
  (M_centerTold F r1.2 x2) >>= fun r2 =>
  some (r2, r1.2))
  else (
  some (0, r1.2))
/- criticalNow(I)I -/
def M_criticalNow_61 (F : Nat) (k4 : Int32 → Int32 → Option Int32) (σ : MS) (x1 : Int32) (x3 : Int32) (s0 : Int32) (s1 : Int32) : Option Int32 :=
  (some (s0 ||| s1)) >>= fun y5 =>
  (some (x3 + 1)) >>= fun y6 =>
  k4 y5 y6
def M_criticalNow_60 (F : Nat) (k4 : Int32 → Int32 → Option Int32) (σ : MS) (x1 : Int32) (x3 : Int32) (s0 : Int32) : Option Int32 :=
  M_criticalNow_61 F k4 σ x1 x3 s0 0
def M_criticalNow_4 (F : Nat) (σ : MS) (x1 : Int32) : Nat → Int32 → Int32 → Option Int32
  | 0, _, _ => none
  | n + 1, x2, x3 =>
    (M_many σ) >>= fun r1 =>
    if r1 ≤ x3 then (
    some x2)
    else (
    (M_has x1 x3) >>= fun r2 =>
    if r2 = 0 then (
    M_criticalNow_60 F (M_criticalNow_4 F σ x1 n) σ x1 x3 x2)
    else (
    (rdI (mA σ 5) 8 x3) >>= fun y3 =>
    (M_away σ x3 (mI σ 4) (mL σ 0) (mL σ 1)) >>= fun r4 =>
    if (y3.toInt64) * r4 = (mL σ 2) then (
    M_criticalNow_61 F (M_criticalNow_4 F σ x1 n) σ x1 x3 x2 (1 <<< (x3 &&& 31)))
    else (
    M_criticalNow_60 F (M_criticalNow_4 F σ x1 n) σ x1 x3 x2)))
def M_criticalNow (F : Nat) (σ : MS) (x1 : Int32) : Option Int32 :=
  M_criticalNow_4 F σ x1 F 0 0
/- critical(I)I -/
def M_critical (F : Nat) (σ : MS) (x1 : Int32) : Option (Int32 × MS) :=
  (M_refusedCenter F σ x1 0 0) >>= fun r1 =>
  if r1.1 = 0 then (
  (M_criticalNow F r1.2 x1) >>= fun r2 =>
  some (r2, r1.2))
  else (
  some (0, r1.2))
/- medianTold(I)I -/
def M_medianTold (F : Nat) (σ : MS) (x1 : Int32) : Option Int32 :=
  if 3 ≤ x1 then (
  (M_reduced F (mL σ 2) (mL σ 1) (x1 - 3)) >>= fun r1 =>
  some r1)
  else (
  (M_centerTold F σ x1) >>= fun r2 =>
  some r2)
/- medians()V -/
def M_medians_92 (F : Nat) (k7 : Int32 → MS → Option MS) (k30 : Int32 → MS → Option MS) (x1 : Int32) (x2 : Int32) (σ : MS) : Option MS :=
  (some (x2 + 1)) >>= fun y15 =>
  k30 y15 σ
def M_medians_98 (F : Nat) (k7 : Int32 → MS → Option MS) (x1 : Int32) (σ : MS) : Option MS :=
  (some (x1 + 1)) >>= fun y14 =>
  k7 y14 σ
def M_medians_30 (F : Nat) (k7 : Int32 → MS → Option MS) (x1 : Int32) : Nat → Int32 → MS → Option MS
  | 0, _, _ => none
  | n + 1, x2, σ =>
    if (mI σ 3) ≤ x2 then (
    M_medians_98 F k7 x1 σ)
    else (
    (rdL (mB σ 0) 160 x2) >>= fun y5 =>
    (rdL (mB σ 1) 160 x2) >>= fun y6 =>
    (M_mayLie F σ x1 y5 y6) >>= fun r7 =>
    if r7 = 0 then (
    M_medians_92 F k7 (M_medians_30 F k7 x1 n) x1 x2 σ)
    else (
    (rdL (mB σ 0) 160 x2) >>= fun y8 =>
    (rdL (mB σ 1) 160 x2) >>= fun y9 =>
    (rdL (mB σ 0) 160 x2) >>= fun y10 =>
    (rdL (mB σ 1) 160 x2) >>= fun y11 =>
    (M_costAt F σ x1 y10 y11) >>= fun r12 =>
    (M_tries σ x1 y8 y9 r12) >>= fun r13 =>
    M_medians_92 F k7 (M_medians_30 F k7 x1 n) x1 x2 r13))
def M_medians_7 (F : Nat) : Nat → Int32 → MS → Option MS
  | 0, _, _ => none
  | n + 1, x1, σ =>
    (M_edgeMany σ) >>= fun r2 =>
    if r2 ≤ x1 then (
    some σ)
    else (
    (M_many σ) >>= fun r3 =>
    (M_laysCrossings F σ ((1 <<< (r3 &&& 31)) - 1) x1) >>= fun r4 =>
    M_medians_30 F (M_medians_7 F n) x1 F 0 r4)
def M_medians (F : Nat) (σ : MS) : Option MS :=
  (some (sI σ 4 (-1))) >>= fun σ1 =>
  M_medians_7 F F 0 σ1
/- median(I)I -/
def M_median_26 (F : Nat) (x1 : Int32) (s1 : Int32) (σ : MS) : Option (Int32 × MS) :=
  (M_refused σ s1) >>= fun r3 =>
  if r3.1 = 0 then (
  (M_weighs F r3.2 0) >>= fun r4 =>
  (M_medians F r4) >>= fun r5 =>
  (M_medianTold F r5 x1) >>= fun r6 =>
  some (r6, r5))
  else (
  some (0, r3.2))
def M_median (F : Nat) (σ : MS) (x1 : Int32) : Option (Int32 × MS) :=
  (M_within x1 0 4) >>= fun r1 =>
  if r1 = 0 then (
  M_median_26 F x1 1 σ)
  else (
  (M_canHave F σ) >>= fun r2 =>
  if r2.1 = 0 then (
  M_median_26 F x1 2 r2.2)
  else (
  M_median_26 F x1 0 r2.2))
/- laysRadii()V -/
def M_laysRadii_7 (F : Nat) : Nat → Int32 → MS → Option MS
  | 0, _, _ => none
  | n + 1, x1, σ =>
    (M_many σ) >>= fun r2 =>
    if 1 <<< (r2 &&& 31) ≤ x1 then (
    some σ)
    else (
    (M_centers F σ x1) >>= fun r3 =>
    (stB r3 2 256 x1 (mL r3 2)) >>= fun σ4 =>
    (stB σ4 3 256 x1 (mL σ4 1)) >>= fun σ5 =>
    (some (x1 + 1)) >>= fun y6 =>
    M_laysRadii_7 F n y6 σ5)
def M_laysRadii (F : Nat) (σ : MS) : Option MS :=
  (M_weighs F σ 0) >>= fun r1 =>
  M_laysRadii_7 F F 0 r1
/- laysTwo()V -/
def M_laysTwo_147 (F : Nat) (k2 : Int32 → MS → Option MS) (k21 : Int32 → MS → Option MS) (x1 : Int32) (x2 : Int32) (σ : MS) : Option MS :=
  (some (x2 + 1)) >>= fun y13 =>
  k21 y13 σ
def M_laysTwo_123 (F : Nat) (k2 : Int32 → MS → Option MS) (k21 : Int32 → MS → Option MS) (x1 : Int32) (x2 : Int32) (x3 : Int32) (σ : MS) : Option MS :=
  (rdL (mB σ 2) 256 x3) >>= fun y14 =>
  (stB σ 4 256 x1 y14) >>= fun σ15 =>
  (rdL (mB σ15 3) 256 x3) >>= fun y16 =>
  (stB σ15 5 256 x1 y16) >>= fun σ17 =>
  M_laysTwo_147 F k2 k21 x1 x2 σ17
def M_laysTwo_81 (F : Nat) (k2 : Int32 → MS → Option MS) (k21 : Int32 → MS → Option MS) (x1 : Int32) (x2 : Int32) (s0 : Int32) (σ : MS) : Option MS :=
  (rdL (mB σ 5) 256 x1) >>= fun y8 =>
  if y8 = 0 then (
  M_laysTwo_123 F k2 k21 x1 x2 s0 σ)
  else (
  (rdL (mB σ 2) 256 s0) >>= fun y9 =>
  (rdL (mB σ 5) 256 x1) >>= fun y10 =>
  (rdL (mB σ 4) 256 x1) >>= fun y11 =>
  (rdL (mB σ 3) 256 s0) >>= fun y12 =>
  if y11 * y12 ≤ y9 * y10 then (
  M_laysTwo_147 F k2 k21 x1 x2 σ)
  else (
  M_laysTwo_123 F k2 k21 x1 x2 s0 σ))
def M_laysTwo_153 (F : Nat) (k2 : Int32 → MS → Option MS) (x1 : Int32) (σ : MS) : Option MS :=
  (some (x1 + 1)) >>= fun y7 =>
  k2 y7 σ
def M_laysTwo_21 (F : Nat) (k2 : Int32 → MS → Option MS) (x1 : Int32) : Nat → Int32 → MS → Option MS
  | 0, _, _ => none
  | n + 1, x2, σ =>
    if x1 < x2 then (
    M_laysTwo_153 F k2 x1 σ)
    else (
    if x2 &&& (x1 ^^^ (-1)) = 0 then (
    (rdL (mB σ 2) 256 x2) >>= fun y3 =>
    (rdL (mB σ 3) 256 (x1 &&& (x2 ^^^ (-1)))) >>= fun y4 =>
    (rdL (mB σ 2) 256 (x1 &&& (x2 ^^^ (-1)))) >>= fun y5 =>
    (rdL (mB σ 3) 256 x2) >>= fun y6 =>
    if y3 * y4 < y5 * y6 then (
    M_laysTwo_81 F k2 (M_laysTwo_21 F k2 x1 n) x1 x2 (x1 &&& (x2 ^^^ (-1))) σ)
    else (
    M_laysTwo_81 F k2 (M_laysTwo_21 F k2 x1 n) x1 x2 x2 σ))
    else (
    M_laysTwo_147 F k2 (M_laysTwo_21 F k2 x1 n) x1 x2 σ))
def M_laysTwo_2 (F : Nat) : Nat → Int32 → MS → Option MS
  | 0, _, _ => none
  | n + 1, x1, σ =>
    (M_many σ) >>= fun r1 =>
    if 1 <<< (r1 &&& 31) ≤ x1 then (
    some σ)
    else (
    (stB σ 5 256 x1 0) >>= fun σ2 =>
    M_laysTwo_21 F (M_laysTwo_2 F n) x1 F 0 σ2)
def M_laysTwo (F : Nat) (σ : MS) : Option MS :=
  M_laysTwo_2 F F 0 σ
/- laysBound(I)V -/
def M_laysBound_204 (F : Nat) (k67 : Int32 → MS → Option MS) (x1 : Int32) (x2 : Int32) (x3 : Int32) (σ : MS) : Option MS :=
  (some (x3 + 1)) >>= fun y21 =>
  k67 y21 σ
def M_laysBound_172 (F : Nat) (k67 : Int32 → MS → Option MS) (x1 : Int32) (x2 : Int32) (x3 : Int32) (x5 : Int64) (s0 : Int64) (σ : MS) : Option MS :=
  if (mL σ 3) * s0 ≤ x5 * (mL σ 4) then (
  M_laysBound_204 F k67 x1 x2 x3 σ)
  else (
  (some (sL σ 3 x5)) >>= fun σ19 =>
  (some (sL σ19 4 s0)) >>= fun σ20 =>
  M_laysBound_204 F k67 x1 x2 x3 σ20)
def M_laysBound_146 (F : Nat) (k67 : Int32 → MS → Option MS) (x1 : Int32) (x2 : Int32) (x3 : Int32) (x4 : Int32) (s0 : Int64) (σ : MS) : Option MS :=
  if x4 = 0 then (
  (rdL (mB σ 5) 256 (x2 &&& (x3 ^^^ (-1)))) >>= fun y17 =>
  M_laysBound_172 F k67 x1 x2 x3 s0 y17 σ)
  else (
  (rdL (mB σ 3) 256 x3) >>= fun y18 =>
  M_laysBound_172 F k67 x1 x2 x3 s0 y18 σ)
def M_laysBound_120 (F : Nat) (k67 : Int32 → MS → Option MS) (x1 : Int32) (x2 : Int32) (x3 : Int32) (s0 : Int32) (σ : MS) : Option MS :=
  if s0 = 0 then (
  (rdL (mB σ 4) 256 (x2 &&& (x3 ^^^ (-1)))) >>= fun y15 =>
  M_laysBound_146 F k67 x1 x2 x3 s0 y15 σ)
  else (
  (rdL (mB σ 2) 256 x3) >>= fun y16 =>
  M_laysBound_146 F k67 x1 x2 x3 s0 y16 σ)
def M_laysBound_67 (F : Nat) (x1 : Int32) (x2 : Int32) : Nat → Int32 → MS → Option MS
  | 0, _, _ => none
  | n + 1, x3, σ =>
    if x2 < x3 then (
    some σ)
    else (
    if x1 = 3 then (
    (rdL (mB σ 2) 256 x3) >>= fun y11 =>
    (rdL (mB σ 5) 256 (x2 &&& (x3 ^^^ (-1)))) >>= fun y12 =>
    (rdL (mB σ 4) 256 (x2 &&& (x3 ^^^ (-1)))) >>= fun y13 =>
    (rdL (mB σ 3) 256 x3) >>= fun y14 =>
    if y11 * y12 < y13 * y14 then (
    M_laysBound_120 F (M_laysBound_67 F x1 x2 n) x1 x2 x3 0 σ)
    else (
    M_laysBound_120 F (M_laysBound_67 F x1 x2 n) x1 x2 x3 1 σ))
    else (
    some σ))
def M_laysBound_62 (F : Nat) (x1 : Int32) (x2 : Int32) (s1 : Int64) (σ : MS) : Option MS :=
  (some (sL σ 4 s1)) >>= fun σ10 =>
  M_laysBound_67 F x1 x2 F 0 σ10
def M_laysBound_38 (F : Nat) (x1 : Int32) (x2 : Int32) (s1 : Int64) (σ : MS) : Option MS :=
  (some (sL σ 3 s1)) >>= fun σ7 =>
  if x1 = 1 then (
  (rdL (mB σ7 3) 256 x2) >>= fun y8 =>
  M_laysBound_62 F x1 x2 y8 σ7)
  else (
  (rdL (mB σ7 5) 256 x2) >>= fun y9 =>
  M_laysBound_62 F x1 x2 y9 σ7)
def M_laysBound (F : Nat) (σ : MS) (x1 : Int32) : Option MS :=
  (M_laysRadii F σ) >>= fun r1 =>
  (M_laysTwo F r1) >>= fun r2 =>
  (M_many r2) >>= fun r3 =>
  (some ((1 <<< (r3 &&& 31)) - 1)) >>= fun y4 =>
  if x1 = 1 then (
  (rdL (mB r2 2) 256 y4) >>= fun y5 =>
  M_laysBound_38 F x1 y4 y5 r2)
  else (
  (rdL (mB r2 4) 256 y4) >>= fun y6 =>
  M_laysBound_38 F x1 y4 y6 r2)
/- radiusOf(II)I -/
def M_radiusOf_35 (F : Nat) (x1 : Int32) (x2 : Int32) (s1 : Int32) (σ : MS) : Option (Int32 × MS) :=
  (M_refused σ s1) >>= fun r4 =>
  if r4.1 = 0 then (
  (M_laysBound F r4.2 x1) >>= fun r5 =>
  (M_reduced F (mL r5 3) (mL r5 4) x2) >>= fun r6 =>
  some (r6, r5))
  else (
  some (0, r4.2))
def M_radiusOf_19 (F : Nat) (x1 : Int32) (x2 : Int32) (σ : MS) : Option (Int32 × MS) :=
  M_radiusOf_35 F x1 x2 1 σ
def M_radiusOf (F : Nat) (σ : MS) (x1 : Int32) (x2 : Int32) : Option (Int32 × MS) :=
  (M_within x1 1 3) >>= fun r1 =>
  if r1 = 0 then (
  M_radiusOf_19 F x1 x2 σ)
  else (
  (M_within x2 0 1) >>= fun r2 =>
  if r2 = 0 then (
  M_radiusOf_19 F x1 x2 σ)
  else (
  (M_canHave F σ) >>= fun r3 =>
  if r3.1 = 0 then (
  M_radiusOf_35 F x1 x2 2 r3.2)
  else (
  M_radiusOf_35 F x1 x2 0 r3.2)))
/- isEnough(II)Z -/
def M_isEnough (σ : MS) (x1 : Int32) (x2 : Int32) : Option Int32 :=
  if x2 = 1 then (
  (rdL (mB σ 2) 256 x1) >>= fun y1 =>
  (rdL (mB σ 3) 256 x1) >>= fun y2 =>
  if (mL σ 3) * y2 < y1 * (mL σ 4) then (
  some 0)
  else (
  some 1))
  else (
  (rdL (mB σ 4) 256 x1) >>= fun y3 =>
  (rdL (mB σ 5) 256 x1) >>= fun y4 =>
  if (mL σ 3) * y4 < y3 * (mL σ 4) then (
  some 0)
  else (
  some 1))
/- groupTold(II)I -/
def M_groupTold_77 (F : Nat) (k12 : Int32 → Int32 → Option Int32) (k26 : Int32 → Int32 → Option Int32) (σ : MS) (x1 : Int32) (x2 : Int32) (x3 : Int32) (x4 : Int32) (x6 : Int32) (s0 : Int32) : Option Int32 :=
  (some (x6 + 1)) >>= fun y7 =>
  k26 s0 y7
def M_groupTold_75 (F : Nat) (k12 : Int32 → Int32 → Option Int32) (k26 : Int32 → Int32 → Option Int32) (σ : MS) (x1 : Int32) (x2 : Int32) (x3 : Int32) (x4 : Int32) (x5 : Int32) (x6 : Int32) : Option Int32 :=
  M_groupTold_77 F k12 k26 σ x1 x2 x3 x4 x6 x5
def M_groupTold_85 (F : Nat) (k12 : Int32 → Int32 → Option Int32) (σ : MS) (x1 : Int32) (x2 : Int32) (x3 : Int32) (x4 : Int32) (x5 : Int32) : Option Int32 :=
  if x4 = x2 then (
  some x5)
  else (
  (some (x3 &&& (x5 ^^^ (-1)))) >>= fun y5 =>
  (some (x4 + 1)) >>= fun y6 =>
  k12 y5 y6)
def M_groupTold_26 (F : Nat) (k12 : Int32 → Int32 → Option Int32) (σ : MS) (x1 : Int32) (x2 : Int32) (x3 : Int32) (x4 : Int32) : Nat → Int32 → Int32 → Option Int32
  | 0, _, _ => none
  | n + 1, x5, x6 =>
    if x3 < x6 then (
    M_groupTold_85 F k12 σ x1 x2 x3 x4 x5)
    else (
    if x6 &&& (x3 ^^^ (-1)) = 0 then (
    (M_isEnough σ x6 1) >>= fun r3 =>
    if r3 = 0 then (
    M_groupTold_75 F k12 (M_groupTold_26 F k12 σ x1 x2 x3 x4 n) σ x1 x2 x3 x4 x5 x6)
    else (
    (M_isEnough σ (x3 &&& (x6 ^^^ (-1))) ((x1 - 1) - x4)) >>= fun r4 =>
    if r4 = 0 then (
    M_groupTold_75 F k12 (M_groupTold_26 F k12 σ x1 x2 x3 x4 n) σ x1 x2 x3 x4 x5 x6)
    else (
    M_groupTold_77 F k12 (M_groupTold_26 F k12 σ x1 x2 x3 x4 n) σ x1 x2 x3 x4 x6 x6)))
    else (
    M_groupTold_75 F k12 (M_groupTold_26 F k12 σ x1 x2 x3 x4 n) σ x1 x2 x3 x4 x5 x6))
def M_groupTold_12 (F : Nat) (σ : MS) (x1 : Int32) (x2 : Int32) : Nat → Int32 → Int32 → Option Int32
  | 0, _, _ => none
  | n + 1, x3, x4 =>
    if x1 - 1 ≤ x4 then (
    some x3)
    else (
    M_groupTold_26 F (M_groupTold_12 F σ x1 x2 n) σ x1 x2 x3 x4 F 0 0)
def M_groupTold (F : Nat) (σ : MS) (x1 : Int32) (x2 : Int32) : Option Int32 :=
  (M_many σ) >>= fun r1 =>
  (some ((1 <<< (r1 &&& 31)) - 1)) >>= fun y2 =>
  M_groupTold_12 F σ x1 x2 F y2 0
/- group(II)I -/
def M_group_37 (F : Nat) (x1 : Int32) (x2 : Int32) (s1 : Int32) (σ : MS) : Option (Int32 × MS) :=
  (M_refused σ s1) >>= fun r4 =>
  if r4.1 = 0 then (
  (M_laysBound F r4.2 x1) >>= fun r5 =>
  (M_groupTold F r5 x1 x2) >>= fun r6 =>
  some (r6, r5))
  else (
  some (0, r4.2))
def M_group_21 (F : Nat) (x1 : Int32) (x2 : Int32) (σ : MS) : Option (Int32 × MS) :=
  M_group_37 F x1 x2 1 σ
def M_group (F : Nat) (σ : MS) (x1 : Int32) (x2 : Int32) : Option (Int32 × MS) :=
  (M_within x1 1 3) >>= fun r1 =>
  if r1 = 0 then (
  M_group_21 F x1 x2 σ)
  else (
  (M_within x2 0 (x1 - 1)) >>= fun r2 =>
  if r2 = 0 then (
  M_group_21 F x1 x2 σ)
  else (
  (M_canHave F σ) >>= fun r3 =>
  if r3.1 = 0 then (
  M_group_37 F x1 x2 2 r3.2)
  else (
  M_group_37 F x1 x2 0 r3.2)))
/- covering(II)I -/
def M_covering_154 (F : Nat) (k53 : Int32 → MS → Option (Int32 × MS)) (k74 : Int32 → MS → Option (Int32 × MS)) (x1 : Int32) (x2 : Int32) (x3 : Int32) (x4 : Int32) (σ : MS) : Option (Int32 × MS) :=
  (some (x4 + 1)) >>= fun y17 =>
  k74 y17 σ
def M_covering_160 (F : Nat) (k53 : Int32 → MS → Option (Int32 × MS)) (x1 : Int32) (x2 : Int32) (x3 : Int32) (σ : MS) : Option (Int32 × MS) :=
  (some (x3 + 1)) >>= fun y16 =>
  k53 y16 σ
def M_covering_74 (F : Nat) (k53 : Int32 → MS → Option (Int32 × MS)) (x1 : Int32) (x2 : Int32) (x3 : Int32) : Nat → Int32 → MS → Option (Int32 × MS)
  | 0, _, _ => none
  | n + 1, x4, σ =>
    if x3 < x4 then (
    M_covering_160 F k53 x1 x2 x3 σ)
    else (
    if x4 &&& (x3 ^^^ (-1)) = 0 then (
    (rdL (mB σ 2) 256 x4) >>= fun y10 =>
    (rdL (mB σ 3) 256 x4) >>= fun y11 =>
    if (x1.toInt64) * y11 < y10 * (x2.toInt64) then (
    M_covering_154 F k53 (M_covering_74 F k53 x1 x2 x3 n) x1 x2 x3 x4 σ)
    else (
    (rdI (mA σ 6) 256 (x3 &&& (x4 ^^^ (-1)))) >>= fun y12 =>
    (rdI (mA σ 6) 256 x3) >>= fun y13 =>
    if y13 ≤ y12 + 1 then (
    M_covering_154 F k53 (M_covering_74 F k53 x1 x2 x3 n) x1 x2 x3 x4 σ)
    else (
    (rdI (mA σ 6) 256 (x3 &&& (x4 ^^^ (-1)))) >>= fun y14 =>
    (stA σ 6 256 x3 (y14 + 1)) >>= fun σ15 =>
    M_covering_154 F k53 (M_covering_74 F k53 x1 x2 x3 n) x1 x2 x3 x4 σ15)))
    else (
    M_covering_154 F k53 (M_covering_74 F k53 x1 x2 x3 n) x1 x2 x3 x4 σ))
def M_covering_166 (F : Nat) (σ : MS) : Option (Int32 × MS) :=
  (M_many σ) >>= fun r8 =>
  (rdI (mA σ 6) 256 ((1 <<< (r8 &&& 31)) - 1)) >>= fun y9 =>
  some (y9, σ)
def M_covering_53 (F : Nat) (x1 : Int32) (x2 : Int32) : Nat → Int32 → MS → Option (Int32 × MS)
  | 0, _, _ => none
  | n + 1, x3, σ =>
    (M_many σ) >>= fun r6 =>
    if 1 <<< (r6 &&& 31) ≤ x3 then (
    M_covering_166 F σ)
    else (
    (stA σ 6 256 x3 9) >>= fun σ7 =>
    M_covering_74 F (M_covering_53 F x1 x2 n) x1 x2 x3 F 1 σ7)
def M_covering_32 (F : Nat) (x1 : Int32) (x2 : Int32) (s1 : Int32) (σ : MS) : Option (Int32 × MS) :=
  (M_refused σ s1) >>= fun r3 =>
  if r3.1 = 0 then (
  (M_laysRadii F r3.2) >>= fun r4 =>
  (stA r4 6 256 0 0) >>= fun σ5 =>
  M_covering_53 F x1 x2 F 1 σ5)
  else (
  some (0, r3.2))
def M_covering_16 (F : Nat) (x1 : Int32) (x2 : Int32) (σ : MS) : Option (Int32 × MS) :=
  M_covering_32 F x1 x2 1 σ
def M_covering (F : Nat) (σ : MS) (x1 : Int32) (x2 : Int32) : Option (Int32 × MS) :=
  if x1 < 0 then (
  M_covering_16 F x1 x2 σ)
  else (
  (M_within x2 1 1000) >>= fun r1 =>
  if r1 = 0 then (
  M_covering_16 F x1 x2 σ)
  else (
  (M_canHave F σ) >>= fun r2 =>
  if r2.1 = 0 then (
  M_covering_32 F x1 x2 2 r2.2)
  else (
  M_covering_32 F x1 x2 0 r2.2)))
/- covered(III)I -/
def M_covered_130 (F : Nat) (k86 : Int32 → Int32 → MS → Option (Int32 × MS)) (x1 : Int32) (x2 : Int32) (x3 : Int32) (x6 : Int32) (s0 : Int32) (s1 : Int32) (σ : MS) : Option (Int32 × MS) :=
  (some (s0 ||| s1)) >>= fun y11 =>
  (some (x6 + 1)) >>= fun y12 =>
  k86 y11 y12 σ
def M_covered_86 (F : Nat) (x1 : Int32) (x2 : Int32) (x3 : Int32) : Nat → Int32 → Int32 → MS → Option (Int32 × MS)
  | 0, _, _, _ => none
  | n + 1, x5, x6, σ =>
    (M_many σ) >>= fun r8 =>
    if r8 ≤ x6 then (
    some (x5, σ))
    else (
    (rdI (mA σ 5) 8 x6) >>= fun y9 =>
    (M_away σ x6 x1 (x2.toInt64) 1) >>= fun r10 =>
    if x3.toInt64 < (y9.toInt64) * r10 then (
    M_covered_130 F (M_covered_86 F x1 x2 x3 n) x1 x2 x3 x6 x5 0 σ)
    else (
    M_covered_130 F (M_covered_86 F x1 x2 x3 n) x1 x2 x3 x6 x5 (1 <<< (x6 &&& 31)) σ))
def M_covered_67 (F : Nat) (x1 : Int32) (x2 : Int32) (x3 : Int32) (s1 : Int32) (σ : MS) : Option (Int32 × MS) :=
  (M_refused σ s1) >>= fun r6 =>
  if r6.1 = 0 then (
  (M_weighs F r6.2 0) >>= fun r7 =>
  M_covered_86 F x1 x2 x3 F 0 0 r7)
  else (
  some (0, r6.2))
def M_covered_31 (F : Nat) (x1 : Int32) (x2 : Int32) (x3 : Int32) (s0 : Int32) (σ : MS) : Option (Int32 × MS) :=
  (M_isEdge σ x1) >>= fun r4 =>
  if r4 = 0 then (
  M_covered_67 F x1 x2 x3 1 σ)
  else (
  if s0 = 0 then (
  M_covered_67 F x1 x2 x3 2 σ)
  else (
  (M_isConnected F σ) >>= fun r5 =>
  if r5.1 = 0 then (
  M_covered_67 F x1 x2 x3 3 r5.2)
  else (
  M_covered_67 F x1 x2 x3 0 r5.2)))
def M_covered_30 (F : Nat) (x1 : Int32) (x2 : Int32) (x3 : Int32) (σ : MS) : Option (Int32 × MS) :=
  M_covered_31 F x1 x2 x3 0 σ
def M_covered (F : Nat) (σ : MS) (x1 : Int32) (x2 : Int32) (x3 : Int32) : Option (Int32 × MS) :=
  (M_isEdge σ x1) >>= fun r1 =>
  if r1 = 0 then (
  M_covered_30 F x1 x2 x3 σ)
  else (
  (M_of σ x1 2) >>= fun r2 =>
  (M_within x2 0 r2) >>= fun r3 =>
  if r3 = 0 then (
  M_covered_30 F x1 x2 x3 σ)
  else (
  if x3 < 0 then (
  M_covered_30 F x1 x2 x3 σ)
  else (
  M_covered_31 F x1 x2 x3 1 σ)))
/- changedRadius(II)I -/
def M_changedRadius_36 (F : Nat) (x1 : Int32) (x2 : Int32) (s1 : Int32) (σ : MS) : Option (Int32 × MS) :=
  (M_refused σ s1) >>= fun r4 =>
  if r4.1 = 0 then (
  (M_weighs F r4.2 x1) >>= fun r5 =>
  (M_many r5) >>= fun r6 =>
  (M_centers F r5 ((1 <<< (r6 &&& 31)) - 1)) >>= fun r7 =>
  (M_reduced F (mL r7 2) (mL r7 1) x2) >>= fun r8 =>
  some (r8, r7))
  else (
  some (0, r4.2))
def M_changedRadius_20 (F : Nat) (x1 : Int32) (x2 : Int32) (σ : MS) : Option (Int32 × MS) :=
  M_changedRadius_36 F x1 x2 1 σ
def M_changedRadius (F : Nat) (σ : MS) (x1 : Int32) (x2 : Int32) : Option (Int32 × MS) :=
  (M_within x1 0 10) >>= fun r1 =>
  if r1 = 0 then (
  M_changedRadius_20 F x1 x2 σ)
  else (
  (M_within x2 0 1) >>= fun r2 =>
  if r2 = 0 then (
  M_changedRadius_20 F x1 x2 σ)
  else (
  (M_canHave F σ) >>= fun r3 =>
  if r3.1 = 0 then (
  M_changedRadius_36 F x1 x2 2 r3.2)
  else (
  M_changedRadius_36 F x1 x2 0 r3.2)))
/- radiusWithout(II)I -/
def M_radiusWithout_109 (F : Nat) (x3 : Int32) : Nat → Int32 → MS → Option (Int32 × MS)
  | 0, _, _ => none
  | n + 1, x4, σ =>
    if 73 ≤ x4 then (
    some (x3, σ))
    else (
    (rdI (mA σ 2) 73 x4) >>= fun y13 =>
    (stA σ 0 73 x4 y13) >>= fun σ14 =>
    (some (x4 + 1)) >>= fun y15 =>
    M_radiusWithout_109 F x3 n y15 σ14)
def M_radiusWithout_106 (F : Nat) (x3 : Int32) (σ : MS) : Option (Int32 × MS) :=
  M_radiusWithout_109 F x3 F 0 σ
def M_radiusWithout_61 (F : Nat) (x1 : Int32) (x2 : Int32) (σ : MS) : Option (Int32 × MS) :=
  (M_dropsEdge F σ x1) >>= fun r7 =>
  (M_canHave F r7.2) >>= fun r8 =>
  if r8.1 = 0 then (
  M_radiusWithout_106 F (-1) r8.2)
  else (
  (M_weighs F r8.2 0) >>= fun r9 =>
  (M_many r9) >>= fun r10 =>
  (M_centers F r9 ((1 <<< (r10 &&& 31)) - 1)) >>= fun r11 =>
  (M_reduced F (mL r11 2) (mL r11 1) x2) >>= fun r12 =>
  M_radiusWithout_106 F r12 r11)
def M_radiusWithout_37 (F : Nat) (x1 : Int32) (x2 : Int32) : Nat → Int32 → MS → Option (Int32 × MS)
  | 0, _, _ => none
  | n + 1, x3, σ =>
    if 73 ≤ x3 then (
    M_radiusWithout_61 F x1 x2 σ)
    else (
    (rdI (mA σ 0) 73 x3) >>= fun y4 =>
    (stA σ 2 73 x3 y4) >>= fun σ5 =>
    (some (x3 + 1)) >>= fun y6 =>
    M_radiusWithout_37 F x1 x2 n y6 σ5)
def M_radiusWithout_27 (F : Nat) (x1 : Int32) (x2 : Int32) (s1 : Int32) (σ : MS) : Option (Int32 × MS) :=
  (M_refused σ s1) >>= fun r3 =>
  if r3.1 = 0 then (
  M_radiusWithout_37 F x1 x2 F 0 r3.2)
  else (
  some (0, r3.2))
def M_radiusWithout (F : Nat) (σ : MS) (x1 : Int32) (x2 : Int32) : Option (Int32 × MS) :=
  (M_isEdge σ x1) >>= fun r1 =>
  if r1 = 0 then (
  M_radiusWithout_27 F x1 x2 1 σ)
  else (
  (M_within x2 0 1) >>= fun r2 =>
  if r2 = 0 then (
  M_radiusWithout_27 F x1 x2 2 σ)
  else (
  M_radiusWithout_27 F x1 x2 0 σ))
/- type(I)I -/
def M_type_30 (x1 : Int32) (s1 : Int32) (σ : MS) : Option (Int32 × MS) :=
  (M_refused σ s1) >>= fun r2 =>
  if r2.1 = 0 then (
  (stA r2.2 3 120 (mI r2.2 2) x1) >>= fun σ3 =>
  (some (sI σ3 2 ((mI σ3 2) + 1))) >>= fun σ4 =>
  some ((mI σ4 2), σ4))
  else (
  some (0, r2.2))
def M_type (σ : MS) (x1 : Int32) : Option (Int32 × MS) :=
  (M_within x1 32 126) >>= fun r1 =>
  if r1 = 0 then (
  M_type_30 x1 1 σ)
  else (
  if (mI σ 2) = 120 then (
  M_type_30 x1 2 σ)
  else (
  M_type_30 x1 0 σ))
/- clearText()I -/
def M_clearText (σ : MS) : Option (Int32 × MS) :=
  (some (sI σ 1 0)) >>= fun σ1 =>
  (some ((mI σ1 2))) >>= fun y2 =>
  (some (sI σ1 2 0)) >>= fun σ3 =>
  some (y2, σ3)
/- isDone(IIII)Z -/
def M_isDone_129 (F : Nat) (x2 : Int32) (x3 : Int32) (x5 : Int32) (s1 : Int32) (σ : MS) : Option (Int32 × MS) :=
  (stA σ 0 73 (s1 + x2) x3) >>= fun σ9 =>
  (zz x5) >>= fun b10 => some (b10, σ9)
def M_isDone_108 (F : Nat) (x1 : Int32) (x2 : Int32) (x3 : Int32) (x5 : Int32) (σ : MS) : Option (Int32 × MS) :=
  if x5 = 0 then (
  (zz x5) >>= fun b8 => some (b8, σ))
  else (
  if x1 = 119 then (
  M_isDone_129 F x2 x3 x5 1 σ)
  else (
  M_isDone_129 F x2 x3 x5 9 σ))
def M_isDone_85 (F : Nat) (x1 : Int32) (x2 : Int32) (x3 : Int32) (x4 : Int32) (x5 : Int32) (σ : MS) : Option (Int32 × MS) :=
  if x5 = 0 then (
  M_isDone_108 F x1 x2 x3 x5 σ)
  else (
  if x1 = 120 then (
  (M_forbids σ x2 x3 x4) >>= fun r6 =>
  (zz x5) >>= fun b7 => some (b7, r6.2))
  else (
  M_isDone_108 F x1 x2 x3 x5 σ))
def M_isDone_62 (F : Nat) (x1 : Int32) (x2 : Int32) (x3 : Int32) (x4 : Int32) (s0 : Int32) (σ : MS) : Option (Int32 × MS) :=
  if s0 = 0 then (
  M_isDone_85 F x1 x2 x3 x4 s0 σ)
  else (
  if x1 = 0 then (
  (M_connects σ x2 x3 x4) >>= fun r4 =>
  (zz s0) >>= fun b5 => some (b5, r4.2))
  else (
  M_isDone_85 F x1 x2 x3 x4 s0 σ))
def M_isDone (F : Nat) (σ : MS) (x1 : Int32) (x2 : Int32) (x3 : Int32) (x4 : Int32) : Option (Int32 × MS) :=
  if x1 = 0 then (
  (M_needConnect F σ x2 x3 x4) >>= fun r1 =>
  if r1 = 0 then (
  M_isDone_62 F x1 x2 x3 x4 1 σ)
  else (
  M_isDone_62 F x1 x2 x3 x4 0 σ))
  else (
  if x1 = 120 then (
  (M_needForbid σ x2 x3 x4) >>= fun r2 =>
  if r2 = 0 then (
  M_isDone_62 F x1 x2 x3 x4 1 σ)
  else (
  M_isDone_62 F x1 x2 x3 x4 0 σ))
  else (
  (M_needSet σ x2 x3) >>= fun r3 =>
  if r3 = 0 then (
  M_isDone_62 F x1 x2 x3 x4 1 σ)
  else (
  M_isDone_62 F x1 x2 x3 x4 0 σ)))
/- looking()I -/
def M_looking_38 (F : Nat) (σ : MS) : Option (Int32 × MS) :=
  if (mI σ 2) ≤ (mI σ 5) then (
  some (0, σ))
  else (
  (rdI (mA σ 3) 120 (mI σ 5)) >>= fun y3 =>
  some (y3, σ))
def M_looking_0 (F : Nat) : Nat → MS → Option (Int32 × MS)
  | 0, _ => none
  | n + 1, σ =>
    if (mI σ 2) ≤ (mI σ 5) then (
    M_looking_38 F σ)
    else (
    (rdI (mA σ 3) 120 (mI σ 5)) >>= fun y1 =>
    if y1 = 32 then (
    (some (sI σ 5 ((mI σ 5) + 1))) >>= fun σ2 =>
    M_looking_0 F n σ2)
    else (
    M_looking_38 F σ))
def M_looking (F : Nat) (σ : MS) : Option (Int32 × MS) :=
  M_looking_0 F F σ
/- fails()V -/
def M_fails (σ : MS) : Option MS :=
  if (mI σ 6) = (-1) then (
  (some (sI σ 6 (mI σ 5))) >>= fun σ1 =>
  some σ1)
  else (
  (some (sI σ 6 (mI σ 6))) >>= fun σ2 =>
  some σ2)
/- isDigit()Z -/
def M_isDigit (σ : MS) : Option Int32 :=
  if (mI σ 2) ≤ (mI σ 5) then (
  some 0)
  else (
  (rdI (mA σ 3) 120 (mI σ 5)) >>= fun y1 =>
  (M_within y1 48 57) >>= fun r2 =>
  if r2 = 0 then (
  some 0)
  else (
  some 1))
/- number()I -/
def M_number_20 (F : Nat) (σ : MS) : Option (Int32 × MS) :=
  (M_fails σ) >>= fun r10 =>
  some (0, r10)
def M_number_84 (F : Nat) (x1 : Int32) (σ : MS) : Option (Int32 × MS) :=
  (M_isDigit σ) >>= fun r11 =>
  if r11 = 0 then (
  some (x1, σ))
  else (
  (M_fails σ) >>= fun r12 =>
  some (x1, r12))
def M_number (F : Nat) (σ : MS) : Option (Int32 × MS) :=
  (M_looking F σ) >>= fun r1 =>
  if (mI r1.2 6) = (-1) then (
  (M_isDigit r1.2) >>= fun r2 =>
  if r2 = 0 then (
  M_number_20 F r1.2)
  else (
  (rdI (mA r1.2 3) 120 (mI r1.2 5)) >>= fun y3 =>
  (some (y3 - 48)) >>= fun y4 =>
  (some (sI r1.2 5 ((mI r1.2 5) + 1))) >>= fun σ5 =>
  (M_isDigit σ5) >>= fun r6 =>
  if r6 = 0 then (
  M_number_84 F y4 σ5)
  else (
  (rdI (mA σ5 3) 120 (mI σ5 5)) >>= fun y7 =>
  (some (((10 * y4) + y7) - 48)) >>= fun y8 =>
  (some (sI σ5 5 ((mI σ5 5) + 1))) >>= fun σ9 =>
  M_number_84 F y8 σ9)))
  else (
  M_number_20 F r1.2)
/- sign(I)V -/
def M_sign (F : Nat) (σ : MS) (x1 : Int32) : Option MS :=
  if (mI σ 6) = (-1) then (
  (M_looking F σ) >>= fun r1 =>
  if r1.1 = x1 then (
  (some (sI r1.2 5 ((mI r1.2 5) + 1))) >>= fun σ2 =>
  some σ2)
  else (
  (M_fails r1.2) >>= fun r3 =>
  some r3))
  else (
  (M_fails σ) >>= fun r4 =>
  some r4)
/- goes(Z)I -/
def M_goes_201 (F : Nat) (k20 : Int32 → MS → Option (Int32 × MS)) (x1 : Int32) (σ : MS) : Option (Int32 × MS) :=
  (M_looking F σ) >>= fun r16 =>
  (some (r16.1)) >>= fun y17 =>
  k20 y17 r16.2
def M_goes_197 (F : Nat) (k20 : Int32 → MS → Option (Int32 × MS)) (x1 : Int32) (s1 : Int32) (s2 : Int32) (σ : MS) : Option (Int32 × MS) :=
  (some (sI σ 7 (s1 + s2))) >>= fun σ19 =>
  M_goes_201 F k20 x1 σ19
def M_goes_180 (F : Nat) (k20 : Int32 → MS → Option (Int32 × MS)) (x1 : Int32) (x4 : Int32) (x5 : Int32) (x6 : Int32) (s1 : Int32) (s3 : Int32) (σ : MS) : Option (Int32 × MS) :=
  (M_isDone F σ s3 x4 x5 x6) >>= fun r18 =>
  if r18.1 = 0 then (
  M_goes_197 F k20 x1 s1 0 r18.2)
  else (
  M_goes_197 F k20 x1 s1 1 r18.2)
def M_goes_155 (F : Nat) (k20 : Int32 → MS → Option (Int32 × MS)) (x1 : Int32) (x2 : Int32) (x3 : Int32) (x4 : Int32) (x5 : Int32) (x6 : Int32) (σ : MS) : Option (Int32 × MS) :=
  (M_sign F σ 59) >>= fun r12 =>
  if x1 = 0 then (
  M_goes_201 F k20 x1 r12)
  else (
  if x3 = 0 then (
  M_goes_180 F k20 x1 x4 x5 x6 (mI r12 7) 0 r12)
  else (
  M_goes_180 F k20 x1 x4 x5 x6 (mI r12 7) x2 r12))
def M_goes_146 (F : Nat) (k20 : Int32 → MS → Option (Int32 × MS)) (x1 : Int32) (x2 : Int32) (x3 : Int32) (x4 : Int32) (x5 : Int32) (s1 : Int32) (σ : MS) : Option (Int32 × MS) :=
  (M_sign F σ s1) >>= fun r13 =>
  (M_number F r13) >>= fun r14 =>
  (some (r14.1)) >>= fun y15 =>
  M_goes_155 F k20 x1 x2 x3 x4 x5 y15 r14.2
def M_goes_132 (F : Nat) (k20 : Int32 → MS → Option (Int32 × MS)) (x1 : Int32) (x2 : Int32) (x3 : Int32) (x4 : Int32) (x5 : Int32) (σ : MS) : Option (Int32 × MS) :=
  if x2 = 120 then (
  M_goes_146 F k20 x1 x2 x3 x4 x5 45 σ)
  else (
  M_goes_146 F k20 x1 x2 x3 x4 x5 58 σ)
def M_goes_110 (F : Nat) (k20 : Int32 → MS → Option (Int32 × MS)) (x1 : Int32) (x2 : Int32) (x3 : Int32) (x4 : Int32) (s1 : Int32) (σ : MS) : Option (Int32 × MS) :=
  (M_sign F σ s1) >>= fun r9 =>
  (M_number F r9) >>= fun r10 =>
  (some (r10.1)) >>= fun y11 =>
  if x2 = 120 then (
  M_goes_132 F k20 x1 x2 x3 x4 y11 r10.2)
  else (
  if x3 = 0 then (
  M_goes_132 F k20 x1 x2 x3 x4 y11 r10.2)
  else (
  M_goes_155 F k20 x1 x2 x3 x4 y11 0 r10.2))
def M_goes_77 (F : Nat) (k20 : Int32 → MS → Option (Int32 × MS)) (x1 : Int32) (x2 : Int32) (x3 : Int32) (s1 : Int32) (s2 : Int32) (σ : MS) : Option (Int32 × MS) :=
  (some (sI σ 5 (s1 + s2))) >>= fun σ6 =>
  (M_number F σ6) >>= fun r7 =>
  (some (r7.1)) >>= fun y8 =>
  if x2 = 120 then (
  M_goes_110 F k20 x1 x2 x3 y8 58 r7.2)
  else (
  if x3 = 0 then (
  M_goes_110 F k20 x1 x2 x3 y8 45 r7.2)
  else (
  M_goes_110 F k20 x1 x2 x3 y8 61 r7.2))
def M_goes_62 (F : Nat) (k20 : Int32 → MS → Option (Int32 × MS)) (x1 : Int32) (x2 : Int32) (s0 : Int32) (σ : MS) : Option (Int32 × MS) :=
  if s0 = 0 then (
  M_goes_77 F k20 x1 x2 s0 (mI σ 5) 0 σ)
  else (
  M_goes_77 F k20 x1 x2 s0 (mI σ 5) 1 σ)
def M_goes_57 (F : Nat) (k20 : Int32 → MS → Option (Int32 × MS)) (x1 : Int32) (x2 : Int32) (σ : MS) : Option (Int32 × MS) :=
  M_goes_62 F k20 x1 x2 1 σ
def M_goes_209 (F : Nat) (σ : MS) : Option (Int32 × MS) :=
  some ((mI σ 6), σ)
def M_goes_20 (F : Nat) (x1 : Int32) : Nat → Int32 → MS → Option (Int32 × MS)
  | 0, _, _ => none
  | n + 1, x2, σ =>
    if (mI σ 2) ≤ (mI σ 5) then (
    M_goes_209 F σ)
    else (
    if (mI σ 6) = (-1) then (
    if x2 = 119 then (
    M_goes_57 F (M_goes_20 F x1 n) x1 x2 σ)
    else (
    if x2 = 118 then (
    M_goes_57 F (M_goes_20 F x1 n) x1 x2 σ)
    else (
    if x2 = 120 then (
    M_goes_57 F (M_goes_20 F x1 n) x1 x2 σ)
    else (
    M_goes_62 F (M_goes_20 F x1 n) x1 x2 0 σ))))
    else (
    M_goes_209 F σ))
def M_goes (F : Nat) (σ : MS) (x1 : Int32) : Option (Int32 × MS) :=
  (some (sI σ 5 0)) >>= fun σ1 =>
  (some (sI σ1 6 (-1))) >>= fun σ2 =>
  (some (sI σ2 7 0)) >>= fun σ3 =>
  (M_looking F σ3) >>= fun r4 =>
  (some (r4.1)) >>= fun y5 =>
  M_goes_20 F x1 F y5 r4.2
/- fault()I -/
def M_fault (F : Nat) (σ : MS) : Option (Int32 × MS) :=
  (some (sI σ 1 0)) >>= fun σ1 =>
  (M_goes F σ1 0) >>= fun r2 =>
  some (r2.1, r2.2)
/- run()I -/
def M_run_15 (F : Nat) (s1 : Int32) (σ : MS) : Option (Int32 × MS) :=
  (M_refused σ s1) >>= fun r2 =>
  if r2.1 = 0 then (
  (M_saves F r2.2) >>= fun r3 =>
  (M_goes F r3 1) >>= fun r4 =>
  some ((mI r4.2 7), r4.2))
  else (
  some (0, r2.2))
def M_run (F : Nat) (σ : MS) : Option (Int32 × MS) :=
  (M_goes F σ 0) >>= fun r1 =>
  if r1.1 = (-1) then (
  M_run_15 F 0 r1.2)
  else (
  M_run_15 F 1 r1.2)
/- mix(J)V -/
def M_mix (σ : MS) (x1 : Int64) : Option MS :=
  (some (sL σ 5 ((31 * (mL σ 5)) + x1))) >>= fun σ1 =>
  some σ1
/- mixCenters()V -/
def M_mixCenters_187 (F : Nat) (k154 : Int32 → MS → Option MS) (x2 : Int32) (σ : MS) : Option MS :=
  (some (x2 + 1)) >>= fun y27 =>
  k154 y27 σ
def M_mixCenters_164 (F : Nat) (k154 : Int32 → MS → Option MS) (x2 : Int32) : Nat → Int32 → MS → Option MS
  | 0, _, _ => none
  | n + 1, x3, σ =>
    if 4 ≤ x3 then (
    M_mixCenters_187 F k154 x2 σ)
    else (
    (M_cornerTold F σ x2 1 x3) >>= fun r24 =>
    (M_mix r24.2 ((r24.1).toInt64)) >>= fun r25 =>
    (some (x3 + 1)) >>= fun y26 =>
    M_mixCenters_164 F k154 x2 n y26 r25)
def M_mixCenters_154 (F : Nat) : Nat → Int32 → MS → Option MS
  | 0, _, _ => none
  | n + 1, x2, σ =>
    (M_edgeMany σ) >>= fun r23 =>
    if r23 ≤ x2 then (
    some σ)
    else (
    M_mixCenters_164 F (M_mixCenters_154 F n) x2 F 0 σ)
def M_mixCenters_113 (F : Nat) (σ : MS) : Option MS :=
  (M_laysBound F σ 2) >>= fun r18 =>
  (M_reduced F (mL r18 3) (mL r18 4) 0) >>= fun r19 =>
  (M_mix r18 (r19.toInt64)) >>= fun r20 =>
  (M_reduced F (mL r20 3) (mL r20 4) 1) >>= fun r21 =>
  (M_mix r20 (r21.toInt64)) >>= fun r22 =>
  M_mixCenters_154 F F 0 r22
def M_mixCenters_92 (F : Nat) : Nat → Int32 → MS → Option MS
  | 0, _, _ => none
  | n + 1, x2, σ =>
    if 5 ≤ x2 then (
    M_mixCenters_113 F σ)
    else (
    (M_medianTold F σ x2) >>= fun r15 =>
    (M_mix σ (r15.toInt64)) >>= fun r16 =>
    (some (x2 + 1)) >>= fun y17 =>
    M_mixCenters_92 F n y17 r16)
def M_mixCenters_76 (F : Nat) (x1 : Int32) (σ : MS) : Option MS :=
  (M_criticalNow F σ x1) >>= fun r12 =>
  (M_mix σ (r12.toInt64)) >>= fun r13 =>
  (M_medians F r13) >>= fun r14 =>
  M_mixCenters_92 F F 0 r14
def M_mixCenters_55 (F : Nat) (x1 : Int32) : Nat → Int32 → MS → Option MS
  | 0, _, _ => none
  | n + 1, x2, σ =>
    if 3 ≤ x2 then (
    M_mixCenters_76 F x1 σ)
    else (
    (M_centerTold F σ x2) >>= fun r9 =>
    (M_mix σ (r9.toInt64)) >>= fun r10 =>
    (some (x2 + 1)) >>= fun y11 =>
    M_mixCenters_55 F x1 n y11 r10)
def M_mixCenters (F : Nat) (σ : MS) : Option MS :=
  (M_many σ) >>= fun r1 =>
  (some ((1 <<< (r1 &&& 31)) - 1)) >>= fun y2 =>
  (M_weighs F σ 0) >>= fun r3 =>
  (M_centers F r3 y2) >>= fun r4 =>
  (M_reduced F (mL r4 2) (mL r4 1) 0) >>= fun r5 =>
  (M_mix r4 (r5.toInt64)) >>= fun r6 =>
  (M_reduced F (mL r6 2) (mL r6 1) 1) >>= fun r7 =>
  (M_mix r6 (r7.toInt64)) >>= fun r8 =>
  M_mixCenters_55 F y2 F 0 r8
/- checksum()J -/
def M_checksum_69 (F : Nat) (k37 : Int32 → MS → Option (Int64 × MS)) (x1 : Int32) (σ : MS) : Option (Int64 × MS) :=
  (some (x1 + 1)) >>= fun y11 =>
  k37 y11 σ
def M_checksum_47 (F : Nat) (k37 : Int32 → MS → Option (Int64 × MS)) (x1 : Int32) : Nat → Int32 → MS → Option (Int64 × MS)
  | 0, _, _ => none
  | n + 1, x2, σ =>
    if 3 ≤ x2 then (
    M_checksum_69 F k37 x1 σ)
    else (
    (M_nodeTold F σ x1 x2) >>= fun r7 =>
    (M_mix σ (r7.toInt64)) >>= fun r8 =>
    (some (x2 + 1)) >>= fun y9 =>
    M_checksum_47 F k37 x1 n y9 r8)
def M_checksum_109 (F : Nat) (k77 : Int32 → MS → Option (Int64 × MS)) (x1 : Int32) (σ : MS) : Option (Int64 × MS) :=
  (some (x1 + 1)) >>= fun y16 =>
  k77 y16 σ
def M_checksum_87 (F : Nat) (k77 : Int32 → MS → Option (Int64 × MS)) (x1 : Int32) : Nat → Int32 → MS → Option (Int64 × MS)
  | 0, _, _ => none
  | n + 1, x2, σ =>
    if 3 ≤ x2 then (
    M_checksum_109 F k77 x1 σ)
    else (
    (M_of σ x1 x2) >>= fun r12 =>
    (M_mix σ (r12.toInt64)) >>= fun r13 =>
    (some (x2 + 1)) >>= fun y14 =>
    M_checksum_87 F k77 x1 n y14 r13)
def M_checksum_149 (F : Nat) (k117 : Int32 → MS → Option (Int64 × MS)) (x1 : Int32) (σ : MS) : Option (Int64 × MS) :=
  (some (x1 + 1)) >>= fun y24 =>
  k117 y24 σ
def M_checksum_127 (F : Nat) (k117 : Int32 → MS → Option (Int64 × MS)) (x1 : Int32) : Nat → Int32 → MS → Option (Int64 × MS)
  | 0, _, _ => none
  | n + 1, x2, σ =>
    if 3 ≤ x2 then (
    M_checksum_149 F k117 x1 σ)
    else (
    (M_at σ x1 x2) >>= fun r19 =>
    (M_mix σ (r19.toInt64)) >>= fun r20 =>
    (some (x2 + 1)) >>= fun y21 =>
    M_checksum_127 F k117 x1 n y21 r20)
def M_checksum_166 (F : Nat) (σ : MS) : Option (Int64 × MS) :=
  (M_mix σ ((mI σ 2).toInt64)) >>= fun r22 =>
  (M_mix r22 ((mI r22 0).toInt64)) >>= fun r23 =>
  some ((mL r23 5), r23)
def M_checksum_155 (F : Nat) (σ : MS) : Option (Int64 × MS) :=
  (M_canHave F σ) >>= fun r17 =>
  if r17.1 = 0 then (
  M_checksum_166 F r17.2)
  else (
  (M_mixCenters F r17.2) >>= fun r18 =>
  M_checksum_166 F r18)
def M_checksum_117 (F : Nat) : Nat → Int32 → MS → Option (Int64 × MS)
  | 0, _, _ => none
  | n + 1, x1, σ =>
    (M_stretchMany σ) >>= fun r15 =>
    if r15 ≤ x1 then (
    M_checksum_155 F σ)
    else (
    M_checksum_127 F (M_checksum_117 F n) x1 F 0 σ)
def M_checksum_115 (F : Nat) (σ : MS) : Option (Int64 × MS) :=
  M_checksum_117 F F 0 σ
def M_checksum_77 (F : Nat) : Nat → Int32 → MS → Option (Int64 × MS)
  | 0, _, _ => none
  | n + 1, x1, σ =>
    (M_edgeMany σ) >>= fun r10 =>
    if r10 ≤ x1 then (
    M_checksum_115 F σ)
    else (
    M_checksum_87 F (M_checksum_77 F n) x1 F 0 σ)
def M_checksum_75 (F : Nat) (σ : MS) : Option (Int64 × MS) :=
  M_checksum_77 F F 0 σ
def M_checksum_37 (F : Nat) : Nat → Int32 → MS → Option (Int64 × MS)
  | 0, _, _ => none
  | n + 1, x1, σ =>
    (M_many σ) >>= fun r6 =>
    if r6 ≤ x1 then (
    M_checksum_75 F σ)
    else (
    M_checksum_47 F (M_checksum_37 F n) x1 F 0 σ)
def M_checksum_35 (F : Nat) (σ : MS) : Option (Int64 × MS) :=
  M_checksum_37 F F 0 σ
def M_checksum_14 (F : Nat) : Nat → Int32 → MS → Option (Int64 × MS)
  | 0, _, _ => none
  | n + 1, x1, σ =>
    if 4 ≤ x1 then (
    M_checksum_35 F σ)
    else (
    (M_counted F σ x1) >>= fun r3 =>
    (M_mix r3.2 ((r3.1).toInt64)) >>= fun r4 =>
    (some (x1 + 1)) >>= fun y5 =>
    M_checksum_14 F n y5 r4)
def M_checksum (F : Nat) (σ : MS) : Option (Int64 × MS) :=
  (some (sI σ 1 0)) >>= fun σ1 =>
  (some (sL σ1 5 18473)) >>= fun σ2 =>
  M_checksum_14 F F 0 σ2
