/-! THEIR WALKS (by program) -/
set_option maxRecDepth 100000
set_option maxHeartbeats 4000000

theorem tmono_X1_reset {F : Nat} {c : Nat} {S : St} {x0 : Nat} {x1 : Int32} {r : St} (h : T_X1_reset F c S x0 x1 = some r) : leG S r := by
  have q : MF mf_s (T_X1_reset F c S x0 x1) S := by
    unfold T_X1_reset
    refine mf_bind (fun _ _ => ?_)
    refine mf_bind (fun r1 hr1 => ?_)
    refine mf_tor (fun _ z => T_X1_check_le z) ?_
    refine mf_bind (fun r2 hr2 => ?_)
    exact mf_none
  exact q r h
theorem tm_X1_reset {P : GP} {l : Launch} (hO : okG P) (hst : l.stackTraces = false) (F : Nat) (c : Nat) (S : St) (x0 : Nat) (x1 : Int32) {r : St} (h : T_X1_reset F c S x0 x1 = some r) : TM l P yX1_reset (ws_ yX1_reset cX1_reset 3 (some .int)) 7 169 [.ref x0, .int x1] S (exn c) r := by
  refine TM.of (own := RX1) (lv := [(0, .ref x0), (1, .int x1)]) hO pl_X1 rfl (Nat.le_of_ble_eq_true rfl) rfl h (tmono_X1_reset h) (fun X C hm hnt _ => ?_)
  unfold T_X1_reset
  refine VF.bind (fun _ _ => ?_)
  refine v_iload_n C dX1_reset_0 1 rfl ?_
  refine v_iconst C dX1_reset_1 ci_1 ?_
  refine v_bipush C dX1_reset_2 cb_8 ?_
  refine v_callS_ri C (As := [.int x1, .int 1, .int 8]) (st := []) lk_X1_87 dX1_reset_4 rfl (Nat.le_of_ble_eq_true rfl) (Nat.le_of_ble_eq_true rfl) (Nat.le_of_ble_eq_true rfl) (fun _ z => met_X1_isIn hO S x1 1 8 z) (fun r1 hr1 => ?_)
  refine v_tor (fun S1 h1 => ?_) (fun _ => ?_)
  · exact g_callTS (As := [.int r1]) (st := []) C hm (fun x hx => (hnt x hx).elim) lk_X1_115 dX1_reset_7 rfl (Nat.le_of_ble_eq_true rfl) (Nat.le_of_ble_eq_true rfl) (Nat.le_of_ble_eq_true rfl) (tm_X1_checkThat hO hst c S r1 h1)
  · refine v_callS_rv C (As := [.int r1]) (st := []) lk_X1_115 dX1_reset_7 rfl (Nat.le_of_ble_eq_true rfl) (Nat.le_of_ble_eq_true rfl) (Nat.le_of_ble_eq_true rfl) (fun _ z => met_X1_checkThat hO S r1 z) (fun r2 hr2 => ?_)
    exact VF.none
theorem tmono_X1_checkNode {c : Nat} {S : St} {x0 : Nat} {x1 : Int32} {r : St} (h : T_X1_checkNode c S x0 x1 = some r) : leG S r := by
  have q : MF mf_s (T_X1_checkNode c S x0 x1) S := by
    unfold T_X1_checkNode
    refine mf_bind (fun _ _ => ?_)
    refine mf_bind (fun y1 hy1 => ?_)
    refine mf_bind (fun r2 hr2 => ?_)
    refine mf_tor (fun _ z => T_X1_check_le z) ?_
    refine mf_bind (fun r3 hr3 => ?_)
    exact mf_none
  exact q r h
theorem tm_X1_checkNode {P : GP} {l : Launch} (hO : okG P) (hst : l.stackTraces = false) (c : Nat) (S : St) (x0 : Nat) (x1 : Int32) {r : St} (h : T_X1_checkNode c S x0 x1 = some r) : TM l P yX1_checkNode (ws_ yX1_checkNode cX1_checkNode 2 none) 7 120 [.ref x0, .int x1] S (exn c) r := by
  refine TM.of (own := RX1) (lv := [(0, .ref x0), (1, .int x1)]) hO pl_X1 rfl (Nat.le_of_ble_eq_true rfl) rfl h (tmono_X1_checkNode h) (fun X C hm hnt _ => ?_)
  unfold T_X1_checkNode
  refine VF.bind (fun _ _ => ?_)
  refine v_aload_n C dX1_checkNode_0 0 rfl ?_
  refine g_getA C dX1_checkNode_1 cls_1 (Nat.le_of_ble_eq_true rfl) fl_X1_39 fs_X1_39 (fun y1 hy1 => ?_)
  refine v_iload_n C dX1_checkNode_4 1 rfl ?_
  refine g_callV_ri C (As := [.int x1]) (st := []) lk_X1_75 dX1_checkNode_5 rfl (Nat.le_of_ble_eq_true rfl) (Nat.le_of_ble_eq_true rfl) (Nat.le_of_ble_eq_true rfl) cls_2.1 rfl (fun _ z => rc_X2_isNode z) (fun _ z => met_X2_isNode hO S y1 x1 z) (fun r2 hr2 => ?_)
  refine v_tor (fun S1 h1 => ?_) (fun _ => ?_)
  · exact g_callTS (As := [.int r2]) (st := []) C hm (fun x hx => (hnt x hx).elim) lk_X1_79 dX1_checkNode_8 rfl (Nat.le_of_ble_eq_true rfl) (Nat.le_of_ble_eq_true rfl) (Nat.le_of_ble_eq_true rfl) (tm_X1_checkIndex hO hst c S r2 h1)
  · refine v_callS_rv C (As := [.int r2]) (st := []) lk_X1_79 dX1_checkNode_8 rfl (Nat.le_of_ble_eq_true rfl) (Nat.le_of_ble_eq_true rfl) (Nat.le_of_ble_eq_true rfl) (fun _ z => met_X1_checkIndex hO S r2 z) (fun r3 hr3 => ?_)
    exact VF.none
theorem tmono_X1_connect {F : Nat} {c : Nat} {S : St} {x0 : Nat} {x1 : Int32} {x2 : Int32} {x3 : Int32} {r : St} (h : T_X1_connect F c S x0 x1 x2 x3 = some r) : leG S r := by
  have q : MF mf_s (T_X1_connect F c S x0 x1 x2 x3) S := by
    unfold T_X1_connect
    refine mf_bind (fun _ _ => ?_)
    refine mf_tor (fun _ z => tmono_X1_checkNode z) ?_
    refine mf_bind (fun r1 hr1 => ?_)
    refine mf_tor (fun _ z => tmono_X1_checkNode z) ?_
    refine mf_bind (fun r2 hr2 => ?_)
    refine mf_bind (fun y3 hy3 => ?_)
    refine mf_bind (fun r4 hr4 => ?_)
    refine mf_tor (fun _ z => T_X1_check_le z) ?_
    refine mf_bind (fun r5 hr5 => ?_)
    refine mf_bind (fun y6 hy6 => ?_)
    refine mf_bind (fun r7 hr7 => ?_)
    refine mf_tor (fun _ z => T_X1_check_le z) ?_
    refine mf_bind (fun r8 hr8 => ?_)
    exact mf_none
  exact q r h
theorem tm_X1_connect {P : GP} {l : Launch} (hO : okG P) (hst : l.stackTraces = false) (F : Nat) (c : Nat) (S : St) (x0 : Nat) (x1 : Int32) (x2 : Int32) (x3 : Int32) {r : St} (h : T_X1_connect F c S x0 x1 x2 x3 = some r) : TM l P yX1_connect (ws_ yX1_connect cX1_connect 4 (some .int)) 9 169 [.ref x0, .int x1, .int x2, .int x3] S (exn c) r := by
  refine TM.of (own := RX1) (lv := [(0, .ref x0), (1, .int x1), (2, .int x2), (3, .int x3)]) hO pl_X1 rfl (Nat.le_of_ble_eq_true rfl) rfl h (tmono_X1_connect h) (fun X C hm hnt _ => ?_)
  unfold T_X1_connect
  refine VF.bind (fun _ _ => ?_)
  refine v_aload_n C dX1_connect_0 0 rfl ?_
  refine v_iload_n C dX1_connect_1 1 rfl ?_
  refine v_tor (fun S1 h1 => ?_) (fun _ => ?_)
  · exact g_callTV (As := [.int x1]) (st := []) C hm (fun x hx => (hnt x hx).elim) lk_X1_121 dX1_connect_2 rfl (Nat.le_of_ble_eq_true rfl) (Nat.le_of_ble_eq_true rfl) (Nat.le_of_ble_eq_true rfl) cls_1.1 rfl (rct_X1_checkNode h1) (tm_X1_checkNode hO hst c S x0 x1 h1)
  · refine g_callV_rv C (As := [.int x1]) (st := []) lk_X1_121 dX1_connect_2 rfl (Nat.le_of_ble_eq_true rfl) (Nat.le_of_ble_eq_true rfl) (Nat.le_of_ble_eq_true rfl) cls_1.1 rfl (fun _ z => rc_X1_checkNode z) (fun _ z => met_X1_checkNode hO S x0 x1 z) (fun r1 hr1 => ?_)
    refine v_aload_n C dX1_connect_5 0 rfl ?_
    refine v_iload_n C dX1_connect_6 2 rfl ?_
    refine v_tor (fun S1 h1 => ?_) (fun _ => ?_)
    · exact g_callTV (As := [.int x2]) (st := []) C hm (fun x hx => (hnt x hx).elim) lk_X1_121 dX1_connect_7 rfl (Nat.le_of_ble_eq_true rfl) (Nat.le_of_ble_eq_true rfl) (Nat.le_of_ble_eq_true rfl) cls_1.1 rfl (rct_X1_checkNode h1) (tm_X1_checkNode hO hst c S x0 x2 h1)
    · refine g_callV_rv C (As := [.int x2]) (st := []) lk_X1_121 dX1_connect_7 rfl (Nat.le_of_ble_eq_true rfl) (Nat.le_of_ble_eq_true rfl) (Nat.le_of_ble_eq_true rfl) cls_1.1 rfl (fun _ z => rc_X1_checkNode z) (fun _ z => met_X1_checkNode hO S x0 x2 z) (fun r2 hr2 => ?_)
      refine v_aload_n C dX1_connect_10 0 rfl ?_
      refine g_getA C dX1_connect_11 cls_1 (Nat.le_of_ble_eq_true rfl) fl_X1_39 fs_X1_39 (fun y3 hy3 => ?_)
      refine v_iload_n C dX1_connect_14 1 rfl ?_
      refine v_iload_n C dX1_connect_15 2 rfl ?_
      refine v_iload_n C dX1_connect_16 3 rfl ?_
      refine g_callV_ri C (As := [.int x1, .int x2, .int x3]) (st := []) lk_X1_124 dX1_connect_17 rfl (Nat.le_of_ble_eq_true rfl) (Nat.le_of_ble_eq_true rfl) (Nat.le_of_ble_eq_true rfl) cls_2.1 rfl (fun _ z => rc_X2_mayConnect z) (fun _ z => met_X2_mayConnect hO S y3 x1 x2 x3 z) (fun r4 hr4 => ?_)
      refine v_tor (fun S1 h1 => ?_) (fun _ => ?_)
      · exact g_callTS (As := [.int r4]) (st := []) C hm (fun x hx => (hnt x hx).elim) lk_X1_115 dX1_connect_20 rfl (Nat.le_of_ble_eq_true rfl) (Nat.le_of_ble_eq_true rfl) (Nat.le_of_ble_eq_true rfl) (tm_X1_checkThat hO hst c S r4 h1)
      · refine v_callS_rv C (As := [.int r4]) (st := []) lk_X1_115 dX1_connect_20 rfl (Nat.le_of_ble_eq_true rfl) (Nat.le_of_ble_eq_true rfl) (Nat.le_of_ble_eq_true rfl) (fun _ z => met_X1_checkThat hO S r4 z) (fun r5 hr5 => ?_)
        refine v_aload_n C dX1_connect_23 0 rfl ?_
        refine g_getA C dX1_connect_24 cls_1 (Nat.le_of_ble_eq_true rfl) fl_X1_39 fs_X1_39 (fun y6 hy6 => ?_)
        refine v_iload_n C dX1_connect_27 1 rfl ?_
        refine v_iload_n C dX1_connect_28 2 rfl ?_
        refine g_callV_ri C (As := [.int x1, .int x2]) (st := []) lk_X1_127 dX1_connect_29 rfl (Nat.le_of_ble_eq_true rfl) (Nat.le_of_ble_eq_true rfl) (Nat.le_of_ble_eq_true rfl) cls_2.1 rfl (fun _ z => rc_X2_hasRoomFor z) (fun _ z => met_X2_hasRoomFor hO F S y6 x1 x2 z) (fun r7 hr7 => ?_)
        refine v_tor (fun S1 h1 => ?_) (fun _ => ?_)
        · exact g_callTS (As := [.int r7]) (st := []) C hm (fun x hx => (hnt x hx).elim) lk_X1_131 dX1_connect_32 rfl (Nat.le_of_ble_eq_true rfl) (Nat.le_of_ble_eq_true rfl) (Nat.le_of_ble_eq_true rfl) (tm_X1_checkState hO hst c S r7 h1)
        · refine v_callS_rv C (As := [.int r7]) (st := []) lk_X1_131 dX1_connect_32 rfl (Nat.le_of_ble_eq_true rfl) (Nat.le_of_ble_eq_true rfl) (Nat.le_of_ble_eq_true rfl) (fun _ z => met_X1_checkState hO S r7 z) (fun r8 hr8 => ?_)
          exact VF.none
theorem tmono_X1_checkEdge {c : Nat} {S : St} {x0 : Nat} {x1 : Int32} {r : St} (h : T_X1_checkEdge c S x0 x1 = some r) : leG S r := by
  have q : MF mf_s (T_X1_checkEdge c S x0 x1) S := by
    unfold T_X1_checkEdge
    refine mf_bind (fun _ _ => ?_)
    refine mf_bind (fun y1 hy1 => ?_)
    refine mf_bind (fun y2 hy2 => ?_)
    refine mf_bind (fun y3 hy3 => ?_)
    refine mf_bind (fun r4 hr4 => ?_)
    refine mf_tor (fun _ z => T_X1_check_le z) ?_
    refine mf_bind (fun r5 hr5 => ?_)
    exact mf_none
  exact q r h
theorem tm_X1_checkEdge {P : GP} {l : Launch} (hO : okG P) (hst : l.stackTraces = false) (c : Nat) (S : St) (x0 : Nat) (x1 : Int32) {r : St} (h : T_X1_checkEdge c S x0 x1 = some r) : TM l P yX1_checkEdge (ws_ yX1_checkEdge cX1_checkEdge 2 none) 7 120 [.ref x0, .int x1] S (exn c) r := by
  refine TM.of (own := RX1) (lv := [(0, .ref x0), (1, .int x1)]) hO pl_X1 rfl (Nat.le_of_ble_eq_true rfl) rfl h (tmono_X1_checkEdge h) (fun X C hm hnt _ => ?_)
  unfold T_X1_checkEdge
  refine VF.bind (fun _ _ => ?_)
  refine v_iload_n C dX1_checkEdge_0 1 rfl ?_
  refine v_iconst C dX1_checkEdge_1 ci_0 ?_
  refine v_aload_n C dX1_checkEdge_2 0 rfl ?_
  refine g_getA C dX1_checkEdge_3 cls_1 (Nat.le_of_ble_eq_true rfl) fl_X1_39 fs_X1_39 (fun y1 hy1 => ?_)
  refine g_getA C dX1_checkEdge_6 cls_2 (Nat.le_of_ble_eq_true rfl) fl_X1_83 fs_X1_83 (fun y2 hy2 => ?_)
  refine g_alen (kd := 3) (fun _ => rfl) C dX1_checkEdge_9 (fun y3 hy3 => ?_)
  refine v_iconst C dX1_checkEdge_10 ci_1 ?_
  refine v_isub C dX1_checkEdge_11 ?_
  refine v_callS_ri C (As := [.int x1, .int 0, .int (y3 - 1)]) (st := []) lk_X1_87 dX1_checkEdge_12 rfl (Nat.le_of_ble_eq_true rfl) (Nat.le_of_ble_eq_true rfl) (Nat.le_of_ble_eq_true rfl) (fun _ z => met_X1_isIn hO S x1 0 (y3 - 1) z) (fun r4 hr4 => ?_)
  refine v_tor (fun S1 h1 => ?_) (fun _ => ?_)
  · exact g_callTS (As := [.int r4]) (st := []) C hm (fun x hx => (hnt x hx).elim) lk_X1_79 dX1_checkEdge_15 rfl (Nat.le_of_ble_eq_true rfl) (Nat.le_of_ble_eq_true rfl) (Nat.le_of_ble_eq_true rfl) (tm_X1_checkIndex hO hst c S r4 h1)
  · refine v_callS_rv C (As := [.int r4]) (st := []) lk_X1_79 dX1_checkEdge_15 rfl (Nat.le_of_ble_eq_true rfl) (Nat.le_of_ble_eq_true rfl) (Nat.le_of_ble_eq_true rfl) (fun _ z => met_X1_checkIndex hO S r4 z) (fun r5 hr5 => ?_)
    exact VF.none
theorem tmono_X1_disconnect {F : Nat} {c : Nat} {S : St} {x0 : Nat} {x1 : Int32} {r : St} (h : T_X1_disconnect F c S x0 x1 = some r) : leG S r := by
  have q : MF mf_s (T_X1_disconnect F c S x0 x1) S := by
    unfold T_X1_disconnect
    refine mf_bind (fun _ _ => ?_)
    refine mf_tor (fun _ z => tmono_X1_checkEdge z) ?_
    refine mf_bind (fun r1 hr1 => ?_)
    exact mf_none
  exact q r h
theorem tm_X1_disconnect {P : GP} {l : Launch} (hO : okG P) (hst : l.stackTraces = false) (F : Nat) (c : Nat) (S : St) (x0 : Nat) (x1 : Int32) {r : St} (h : T_X1_disconnect F c S x0 x1 = some r) : TM l P yX1_disconnect (ws_ yX1_disconnect cX1_disconnect 3 (some .int)) 13 299 [.ref x0, .int x1] S (exn c) r := by
  refine TM.of (own := RX1) (lv := [(0, .ref x0), (1, .int x1)]) hO pl_X1 rfl (Nat.le_of_ble_eq_true rfl) rfl h (tmono_X1_disconnect h) (fun X C hm hnt _ => ?_)
  unfold T_X1_disconnect
  refine VF.bind (fun _ _ => ?_)
  refine v_aload_n C dX1_disconnect_0 0 rfl ?_
  refine v_iload_n C dX1_disconnect_1 1 rfl ?_
  refine v_tor (fun S1 h1 => ?_) (fun _ => ?_)
  · exact g_callTV (As := [.int x1]) (st := []) C hm (fun x hx => (hnt x hx).elim) lk_X1_141 dX1_disconnect_2 rfl (Nat.le_of_ble_eq_true rfl) (Nat.le_of_ble_eq_true rfl) (Nat.le_of_ble_eq_true rfl) cls_1.1 rfl (rct_X1_checkEdge h1) (tm_X1_checkEdge hO hst c S x0 x1 h1)
  · refine g_callV_rv C (As := [.int x1]) (st := []) lk_X1_141 dX1_disconnect_2 rfl (Nat.le_of_ble_eq_true rfl) (Nat.le_of_ble_eq_true rfl) (Nat.le_of_ble_eq_true rfl) cls_1.1 rfl (fun _ z => rc_X1_checkEdge z) (fun _ z => met_X1_checkEdge hO S x0 x1 z) (fun r1 hr1 => ?_)
    exact VF.none
theorem tmono_X1_setWeight {F : Nat} {c : Nat} {S : St} {x0 : Nat} {x1 : Int32} {x2 : Int32} {r : St} (h : T_X1_setWeight F c S x0 x1 x2 = some r) : leG S r := by
  have q : MF mf_s (T_X1_setWeight F c S x0 x1 x2) S := by
    unfold T_X1_setWeight
    refine mf_bind (fun _ _ => ?_)
    refine mf_tor (fun _ z => tmono_X1_checkNode z) ?_
    refine mf_bind (fun r1 hr1 => ?_)
    refine mf_bind (fun r2 hr2 => ?_)
    refine mf_tor (fun _ z => T_X1_check_le z) ?_
    refine mf_bind (fun r3 hr3 => ?_)
    exact mf_none
  exact q r h
theorem tm_X1_setWeight {P : GP} {l : Launch} (hO : okG P) (hst : l.stackTraces = false) (F : Nat) (c : Nat) (S : St) (x0 : Nat) (x1 : Int32) (x2 : Int32) {r : St} (h : T_X1_setWeight F c S x0 x1 x2 = some r) : TM l P yX1_setWeight (ws_ yX1_setWeight cX1_setWeight 4 (some .int)) 9 169 [.ref x0, .int x1, .int x2] S (exn c) r := by
  refine TM.of (own := RX1) (lv := [(0, .ref x0), (1, .int x1), (2, .int x2)]) hO pl_X1 rfl (Nat.le_of_ble_eq_true rfl) rfl h (tmono_X1_setWeight h) (fun X C hm hnt _ => ?_)
  unfold T_X1_setWeight
  refine VF.bind (fun _ _ => ?_)
  refine v_aload_n C dX1_setWeight_0 0 rfl ?_
  refine v_iload_n C dX1_setWeight_1 1 rfl ?_
  refine v_tor (fun S1 h1 => ?_) (fun _ => ?_)
  · exact g_callTV (As := [.int x1]) (st := []) C hm (fun x hx => (hnt x hx).elim) lk_X1_121 dX1_setWeight_2 rfl (Nat.le_of_ble_eq_true rfl) (Nat.le_of_ble_eq_true rfl) (Nat.le_of_ble_eq_true rfl) cls_1.1 rfl (rct_X1_checkNode h1) (tm_X1_checkNode hO hst c S x0 x1 h1)
  · refine g_callV_rv C (As := [.int x1]) (st := []) lk_X1_121 dX1_setWeight_2 rfl (Nat.le_of_ble_eq_true rfl) (Nat.le_of_ble_eq_true rfl) (Nat.le_of_ble_eq_true rfl) cls_1.1 rfl (fun _ z => rc_X1_checkNode z) (fun _ z => met_X1_checkNode hO S x0 x1 z) (fun r1 hr1 => ?_)
    refine v_iload_n C dX1_setWeight_5 2 rfl ?_
    refine v_iconst C dX1_setWeight_6 ci_0 ?_
    refine v_bipush C dX1_setWeight_7 cb_9 ?_
    refine v_callS_ri C (As := [.int x2, .int 0, .int 9]) (st := []) lk_X1_87 dX1_setWeight_9 rfl (Nat.le_of_ble_eq_true rfl) (Nat.le_of_ble_eq_true rfl) (Nat.le_of_ble_eq_true rfl) (fun _ z => met_X1_isIn hO S x2 0 9 z) (fun r2 hr2 => ?_)
    refine v_tor (fun S1 h1 => ?_) (fun _ => ?_)
    · exact g_callTS (As := [.int r2]) (st := []) C hm (fun x hx => (hnt x hx).elim) lk_X1_115 dX1_setWeight_12 rfl (Nat.le_of_ble_eq_true rfl) (Nat.le_of_ble_eq_true rfl) (Nat.le_of_ble_eq_true rfl) (tm_X1_checkThat hO hst c S r2 h1)
    · refine v_callS_rv C (As := [.int r2]) (st := []) lk_X1_115 dX1_setWeight_12 rfl (Nat.le_of_ble_eq_true rfl) (Nat.le_of_ble_eq_true rfl) (Nat.le_of_ble_eq_true rfl) (fun _ z => met_X1_checkThat hO S r2 z) (fun r3 hr3 => ?_)
      exact VF.none
theorem tmono_X1_setTrend {F : Nat} {c : Nat} {S : St} {x0 : Nat} {x1 : Int32} {x2 : Int32} {r : St} (h : T_X1_setTrend F c S x0 x1 x2 = some r) : leG S r := by
  have q : MF mf_s (T_X1_setTrend F c S x0 x1 x2) S := by
    unfold T_X1_setTrend
    refine mf_bind (fun _ _ => ?_)
    refine mf_tor (fun _ z => tmono_X1_checkNode z) ?_
    refine mf_bind (fun r1 hr1 => ?_)
    refine mf_bind (fun r2 hr2 => ?_)
    refine mf_tor (fun _ z => T_X1_check_le z) ?_
    refine mf_bind (fun r3 hr3 => ?_)
    exact mf_none
  exact q r h
theorem tm_X1_setTrend {P : GP} {l : Launch} (hO : okG P) (hst : l.stackTraces = false) (F : Nat) (c : Nat) (S : St) (x0 : Nat) (x1 : Int32) (x2 : Int32) {r : St} (h : T_X1_setTrend F c S x0 x1 x2 = some r) : TM l P yX1_setTrend (ws_ yX1_setTrend cX1_setTrend 4 (some .int)) 9 169 [.ref x0, .int x1, .int x2] S (exn c) r := by
  refine TM.of (own := RX1) (lv := [(0, .ref x0), (1, .int x1), (2, .int x2)]) hO pl_X1 rfl (Nat.le_of_ble_eq_true rfl) rfl h (tmono_X1_setTrend h) (fun X C hm hnt _ => ?_)
  unfold T_X1_setTrend
  refine VF.bind (fun _ _ => ?_)
  refine v_aload_n C dX1_setTrend_0 0 rfl ?_
  refine v_iload_n C dX1_setTrend_1 1 rfl ?_
  refine v_tor (fun S1 h1 => ?_) (fun _ => ?_)
  · exact g_callTV (As := [.int x1]) (st := []) C hm (fun x hx => (hnt x hx).elim) lk_X1_121 dX1_setTrend_2 rfl (Nat.le_of_ble_eq_true rfl) (Nat.le_of_ble_eq_true rfl) (Nat.le_of_ble_eq_true rfl) cls_1.1 rfl (rct_X1_checkNode h1) (tm_X1_checkNode hO hst c S x0 x1 h1)
  · refine g_callV_rv C (As := [.int x1]) (st := []) lk_X1_121 dX1_setTrend_2 rfl (Nat.le_of_ble_eq_true rfl) (Nat.le_of_ble_eq_true rfl) (Nat.le_of_ble_eq_true rfl) cls_1.1 rfl (fun _ z => rc_X1_checkNode z) (fun _ z => met_X1_checkNode hO S x0 x1 z) (fun r1 hr1 => ?_)
    refine v_iload_n C dX1_setTrend_5 2 rfl ?_
    refine v_iconst C dX1_setTrend_6 ci_0 ?_
    refine v_bipush C dX1_setTrend_7 cb_9 ?_
    refine v_callS_ri C (As := [.int x2, .int 0, .int 9]) (st := []) lk_X1_87 dX1_setTrend_9 rfl (Nat.le_of_ble_eq_true rfl) (Nat.le_of_ble_eq_true rfl) (Nat.le_of_ble_eq_true rfl) (fun _ z => met_X1_isIn hO S x2 0 9 z) (fun r2 hr2 => ?_)
    refine v_tor (fun S1 h1 => ?_) (fun _ => ?_)
    · exact g_callTS (As := [.int r2]) (st := []) C hm (fun x hx => (hnt x hx).elim) lk_X1_115 dX1_setTrend_12 rfl (Nat.le_of_ble_eq_true rfl) (Nat.le_of_ble_eq_true rfl) (Nat.le_of_ble_eq_true rfl) (tm_X1_checkThat hO hst c S r2 h1)
    · refine v_callS_rv C (As := [.int r2]) (st := []) lk_X1_115 dX1_setTrend_12 rfl (Nat.le_of_ble_eq_true rfl) (Nat.le_of_ble_eq_true rfl) (Nat.le_of_ble_eq_true rfl) (fun _ z => met_X1_checkThat hO S r2 z) (fun r3 hr3 => ?_)
      exact VF.none
theorem ot_X1_forbid_36 {F : Nat} {c : Nat} {x0 : Nat} {x1 : Int32} {x2 : Int32} {x3 : Int32}  (s0 : Int32) (S : St) : MF mf_s (T_X1_forbid_36 F c x0 x1 x2 x3 s0 S) S := by
  unfold T_X1_forbid_36
  refine mf_tor (fun _ z => T_X1_check_le z) ?_
  refine mf_bind (fun r8 hr8 => ?_)
  exact mf_none
theorem tmono_X1_forbid {F : Nat} {c : Nat} {S : St} {x0 : Nat} {x1 : Int32} {x2 : Int32} {x3 : Int32} {r : St} (h : T_X1_forbid F c S x0 x1 x2 x3 = some r) : leG S r := by
  have q : MF mf_s (T_X1_forbid F c S x0 x1 x2 x3) S := by
    unfold T_X1_forbid
    refine mf_bind (fun _ _ => ?_)
    refine mf_tor (fun _ z => tmono_X1_checkEdge z) ?_
    refine mf_bind (fun r1 hr1 => ?_)
    refine mf_bind (fun y2 hy2 => ?_)
    refine mf_bind (fun r3 hr3 => ?_)
    refine mf_tor (fun _ z => T_X1_check_le z) ?_
    refine mf_bind (fun r4 hr4 => ?_)
    refine mf_bind (fun y5 hy5 => ?_)
    refine mf_bind (fun y6 hy6 => ?_)
    refine mf_bind (fun y7 hy7 => ?_)
    refine mf_ite ?_ ?_
    · exact (ot_X1_forbid_36 0 S)
    · exact (ot_X1_forbid_36 1 S)
  exact q r h
theorem wt_X1_forbid_36 {P : GP} {X : Ctx} {l : Launch} {S0 : St} {F : Nat} (hO : okG P) (C : CX (OG P) X l cX1_forbid 4 RX1 (some .int)) (hst : l.stackTraces = false) {c : Nat} (hm : X.2.2.2.2.2.2.2.2.2 = some (.inl (exn c))) (hnt : ∀ x ∈ X.2.2.2.2.2.2.2.2.1.exceptionTable.toList, False) {x0 : Nat} {x1 : Int32} {x2 : Int32} {x3 : Int32}  (s0 : Int32) (S : St) : VF (OG P) X 4 9 169 S0 f_mv (T_X1_forbid_36 F c x0 x1 x2 x3 s0 S) S 36 [(0, .ref x0), (1, .int x1), (2, .int x2), (3, .int x3)] [.int s0] := by
  unfold T_X1_forbid_36
  refine v_tor (fun S1 h1 => ?_) (fun _ => ?_)
  · exact g_callTS (As := [.int s0]) (st := []) C hm (fun x hx => (hnt x hx).elim) lk_X1_131 dX1_forbid_36 rfl (Nat.le_of_ble_eq_true rfl) (Nat.le_of_ble_eq_true rfl) (Nat.le_of_ble_eq_true rfl) (tm_X1_checkState hO hst c S s0 h1)
  · refine v_callS_rv C (As := [.int s0]) (st := []) lk_X1_131 dX1_forbid_36 rfl (Nat.le_of_ble_eq_true rfl) (Nat.le_of_ble_eq_true rfl) (Nat.le_of_ble_eq_true rfl) (fun _ z => met_X1_checkState hO S s0 z) (fun r8 hr8 => ?_)
    exact VF.none
theorem tm_X1_forbid {P : GP} {l : Launch} (hO : okG P) (hst : l.stackTraces = false) (F : Nat) (c : Nat) (S : St) (x0 : Nat) (x1 : Int32) (x2 : Int32) (x3 : Int32) {r : St} (h : T_X1_forbid F c S x0 x1 x2 x3 = some r) : TM l P yX1_forbid (ws_ yX1_forbid cX1_forbid 4 (some .int)) 9 169 [.ref x0, .int x1, .int x2, .int x3] S (exn c) r := by
  refine TM.of (own := RX1) (lv := [(0, .ref x0), (1, .int x1), (2, .int x2), (3, .int x3)]) hO pl_X1 rfl (Nat.le_of_ble_eq_true rfl) rfl h (tmono_X1_forbid h) (fun X C hm hnt _ => ?_)
  unfold T_X1_forbid
  refine VF.bind (fun _ _ => ?_)
  refine v_aload_n C dX1_forbid_0 0 rfl ?_
  refine v_iload_n C dX1_forbid_1 1 rfl ?_
  refine v_tor (fun S1 h1 => ?_) (fun _ => ?_)
  · exact g_callTV (As := [.int x1]) (st := []) C hm (fun x hx => (hnt x hx).elim) lk_X1_141 dX1_forbid_2 rfl (Nat.le_of_ble_eq_true rfl) (Nat.le_of_ble_eq_true rfl) (Nat.le_of_ble_eq_true rfl) cls_1.1 rfl (rct_X1_checkEdge h1) (tm_X1_checkEdge hO hst c S x0 x1 h1)
  · refine g_callV_rv C (As := [.int x1]) (st := []) lk_X1_141 dX1_forbid_2 rfl (Nat.le_of_ble_eq_true rfl) (Nat.le_of_ble_eq_true rfl) (Nat.le_of_ble_eq_true rfl) cls_1.1 rfl (fun _ z => rc_X1_checkEdge z) (fun _ z => met_X1_checkEdge hO S x0 x1 z) (fun r1 hr1 => ?_)
    refine v_aload_n C dX1_forbid_5 0 rfl ?_
    refine g_getA C dX1_forbid_6 cls_1 (Nat.le_of_ble_eq_true rfl) fl_X1_39 fs_X1_39 (fun y2 hy2 => ?_)
    refine v_iload_n C dX1_forbid_9 1 rfl ?_
    refine v_iload_n C dX1_forbid_10 2 rfl ?_
    refine v_iload_n C dX1_forbid_11 3 rfl ?_
    refine g_callV_ri C (As := [.int x1, .int x2, .int x3]) (st := []) lk_X1_166 dX1_forbid_12 rfl (Nat.le_of_ble_eq_true rfl) (Nat.le_of_ble_eq_true rfl) (Nat.le_of_ble_eq_true rfl) cls_2.1 rfl (fun _ z => rc_X2_mayForbid z) (fun _ z => met_X2_mayForbid hO S y2 x1 x2 x3 z) (fun r3 hr3 => ?_)
    refine v_tor (fun S1 h1 => ?_) (fun _ => ?_)
    · exact g_callTS (As := [.int r3]) (st := []) C hm (fun x hx => (hnt x hx).elim) lk_X1_115 dX1_forbid_15 rfl (Nat.le_of_ble_eq_true rfl) (Nat.le_of_ble_eq_true rfl) (Nat.le_of_ble_eq_true rfl) (tm_X1_checkThat hO hst c S r3 h1)
    · refine v_callS_rv C (As := [.int r3]) (st := []) lk_X1_115 dX1_forbid_15 rfl (Nat.le_of_ble_eq_true rfl) (Nat.le_of_ble_eq_true rfl) (Nat.le_of_ble_eq_true rfl) (fun _ z => met_X1_checkThat hO S r3 z) (fun r4 hr4 => ?_)
      refine v_aload_n C dX1_forbid_18 0 rfl ?_
      refine g_getA C dX1_forbid_19 cls_1 (Nat.le_of_ble_eq_true rfl) fl_X1_39 fs_X1_39 (fun y5 hy5 => ?_)
      refine g_getA C dX1_forbid_22 cls_2 (Nat.le_of_ble_eq_true rfl) fl_X1_144 fs_X1_144 (fun y6 hy6 => ?_)
      refine g_alen (kd := 4) (fun _ => rfl) C dX1_forbid_25 (fun y7 hy7 => ?_)
      refine v_bipush C dX1_forbid_26 cb_6 ?_
      refine v_icmp_ge C (tgt := 35) dX1_forbid_28 rfl (fun _ => ?_) (fun _ => ?_)
      · refine v_iconst C dX1_forbid_35 ci_0 ?_
        exact v_sub [0, 1, 2, 3] rfl (wt_X1_forbid_36 hO C hst hm hnt 0 S)
      · refine v_iconst C dX1_forbid_31 ci_1 ?_
        refine v_goto C (tgt := 36) dX1_forbid_32 rfl ?_
        exact v_sub [0, 1, 2, 3] rfl (wt_X1_forbid_36 hO C hst hm hnt 1 S)
theorem tmono_X1_checkStretch {c : Nat} {S : St} {x0 : Nat} {x1 : Int32} {r : St} (h : T_X1_checkStretch c S x0 x1 = some r) : leG S r := by
  have q : MF mf_s (T_X1_checkStretch c S x0 x1) S := by
    unfold T_X1_checkStretch
    refine mf_bind (fun _ _ => ?_)
    refine mf_bind (fun y1 hy1 => ?_)
    refine mf_bind (fun y2 hy2 => ?_)
    refine mf_bind (fun y3 hy3 => ?_)
    refine mf_bind (fun r4 hr4 => ?_)
    refine mf_tor (fun _ z => T_X1_check_le z) ?_
    refine mf_bind (fun r5 hr5 => ?_)
    exact mf_none
  exact q r h
theorem tm_X1_checkStretch {P : GP} {l : Launch} (hO : okG P) (hst : l.stackTraces = false) (c : Nat) (S : St) (x0 : Nat) (x1 : Int32) {r : St} (h : T_X1_checkStretch c S x0 x1 = some r) : TM l P yX1_checkStretch (ws_ yX1_checkStretch cX1_checkStretch 2 none) 7 120 [.ref x0, .int x1] S (exn c) r := by
  refine TM.of (own := RX1) (lv := [(0, .ref x0), (1, .int x1)]) hO pl_X1 rfl (Nat.le_of_ble_eq_true rfl) rfl h (tmono_X1_checkStretch h) (fun X C hm hnt _ => ?_)
  unfold T_X1_checkStretch
  refine VF.bind (fun _ _ => ?_)
  refine v_iload_n C dX1_checkStretch_0 1 rfl ?_
  refine v_iconst C dX1_checkStretch_1 ci_0 ?_
  refine v_aload_n C dX1_checkStretch_2 0 rfl ?_
  refine g_getA C dX1_checkStretch_3 cls_1 (Nat.le_of_ble_eq_true rfl) fl_X1_39 fs_X1_39 (fun y1 hy1 => ?_)
  refine g_getA C dX1_checkStretch_6 cls_2 (Nat.le_of_ble_eq_true rfl) fl_X1_144 fs_X1_144 (fun y2 hy2 => ?_)
  refine g_alen (kd := 4) (fun _ => rfl) C dX1_checkStretch_9 (fun y3 hy3 => ?_)
  refine v_iconst C dX1_checkStretch_10 ci_1 ?_
  refine v_isub C dX1_checkStretch_11 ?_
  refine v_callS_ri C (As := [.int x1, .int 0, .int (y3 - 1)]) (st := []) lk_X1_87 dX1_checkStretch_12 rfl (Nat.le_of_ble_eq_true rfl) (Nat.le_of_ble_eq_true rfl) (Nat.le_of_ble_eq_true rfl) (fun _ z => met_X1_isIn hO S x1 0 (y3 - 1) z) (fun r4 hr4 => ?_)
  refine v_tor (fun S1 h1 => ?_) (fun _ => ?_)
  · exact g_callTS (As := [.int r4]) (st := []) C hm (fun x hx => (hnt x hx).elim) lk_X1_79 dX1_checkStretch_15 rfl (Nat.le_of_ble_eq_true rfl) (Nat.le_of_ble_eq_true rfl) (Nat.le_of_ble_eq_true rfl) (tm_X1_checkIndex hO hst c S r4 h1)
  · refine v_callS_rv C (As := [.int r4]) (st := []) lk_X1_79 dX1_checkStretch_15 rfl (Nat.le_of_ble_eq_true rfl) (Nat.le_of_ble_eq_true rfl) (Nat.le_of_ble_eq_true rfl) (fun _ z => met_X1_checkIndex hO S r4 z) (fun r5 hr5 => ?_)
    exact VF.none
theorem tmono_X1_allow {F : Nat} {c : Nat} {S : St} {x0 : Nat} {x1 : Int32} {r : St} (h : T_X1_allow F c S x0 x1 = some r) : leG S r := by
  have q : MF mf_s (T_X1_allow F c S x0 x1) S := by
    unfold T_X1_allow
    refine mf_bind (fun _ _ => ?_)
    refine mf_tor (fun _ z => tmono_X1_checkStretch z) ?_
    refine mf_bind (fun r1 hr1 => ?_)
    exact mf_none
  exact q r h
theorem tm_X1_allow {P : GP} {l : Launch} (hO : okG P) (hst : l.stackTraces = false) (F : Nat) (c : Nat) (S : St) (x0 : Nat) (x1 : Int32) {r : St} (h : T_X1_allow F c S x0 x1 = some r) : TM l P yX1_allow (ws_ yX1_allow cX1_allow 3 (some .int)) 9 169 [.ref x0, .int x1] S (exn c) r := by
  refine TM.of (own := RX1) (lv := [(0, .ref x0), (1, .int x1)]) hO pl_X1 rfl (Nat.le_of_ble_eq_true rfl) rfl h (tmono_X1_allow h) (fun X C hm hnt _ => ?_)
  unfold T_X1_allow
  refine VF.bind (fun _ _ => ?_)
  refine v_aload_n C dX1_allow_0 0 rfl ?_
  refine v_iload_n C dX1_allow_1 1 rfl ?_
  refine v_tor (fun S1 h1 => ?_) (fun _ => ?_)
  · exact g_callTV (As := [.int x1]) (st := []) C hm (fun x hx => (hnt x hx).elim) lk_X1_176 dX1_allow_2 rfl (Nat.le_of_ble_eq_true rfl) (Nat.le_of_ble_eq_true rfl) (Nat.le_of_ble_eq_true rfl) cls_1.1 rfl (rct_X1_checkStretch h1) (tm_X1_checkStretch hO hst c S x0 x1 h1)
  · refine g_callV_rv C (As := [.int x1]) (st := []) lk_X1_176 dX1_allow_2 rfl (Nat.le_of_ble_eq_true rfl) (Nat.le_of_ble_eq_true rfl) (Nat.le_of_ble_eq_true rfl) cls_1.1 rfl (fun _ z => rc_X1_checkStretch z) (fun _ z => met_X1_checkStretch hO S x0 x1 z) (fun r1 hr1 => ?_)
    exact VF.none
theorem tmono_X1_count {F : Nat} {c : Nat} {S : St} {x0 : Nat} {x1 : Int32} {r : St} (h : T_X1_count F c S x0 x1 = some r) : leG S r := by
  have q : MF mf_s (T_X1_count F c S x0 x1) S := by
    unfold T_X1_count
    refine mf_bind (fun _ _ => ?_)
    refine mf_bind (fun r1 hr1 => ?_)
    refine mf_tor (fun _ z => T_X1_check_le z) ?_
    refine mf_bind (fun r2 hr2 => ?_)
    exact mf_none
  exact q r h
theorem tm_X1_count {P : GP} {l : Launch} (hO : okG P) (hst : l.stackTraces = false) (F : Nat) (c : Nat) (S : St) (x0 : Nat) (x1 : Int32) {r : St} (h : T_X1_count F c S x0 x1 = some r) : TM l P yX1_count (ws_ yX1_count cX1_count 2 (some .int)) 7 120 [.ref x0, .int x1] S (exn c) r := by
  refine TM.of (own := RX1) (lv := [(0, .ref x0), (1, .int x1)]) hO pl_X1 rfl (Nat.le_of_ble_eq_true rfl) rfl h (tmono_X1_count h) (fun X C hm hnt _ => ?_)
  unfold T_X1_count
  refine VF.bind (fun _ _ => ?_)
  refine v_iload_n C dX1_count_0 1 rfl ?_
  refine v_iconst C dX1_count_1 ci_0 ?_
  refine v_iconst C dX1_count_2 ci_3 ?_
  refine v_callS_ri C (As := [.int x1, .int 0, .int 3]) (st := []) lk_X1_87 dX1_count_3 rfl (Nat.le_of_ble_eq_true rfl) (Nat.le_of_ble_eq_true rfl) (Nat.le_of_ble_eq_true rfl) (fun _ z => met_X1_isIn hO S x1 0 3 z) (fun r1 hr1 => ?_)
  refine v_tor (fun S1 h1 => ?_) (fun _ => ?_)
  · exact g_callTS (As := [.int r1]) (st := []) C hm (fun x hx => (hnt x hx).elim) lk_X1_115 dX1_count_6 rfl (Nat.le_of_ble_eq_true rfl) (Nat.le_of_ble_eq_true rfl) (Nat.le_of_ble_eq_true rfl) (tm_X1_checkThat hO hst c S r1 h1)
  · refine v_callS_rv C (As := [.int r1]) (st := []) lk_X1_115 dX1_count_6 rfl (Nat.le_of_ble_eq_true rfl) (Nat.le_of_ble_eq_true rfl) (Nat.le_of_ble_eq_true rfl) (fun _ z => met_X1_checkThat hO S r1 z) (fun r2 hr2 => ?_)
    exact VF.none
theorem tmono_X1_edge {c : Nat} {S : St} {x0 : Nat} {x1 : Int32} {x2 : Int32} {r : St} (h : T_X1_edge c S x0 x1 x2 = some r) : leG S r := by
  have q : MF mf_s (T_X1_edge c S x0 x1 x2) S := by
    unfold T_X1_edge
    refine mf_bind (fun _ _ => ?_)
    refine mf_tor (fun _ z => tmono_X1_checkEdge z) ?_
    refine mf_bind (fun r1 hr1 => ?_)
    refine mf_bind (fun r2 hr2 => ?_)
    refine mf_tor (fun _ z => T_X1_check_le z) ?_
    refine mf_bind (fun r3 hr3 => ?_)
    exact mf_none
  exact q r h
theorem tm_X1_edge {P : GP} {l : Launch} (hO : okG P) (hst : l.stackTraces = false) (c : Nat) (S : St) (x0 : Nat) (x1 : Int32) (x2 : Int32) {r : St} (h : T_X1_edge c S x0 x1 x2 = some r) : TM l P yX1_edge (ws_ yX1_edge cX1_edge 3 (some .int)) 9 160 [.ref x0, .int x1, .int x2] S (exn c) r := by
  refine TM.of (own := RX1) (lv := [(0, .ref x0), (1, .int x1), (2, .int x2)]) hO pl_X1 rfl (Nat.le_of_ble_eq_true rfl) rfl h (tmono_X1_edge h) (fun X C hm hnt _ => ?_)
  unfold T_X1_edge
  refine VF.bind (fun _ _ => ?_)
  refine v_aload_n C dX1_edge_0 0 rfl ?_
  refine v_iload_n C dX1_edge_1 1 rfl ?_
  refine v_tor (fun S1 h1 => ?_) (fun _ => ?_)
  · exact g_callTV (As := [.int x1]) (st := []) C hm (fun x hx => (hnt x hx).elim) lk_X1_141 dX1_edge_2 rfl (Nat.le_of_ble_eq_true rfl) (Nat.le_of_ble_eq_true rfl) (Nat.le_of_ble_eq_true rfl) cls_1.1 rfl (rct_X1_checkEdge h1) (tm_X1_checkEdge hO hst c S x0 x1 h1)
  · refine g_callV_rv C (As := [.int x1]) (st := []) lk_X1_141 dX1_edge_2 rfl (Nat.le_of_ble_eq_true rfl) (Nat.le_of_ble_eq_true rfl) (Nat.le_of_ble_eq_true rfl) cls_1.1 rfl (fun _ z => rc_X1_checkEdge z) (fun _ z => met_X1_checkEdge hO S x0 x1 z) (fun r1 hr1 => ?_)
    refine v_iload_n C dX1_edge_5 2 rfl ?_
    refine v_iconst C dX1_edge_6 ci_0 ?_
    refine v_iconst C dX1_edge_7 ci_2 ?_
    refine v_callS_ri C (As := [.int x2, .int 0, .int 2]) (st := []) lk_X1_87 dX1_edge_8 rfl (Nat.le_of_ble_eq_true rfl) (Nat.le_of_ble_eq_true rfl) (Nat.le_of_ble_eq_true rfl) (fun _ z => met_X1_isIn hO S x2 0 2 z) (fun r2 hr2 => ?_)
    refine v_tor (fun S1 h1 => ?_) (fun _ => ?_)
    · exact g_callTS (As := [.int r2]) (st := []) C hm (fun x hx => (hnt x hx).elim) lk_X1_115 dX1_edge_11 rfl (Nat.le_of_ble_eq_true rfl) (Nat.le_of_ble_eq_true rfl) (Nat.le_of_ble_eq_true rfl) (tm_X1_checkThat hO hst c S r2 h1)
    · refine v_callS_rv C (As := [.int r2]) (st := []) lk_X1_115 dX1_edge_11 rfl (Nat.le_of_ble_eq_true rfl) (Nat.le_of_ble_eq_true rfl) (Nat.le_of_ble_eq_true rfl) (fun _ z => met_X1_checkThat hO S r2 z) (fun r3 hr3 => ?_)
      exact VF.none
theorem tmono_X1_node {F : Nat} {c : Nat} {S : St} {x0 : Nat} {x1 : Int32} {x2 : Int32} {r : St} (h : T_X1_node F c S x0 x1 x2 = some r) : leG S r := by
  have q : MF mf_s (T_X1_node F c S x0 x1 x2) S := by
    unfold T_X1_node
    refine mf_bind (fun _ _ => ?_)
    refine mf_tor (fun _ z => tmono_X1_checkNode z) ?_
    refine mf_bind (fun r1 hr1 => ?_)
    refine mf_bind (fun r2 hr2 => ?_)
    refine mf_tor (fun _ z => T_X1_check_le z) ?_
    refine mf_bind (fun r3 hr3 => ?_)
    exact mf_none
  exact q r h
theorem tm_X1_node {P : GP} {l : Launch} (hO : okG P) (hst : l.stackTraces = false) (F : Nat) (c : Nat) (S : St) (x0 : Nat) (x1 : Int32) (x2 : Int32) {r : St} (h : T_X1_node F c S x0 x1 x2 = some r) : TM l P yX1_node (ws_ yX1_node cX1_node 3 (some .int)) 9 160 [.ref x0, .int x1, .int x2] S (exn c) r := by
  refine TM.of (own := RX1) (lv := [(0, .ref x0), (1, .int x1), (2, .int x2)]) hO pl_X1 rfl (Nat.le_of_ble_eq_true rfl) rfl h (tmono_X1_node h) (fun X C hm hnt _ => ?_)
  unfold T_X1_node
  refine VF.bind (fun _ _ => ?_)
  refine v_aload_n C dX1_node_0 0 rfl ?_
  refine v_iload_n C dX1_node_1 1 rfl ?_
  refine v_tor (fun S1 h1 => ?_) (fun _ => ?_)
  · exact g_callTV (As := [.int x1]) (st := []) C hm (fun x hx => (hnt x hx).elim) lk_X1_121 dX1_node_2 rfl (Nat.le_of_ble_eq_true rfl) (Nat.le_of_ble_eq_true rfl) (Nat.le_of_ble_eq_true rfl) cls_1.1 rfl (rct_X1_checkNode h1) (tm_X1_checkNode hO hst c S x0 x1 h1)
  · refine g_callV_rv C (As := [.int x1]) (st := []) lk_X1_121 dX1_node_2 rfl (Nat.le_of_ble_eq_true rfl) (Nat.le_of_ble_eq_true rfl) (Nat.le_of_ble_eq_true rfl) cls_1.1 rfl (fun _ z => rc_X1_checkNode z) (fun _ z => met_X1_checkNode hO S x0 x1 z) (fun r1 hr1 => ?_)
    refine v_iload_n C dX1_node_5 2 rfl ?_
    refine v_iconst C dX1_node_6 ci_0 ?_
    refine v_iconst C dX1_node_7 ci_2 ?_
    refine v_callS_ri C (As := [.int x2, .int 0, .int 2]) (st := []) lk_X1_87 dX1_node_8 rfl (Nat.le_of_ble_eq_true rfl) (Nat.le_of_ble_eq_true rfl) (Nat.le_of_ble_eq_true rfl) (fun _ z => met_X1_isIn hO S x2 0 2 z) (fun r2 hr2 => ?_)
    refine v_tor (fun S1 h1 => ?_) (fun _ => ?_)
    · exact g_callTS (As := [.int r2]) (st := []) C hm (fun x hx => (hnt x hx).elim) lk_X1_115 dX1_node_11 rfl (Nat.le_of_ble_eq_true rfl) (Nat.le_of_ble_eq_true rfl) (Nat.le_of_ble_eq_true rfl) (tm_X1_checkThat hO hst c S r2 h1)
    · refine v_callS_rv C (As := [.int r2]) (st := []) lk_X1_115 dX1_node_11 rfl (Nat.le_of_ble_eq_true rfl) (Nat.le_of_ble_eq_true rfl) (Nat.le_of_ble_eq_true rfl) (fun _ z => met_X1_checkThat hO S r2 z) (fun r3 hr3 => ?_)
      exact VF.none
theorem tmono_X1_stretch {c : Nat} {S : St} {x0 : Nat} {x1 : Int32} {x2 : Int32} {r : St} (h : T_X1_stretch c S x0 x1 x2 = some r) : leG S r := by
  have q : MF mf_s (T_X1_stretch c S x0 x1 x2) S := by
    unfold T_X1_stretch
    refine mf_bind (fun _ _ => ?_)
    refine mf_tor (fun _ z => tmono_X1_checkStretch z) ?_
    refine mf_bind (fun r1 hr1 => ?_)
    refine mf_bind (fun r2 hr2 => ?_)
    refine mf_tor (fun _ z => T_X1_check_le z) ?_
    refine mf_bind (fun r3 hr3 => ?_)
    exact mf_none
  exact q r h
theorem tm_X1_stretch {P : GP} {l : Launch} (hO : okG P) (hst : l.stackTraces = false) (c : Nat) (S : St) (x0 : Nat) (x1 : Int32) (x2 : Int32) {r : St} (h : T_X1_stretch c S x0 x1 x2 = some r) : TM l P yX1_stretch (ws_ yX1_stretch cX1_stretch 3 (some .int)) 9 160 [.ref x0, .int x1, .int x2] S (exn c) r := by
  refine TM.of (own := RX1) (lv := [(0, .ref x0), (1, .int x1), (2, .int x2)]) hO pl_X1 rfl (Nat.le_of_ble_eq_true rfl) rfl h (tmono_X1_stretch h) (fun X C hm hnt _ => ?_)
  unfold T_X1_stretch
  refine VF.bind (fun _ _ => ?_)
  refine v_aload_n C dX1_stretch_0 0 rfl ?_
  refine v_iload_n C dX1_stretch_1 1 rfl ?_
  refine v_tor (fun S1 h1 => ?_) (fun _ => ?_)
  · exact g_callTV (As := [.int x1]) (st := []) C hm (fun x hx => (hnt x hx).elim) lk_X1_176 dX1_stretch_2 rfl (Nat.le_of_ble_eq_true rfl) (Nat.le_of_ble_eq_true rfl) (Nat.le_of_ble_eq_true rfl) cls_1.1 rfl (rct_X1_checkStretch h1) (tm_X1_checkStretch hO hst c S x0 x1 h1)
  · refine g_callV_rv C (As := [.int x1]) (st := []) lk_X1_176 dX1_stretch_2 rfl (Nat.le_of_ble_eq_true rfl) (Nat.le_of_ble_eq_true rfl) (Nat.le_of_ble_eq_true rfl) cls_1.1 rfl (fun _ z => rc_X1_checkStretch z) (fun _ z => met_X1_checkStretch hO S x0 x1 z) (fun r1 hr1 => ?_)
    refine v_iload_n C dX1_stretch_5 2 rfl ?_
    refine v_iconst C dX1_stretch_6 ci_0 ?_
    refine v_iconst C dX1_stretch_7 ci_2 ?_
    refine v_callS_ri C (As := [.int x2, .int 0, .int 2]) (st := []) lk_X1_87 dX1_stretch_8 rfl (Nat.le_of_ble_eq_true rfl) (Nat.le_of_ble_eq_true rfl) (Nat.le_of_ble_eq_true rfl) (fun _ z => met_X1_isIn hO S x2 0 2 z) (fun r2 hr2 => ?_)
    refine v_tor (fun S1 h1 => ?_) (fun _ => ?_)
    · exact g_callTS (As := [.int r2]) (st := []) C hm (fun x hx => (hnt x hx).elim) lk_X1_115 dX1_stretch_11 rfl (Nat.le_of_ble_eq_true rfl) (Nat.le_of_ble_eq_true rfl) (Nat.le_of_ble_eq_true rfl) (tm_X1_checkThat hO hst c S r2 h1)
    · refine v_callS_rv C (As := [.int r2]) (st := []) lk_X1_115 dX1_stretch_11 rfl (Nat.le_of_ble_eq_true rfl) (Nat.le_of_ble_eq_true rfl) (Nat.le_of_ble_eq_true rfl) (fun _ z => met_X1_checkThat hO S r2 z) (fun r3 hr3 => ?_)
      exact VF.none
theorem tmono_X1_distance {c : Nat} {S : St} {x0 : Nat} {x1 : Int32} {x2 : Int32} {r : St} (h : T_X1_distance c S x0 x1 x2 = some r) : leG S r := by
  have q : MF mf_s (T_X1_distance c S x0 x1 x2) S := by
    unfold T_X1_distance
    refine mf_bind (fun _ _ => ?_)
    refine mf_tor (fun _ z => tmono_X1_checkNode z) ?_
    refine mf_bind (fun r1 hr1 => ?_)
    refine mf_tor (fun _ z => tmono_X1_checkNode z) ?_
    refine mf_bind (fun r2 hr2 => ?_)
    exact mf_none
  exact q r h
theorem tm_X1_distance {P : GP} {l : Launch} (hO : okG P) (hst : l.stackTraces = false) (c : Nat) (S : St) (x0 : Nat) (x1 : Int32) (x2 : Int32) {r : St} (h : T_X1_distance c S x0 x1 x2 = some r) : TM l P yX1_distance (ws_ yX1_distance cX1_distance 3 (some .int)) 9 160 [.ref x0, .int x1, .int x2] S (exn c) r := by
  refine TM.of (own := RX1) (lv := [(0, .ref x0), (1, .int x1), (2, .int x2)]) hO pl_X1 rfl (Nat.le_of_ble_eq_true rfl) rfl h (tmono_X1_distance h) (fun X C hm hnt _ => ?_)
  unfold T_X1_distance
  refine VF.bind (fun _ _ => ?_)
  refine v_aload_n C dX1_distance_0 0 rfl ?_
  refine v_iload_n C dX1_distance_1 1 rfl ?_
  refine v_tor (fun S1 h1 => ?_) (fun _ => ?_)
  · exact g_callTV (As := [.int x1]) (st := []) C hm (fun x hx => (hnt x hx).elim) lk_X1_121 dX1_distance_2 rfl (Nat.le_of_ble_eq_true rfl) (Nat.le_of_ble_eq_true rfl) (Nat.le_of_ble_eq_true rfl) cls_1.1 rfl (rct_X1_checkNode h1) (tm_X1_checkNode hO hst c S x0 x1 h1)
  · refine g_callV_rv C (As := [.int x1]) (st := []) lk_X1_121 dX1_distance_2 rfl (Nat.le_of_ble_eq_true rfl) (Nat.le_of_ble_eq_true rfl) (Nat.le_of_ble_eq_true rfl) cls_1.1 rfl (fun _ z => rc_X1_checkNode z) (fun _ z => met_X1_checkNode hO S x0 x1 z) (fun r1 hr1 => ?_)
    refine v_aload_n C dX1_distance_5 0 rfl ?_
    refine v_iload_n C dX1_distance_6 2 rfl ?_
    refine v_tor (fun S1 h1 => ?_) (fun _ => ?_)
    · exact g_callTV (As := [.int x2]) (st := []) C hm (fun x hx => (hnt x hx).elim) lk_X1_121 dX1_distance_7 rfl (Nat.le_of_ble_eq_true rfl) (Nat.le_of_ble_eq_true rfl) (Nat.le_of_ble_eq_true rfl) cls_1.1 rfl (rct_X1_checkNode h1) (tm_X1_checkNode hO hst c S x0 x2 h1)
    · refine g_callV_rv C (As := [.int x2]) (st := []) lk_X1_121 dX1_distance_7 rfl (Nat.le_of_ble_eq_true rfl) (Nat.le_of_ble_eq_true rfl) (Nat.le_of_ble_eq_true rfl) cls_1.1 rfl (fun _ z => rc_X1_checkNode z) (fun _ z => met_X1_checkNode hO S x0 x2 z) (fun r2 hr2 => ?_)
      exact VF.none
theorem tmono_X1_next {F : Nat} {c : Nat} {S : St} {x0 : Nat} {x1 : Int32} {x2 : Int32} {r : St} (h : T_X1_next F c S x0 x1 x2 = some r) : leG S r := by
  have q : MF mf_s (T_X1_next F c S x0 x1 x2) S := by
    unfold T_X1_next
    refine mf_bind (fun _ _ => ?_)
    refine mf_tor (fun _ z => tmono_X1_checkNode z) ?_
    refine mf_bind (fun r1 hr1 => ?_)
    refine mf_tor (fun _ z => tmono_X1_checkNode z) ?_
    refine mf_bind (fun r2 hr2 => ?_)
    exact mf_none
  exact q r h
theorem tm_X1_next {P : GP} {l : Launch} (hO : okG P) (hst : l.stackTraces = false) (F : Nat) (c : Nat) (S : St) (x0 : Nat) (x1 : Int32) (x2 : Int32) {r : St} (h : T_X1_next F c S x0 x1 x2 = some r) : TM l P yX1_next (ws_ yX1_next cX1_next 8 (some .int)) 9 160 [.ref x0, .int x1, .int x2] S (exn c) r := by
  refine TM.of (own := RX1) (lv := [(0, .ref x0), (1, .int x1), (2, .int x2)]) hO pl_X1 rfl (Nat.le_of_ble_eq_true rfl) rfl h (tmono_X1_next h) (fun X C hm hnt _ => ?_)
  unfold T_X1_next
  refine VF.bind (fun _ _ => ?_)
  refine v_aload_n C dX1_next_0 0 rfl ?_
  refine v_iload_n C dX1_next_1 1 rfl ?_
  refine v_tor (fun S1 h1 => ?_) (fun _ => ?_)
  · exact g_callTV (As := [.int x1]) (st := []) C hm (fun x hx => (hnt x hx).elim) lk_X1_121 dX1_next_2 rfl (Nat.le_of_ble_eq_true rfl) (Nat.le_of_ble_eq_true rfl) (Nat.le_of_ble_eq_true rfl) cls_1.1 rfl (rct_X1_checkNode h1) (tm_X1_checkNode hO hst c S x0 x1 h1)
  · refine g_callV_rv C (As := [.int x1]) (st := []) lk_X1_121 dX1_next_2 rfl (Nat.le_of_ble_eq_true rfl) (Nat.le_of_ble_eq_true rfl) (Nat.le_of_ble_eq_true rfl) cls_1.1 rfl (fun _ z => rc_X1_checkNode z) (fun _ z => met_X1_checkNode hO S x0 x1 z) (fun r1 hr1 => ?_)
    refine v_aload_n C dX1_next_5 0 rfl ?_
    refine v_iload_n C dX1_next_6 2 rfl ?_
    refine v_tor (fun S1 h1 => ?_) (fun _ => ?_)
    · exact g_callTV (As := [.int x2]) (st := []) C hm (fun x hx => (hnt x hx).elim) lk_X1_121 dX1_next_7 rfl (Nat.le_of_ble_eq_true rfl) (Nat.le_of_ble_eq_true rfl) (Nat.le_of_ble_eq_true rfl) cls_1.1 rfl (rct_X1_checkNode h1) (tm_X1_checkNode hO hst c S x0 x2 h1)
    · refine g_callV_rv C (As := [.int x2]) (st := []) lk_X1_121 dX1_next_7 rfl (Nat.le_of_ble_eq_true rfl) (Nat.le_of_ble_eq_true rfl) (Nat.le_of_ble_eq_true rfl) cls_1.1 rfl (fun _ z => rc_X1_checkNode z) (fun _ z => met_X1_checkNode hO S x0 x2 z) (fun r2 hr2 => ?_)
      exact VF.none
theorem ot_X1_distanceTo_67 {c : Nat} {x0 : Nat} {x1 : Int32} {x2 : Int32} {x3 : Int32} {x4 : Int32} {x5 : Int32}  (s0 : Int32) (S : St) : MF mf_s (T_X1_distanceTo_67 c x0 x1 x2 x3 x4 x5 s0 S) S := by
  unfold T_X1_distanceTo_67
  refine mf_tor (fun _ z => T_X1_check_le z) ?_
  refine mf_bind (fun r12 hr12 => ?_)
  exact mf_none
theorem ot_X1_distanceTo_34 {c : Nat} {x0 : Nat} {x1 : Int32} {x2 : Int32} {x3 : Int32} {x4 : Int32} {x5 : Int32}  (s0 : Int32) (S : St) : MF mf_s (T_X1_distanceTo_34 c x0 x1 x2 x3 x4 x5 s0 S) S := by
  unfold T_X1_distanceTo_34
  refine mf_tor (fun _ z => T_X1_check_le z) ?_
  refine mf_bind (fun r5 hr5 => ?_)
  refine mf_bind (fun y6 hy6 => ?_)
  refine mf_bind (fun y7 hy7 => ?_)
  refine mf_bind (fun y8 hy8 => ?_)
  refine mf_bind (fun y9 hy9 => ?_)
  refine mf_bind (fun y10 hy10 => ?_)
  refine mf_bind (fun r11 hr11 => ?_)
  refine mf_ite ?_ ?_
  · exact (ot_X1_distanceTo_67 0 S)
  · exact (ot_X1_distanceTo_67 1 S)
theorem ot_X1_distanceTo_33 {c : Nat} {x0 : Nat} {x1 : Int32} {x2 : Int32} {x3 : Int32} {x4 : Int32} {x5 : Int32}  (S : St) : MF mf_s (T_X1_distanceTo_33 c x0 x1 x2 x3 x4 x5 S) S := by
  unfold T_X1_distanceTo_33
  exact (ot_X1_distanceTo_34 0 S)
theorem tmono_X1_distanceTo {c : Nat} {S : St} {x0 : Nat} {x1 : Int32} {x2 : Int32} {x3 : Int32} {x4 : Int32} {x5 : Int32} {r : St} (h : T_X1_distanceTo c S x0 x1 x2 x3 x4 x5 = some r) : leG S r := by
  have q : MF mf_s (T_X1_distanceTo c S x0 x1 x2 x3 x4 x5) S := by
    unfold T_X1_distanceTo
    refine mf_bind (fun _ _ => ?_)
    refine mf_tor (fun _ z => tmono_X1_checkNode z) ?_
    refine mf_bind (fun r1 hr1 => ?_)
    refine mf_tor (fun _ z => tmono_X1_checkEdge z) ?_
    refine mf_bind (fun r2 hr2 => ?_)
    refine mf_bind (fun r3 hr3 => ?_)
    refine mf_ite ?_ ?_
    · exact (ot_X1_distanceTo_33 S)
    · refine mf_bind (fun r4 hr4 => ?_)
      refine mf_ite ?_ ?_
      · exact (ot_X1_distanceTo_33 S)
      · exact (ot_X1_distanceTo_34 1 S)
  exact q r h
theorem wt_X1_distanceTo_67 {P : GP} {X : Ctx} {l : Launch} {S0 : St} (hO : okG P) (C : CX (OG P) X l cX1_distanceTo 6 RX1 (some .int)) (hst : l.stackTraces = false) {c : Nat} (hm : X.2.2.2.2.2.2.2.2.2 = some (.inl (exn c))) (hnt : ∀ x ∈ X.2.2.2.2.2.2.2.2.1.exceptionTable.toList, False) {x0 : Nat} {x1 : Int32} {x2 : Int32} {x3 : Int32} {x4 : Int32} {x5 : Int32}  (s0 : Int32) (S : St) : VF (OG P) X 6 42 1409 S0 f_mv (T_X1_distanceTo_67 c x0 x1 x2 x3 x4 x5 s0 S) S 67 [(0, .ref x0), (1, .int x1), (2, .int x2), (3, .int x3), (4, .int x4), (5, .int x5)] [.int s0] := by
  unfold T_X1_distanceTo_67
  refine v_tor (fun S1 h1 => ?_) (fun _ => ?_)
  · exact g_callTS (As := [.int s0]) (st := []) C hm (fun x hx => (hnt x hx).elim) lk_X1_131 dX1_distanceTo_67 rfl (Nat.le_of_ble_eq_true rfl) (Nat.le_of_ble_eq_true rfl) (Nat.le_of_ble_eq_true rfl) (tm_X1_checkState hO hst c S s0 h1)
  · refine v_callS_rv C (As := [.int s0]) (st := []) lk_X1_131 dX1_distanceTo_67 rfl (Nat.le_of_ble_eq_true rfl) (Nat.le_of_ble_eq_true rfl) (Nat.le_of_ble_eq_true rfl) (fun _ z => met_X1_checkState hO S s0 z) (fun r12 hr12 => ?_)
    exact VF.none
theorem wt_X1_distanceTo_34 {P : GP} {X : Ctx} {l : Launch} {S0 : St} (hO : okG P) (C : CX (OG P) X l cX1_distanceTo 6 RX1 (some .int)) (hst : l.stackTraces = false) {c : Nat} (hm : X.2.2.2.2.2.2.2.2.2 = some (.inl (exn c))) (hnt : ∀ x ∈ X.2.2.2.2.2.2.2.2.1.exceptionTable.toList, False) {x0 : Nat} {x1 : Int32} {x2 : Int32} {x3 : Int32} {x4 : Int32} {x5 : Int32}  (s0 : Int32) (S : St) : VF (OG P) X 6 42 1409 S0 f_mv (T_X1_distanceTo_34 c x0 x1 x2 x3 x4 x5 s0 S) S 34 [(0, .ref x0), (1, .int x1), (2, .int x2), (3, .int x3), (4, .int x4), (5, .int x5)] [.int s0] := by
  unfold T_X1_distanceTo_34
  refine v_tor (fun S1 h1 => ?_) (fun _ => ?_)
  · exact g_callTS (As := [.int s0]) (st := []) C hm (fun x hx => (hnt x hx).elim) lk_X1_115 dX1_distanceTo_34 rfl (Nat.le_of_ble_eq_true rfl) (Nat.le_of_ble_eq_true rfl) (Nat.le_of_ble_eq_true rfl) (tm_X1_checkThat hO hst c S s0 h1)
  · refine v_callS_rv C (As := [.int s0]) (st := []) lk_X1_115 dX1_distanceTo_34 rfl (Nat.le_of_ble_eq_true rfl) (Nat.le_of_ble_eq_true rfl) (Nat.le_of_ble_eq_true rfl) (fun _ z => met_X1_checkThat hO S s0 z) (fun r5 hr5 => ?_)
    refine v_aload_n C dX1_distanceTo_37 0 rfl ?_
    refine g_getA C dX1_distanceTo_38 cls_1 (Nat.le_of_ble_eq_true rfl) fl_X1_48 fs_X1_48 (fun y6 hy6 => ?_)
    refine v_iload_n C dX1_distanceTo_41 1 rfl ?_
    refine v_aload_n C dX1_distanceTo_42 0 rfl ?_
    refine g_getA C dX1_distanceTo_43 cls_1 (Nat.le_of_ble_eq_true rfl) fl_X1_39 fs_X1_39 (fun y7 hy7 => ?_)
    refine g_getA C dX1_distanceTo_46 cls_2 (Nat.le_of_ble_eq_true rfl) fl_X1_83 fs_X1_83 (fun y8 hy8 => ?_)
    refine v_iload_n C dX1_distanceTo_49 2 rfl ?_
    refine g_aalA3 C dX1_distanceTo_50 (fun y9 hy9 => ?_)
    refine g_getI C dX1_distanceTo_51 cls_4 (Nat.le_of_ble_eq_true rfl) fl_X1_208 fs_X1_208 (fun y10 hy10 => ?_)
    refine g_callV_ri C (As := [.int x1, .int y10]) (st := []) lk_X1_204 dX1_distanceTo_54 rfl (Nat.le_of_ble_eq_true rfl) (Nat.le_of_ble_eq_true rfl) (Nat.le_of_ble_eq_true rfl) cls_3.1 rfl (fun _ z => rc_X3_distance z) (fun _ z => met_X3_distance hO S y6 x1 y10 z) (fun r11 hr11 => ?_)
    refine v_ldc C dX1_distanceTo_57 q314 ?_
    refine v_icmp_ge C (tgt := 66) dX1_distanceTo_59 rfl (fun _ => ?_) (fun _ => ?_)
    · refine v_iconst C dX1_distanceTo_66 ci_0 ?_
      exact v_sub [0, 1, 2, 3, 4, 5] rfl (wt_X1_distanceTo_67 hO C hst hm hnt 0 S)
    · refine v_iconst C dX1_distanceTo_62 ci_1 ?_
      refine v_goto C (tgt := 67) dX1_distanceTo_63 rfl ?_
      exact v_sub [0, 1, 2, 3, 4, 5] rfl (wt_X1_distanceTo_67 hO C hst hm hnt 1 S)
theorem wt_X1_distanceTo_33 {P : GP} {X : Ctx} {l : Launch} {S0 : St} (hO : okG P) (C : CX (OG P) X l cX1_distanceTo 6 RX1 (some .int)) (hst : l.stackTraces = false) {c : Nat} (hm : X.2.2.2.2.2.2.2.2.2 = some (.inl (exn c))) (hnt : ∀ x ∈ X.2.2.2.2.2.2.2.2.1.exceptionTable.toList, False) {x0 : Nat} {x1 : Int32} {x2 : Int32} {x3 : Int32} {x4 : Int32} {x5 : Int32}  (S : St) : VF (OG P) X 6 42 1409 S0 f_mv (T_X1_distanceTo_33 c x0 x1 x2 x3 x4 x5 S) S 33 [(0, .ref x0), (1, .int x1), (2, .int x2), (3, .int x3), (4, .int x4), (5, .int x5)] [] := by
  unfold T_X1_distanceTo_33
  refine v_iconst C dX1_distanceTo_33 ci_0 ?_
  exact v_sub [0, 1, 2, 3, 4, 5] rfl (wt_X1_distanceTo_34 hO C hst hm hnt 0 S)
theorem tm_X1_distanceTo {P : GP} {l : Launch} (hO : okG P) (hst : l.stackTraces = false) (c : Nat) (S : St) (x0 : Nat) (x1 : Int32) (x2 : Int32) (x3 : Int32) (x4 : Int32) (x5 : Int32) {r : St} (h : T_X1_distanceTo c S x0 x1 x2 x3 x4 x5 = some r) : TM l P yX1_distanceTo (ws_ yX1_distanceTo cX1_distanceTo 6 (some .int)) 42 1409 [.ref x0, .int x1, .int x2, .int x3, .int x4, .int x5] S (exn c) r := by
  refine TM.of (own := RX1) (lv := [(0, .ref x0), (1, .int x1), (2, .int x2), (3, .int x3), (4, .int x4), (5, .int x5)]) hO pl_X1 rfl (Nat.le_of_ble_eq_true rfl) rfl h (tmono_X1_distanceTo h) (fun X C hm hnt _ => ?_)
  unfold T_X1_distanceTo
  refine VF.bind (fun _ _ => ?_)
  refine v_aload_n C dX1_distanceTo_0 0 rfl ?_
  refine v_iload_n C dX1_distanceTo_1 1 rfl ?_
  refine v_tor (fun S1 h1 => ?_) (fun _ => ?_)
  · exact g_callTV (As := [.int x1]) (st := []) C hm (fun x hx => (hnt x hx).elim) lk_X1_121 dX1_distanceTo_2 rfl (Nat.le_of_ble_eq_true rfl) (Nat.le_of_ble_eq_true rfl) (Nat.le_of_ble_eq_true rfl) cls_1.1 rfl (rct_X1_checkNode h1) (tm_X1_checkNode hO hst c S x0 x1 h1)
  · refine g_callV_rv C (As := [.int x1]) (st := []) lk_X1_121 dX1_distanceTo_2 rfl (Nat.le_of_ble_eq_true rfl) (Nat.le_of_ble_eq_true rfl) (Nat.le_of_ble_eq_true rfl) cls_1.1 rfl (fun _ z => rc_X1_checkNode z) (fun _ z => met_X1_checkNode hO S x0 x1 z) (fun r1 hr1 => ?_)
    refine v_aload_n C dX1_distanceTo_5 0 rfl ?_
    refine v_iload_n C dX1_distanceTo_6 2 rfl ?_
    refine v_tor (fun S1 h1 => ?_) (fun _ => ?_)
    · exact g_callTV (As := [.int x2]) (st := []) C hm (fun x hx => (hnt x hx).elim) lk_X1_141 dX1_distanceTo_7 rfl (Nat.le_of_ble_eq_true rfl) (Nat.le_of_ble_eq_true rfl) (Nat.le_of_ble_eq_true rfl) cls_1.1 rfl (rct_X1_checkEdge h1) (tm_X1_checkEdge hO hst c S x0 x2 h1)
    · refine g_callV_rv C (As := [.int x2]) (st := []) lk_X1_141 dX1_distanceTo_7 rfl (Nat.le_of_ble_eq_true rfl) (Nat.le_of_ble_eq_true rfl) (Nat.le_of_ble_eq_true rfl) cls_1.1 rfl (fun _ z => rc_X1_checkEdge z) (fun _ z => met_X1_checkEdge hO S x0 x2 z) (fun r2 hr2 => ?_)
      refine v_aload_n C dX1_distanceTo_10 0 rfl ?_
      refine v_iload_n C dX1_distanceTo_11 2 rfl ?_
      refine v_iload_n C dX1_distanceTo_12 3 rfl ?_
      refine v_iload C dX1_distanceTo_13 4 rfl ?_
      refine g_callV_ri C (As := [.int x2, .int x3, .int x4]) (st := []) lk_X1_220 dX1_distanceTo_15 rfl (Nat.le_of_ble_eq_true rfl) (Nat.le_of_ble_eq_true rfl) (Nat.le_of_ble_eq_true rfl) cls_1.1 rfl (fun _ z => rc_X1_isPoint z) (fun _ z => met_X1_isPoint hO S x0 x2 x3 x4 z) (fun r3 hr3 => ?_)
      refine v_if_eq C (tgt := 33) dX1_distanceTo_18 rfl (fun _ => ?_) (fun _ => ?_)
      · exact v_sub [0, 1, 2, 3, 4, 5] rfl (wt_X1_distanceTo_33 hO C hst hm hnt S)
      · refine v_iload C dX1_distanceTo_21 5 rfl ?_
        refine v_callS_ri C (As := [.int x5]) (st := []) lk_X1_223 dX1_distanceTo_23 rfl (Nat.le_of_ble_eq_true rfl) (Nat.le_of_ble_eq_true rfl) (Nat.le_of_ble_eq_true rfl) (fun _ z => met_X1_isPart hO S x5 z) (fun r4 hr4 => ?_)
        refine v_if_eq C (tgt := 33) dX1_distanceTo_26 rfl (fun _ => ?_) (fun _ => ?_)
        · exact v_sub [0, 1, 2, 3, 4, 5] rfl (wt_X1_distanceTo_33 hO C hst hm hnt S)
        · refine v_iconst C dX1_distanceTo_29 ci_1 ?_
          refine v_goto C (tgt := 34) dX1_distanceTo_30 rfl ?_
          exact v_sub [0, 1, 2, 3, 4, 5] rfl (wt_X1_distanceTo_34 hO C hst hm hnt 1 S)
theorem tmono_X1_isAllowed {F : Nat} {c : Nat} {S : St} {x0 : Nat} {x1 : Int32} {x2 : Int32} {x3 : Int32} {r : St} (h : T_X1_isAllowed F c S x0 x1 x2 x3 = some r) : leG S r := by
  have q : MF mf_s (T_X1_isAllowed F c S x0 x1 x2 x3) S := by
    unfold T_X1_isAllowed
    refine mf_bind (fun _ _ => ?_)
    refine mf_tor (fun _ z => tmono_X1_checkEdge z) ?_
    refine mf_bind (fun r1 hr1 => ?_)
    refine mf_bind (fun r2 hr2 => ?_)
    refine mf_tor (fun _ z => T_X1_check_le z) ?_
    refine mf_bind (fun r3 hr3 => ?_)
    exact mf_none
  exact q r h
theorem tm_X1_isAllowed {P : GP} {l : Launch} (hO : okG P) (hst : l.stackTraces = false) (F : Nat) (c : Nat) (S : St) (x0 : Nat) (x1 : Int32) (x2 : Int32) (x3 : Int32) {r : St} (h : T_X1_isAllowed F c S x0 x1 x2 x3 = some r) : TM l P yX1_isAllowed (ws_ yX1_isAllowed cX1_isAllowed 4 (some .boolean)) 9 160 [.ref x0, .int x1, .int x2, .int x3] S (exn c) r := by
  refine TM.of (own := RX1) (lv := [(0, .ref x0), (1, .int x1), (2, .int x2), (3, .int x3)]) hO pl_X1 rfl (Nat.le_of_ble_eq_true rfl) rfl h (tmono_X1_isAllowed h) (fun X C hm hnt _ => ?_)
  unfold T_X1_isAllowed
  refine VF.bind (fun _ _ => ?_)
  refine v_aload_n C dX1_isAllowed_0 0 rfl ?_
  refine v_iload_n C dX1_isAllowed_1 1 rfl ?_
  refine v_tor (fun S1 h1 => ?_) (fun _ => ?_)
  · exact g_callTV (As := [.int x1]) (st := []) C hm (fun x hx => (hnt x hx).elim) lk_X1_141 dX1_isAllowed_2 rfl (Nat.le_of_ble_eq_true rfl) (Nat.le_of_ble_eq_true rfl) (Nat.le_of_ble_eq_true rfl) cls_1.1 rfl (rct_X1_checkEdge h1) (tm_X1_checkEdge hO hst c S x0 x1 h1)
  · refine g_callV_rv C (As := [.int x1]) (st := []) lk_X1_141 dX1_isAllowed_2 rfl (Nat.le_of_ble_eq_true rfl) (Nat.le_of_ble_eq_true rfl) (Nat.le_of_ble_eq_true rfl) cls_1.1 rfl (fun _ z => rc_X1_checkEdge z) (fun _ z => met_X1_checkEdge hO S x0 x1 z) (fun r1 hr1 => ?_)
    refine v_aload_n C dX1_isAllowed_5 0 rfl ?_
    refine v_iload_n C dX1_isAllowed_6 1 rfl ?_
    refine v_iload_n C dX1_isAllowed_7 2 rfl ?_
    refine v_iload_n C dX1_isAllowed_8 3 rfl ?_
    refine g_callV_ri C (As := [.int x1, .int x2, .int x3]) (st := []) lk_X1_220 dX1_isAllowed_9 rfl (Nat.le_of_ble_eq_true rfl) (Nat.le_of_ble_eq_true rfl) (Nat.le_of_ble_eq_true rfl) cls_1.1 rfl (fun _ z => rc_X1_isPoint z) (fun _ z => met_X1_isPoint hO S x0 x1 x2 x3 z) (fun r2 hr2 => ?_)
    refine v_tor (fun S1 h1 => ?_) (fun _ => ?_)
    · exact g_callTS (As := [.int r2]) (st := []) C hm (fun x hx => (hnt x hx).elim) lk_X1_115 dX1_isAllowed_12 rfl (Nat.le_of_ble_eq_true rfl) (Nat.le_of_ble_eq_true rfl) (Nat.le_of_ble_eq_true rfl) (tm_X1_checkThat hO hst c S r2 h1)
    · refine v_callS_rv C (As := [.int r2]) (st := []) lk_X1_115 dX1_isAllowed_12 rfl (Nat.le_of_ble_eq_true rfl) (Nat.le_of_ble_eq_true rfl) (Nat.le_of_ble_eq_true rfl) (fun _ z => met_X1_checkThat hO S r2 z) (fun r3 hr3 => ?_)
      exact VF.none
theorem ot_X1_height_37 {F : Nat} {c : Nat} {x0 : Nat} {x1 : Int32} {x2 : Int32} {x3 : Int32} {x4 : Int32} {x5 : Int32}  (s0 : Int32) (S : St) : MF mf_s (T_X1_height_37 F c x0 x1 x2 x3 x4 x5 s0 S) S := by
  unfold T_X1_height_37
  refine mf_tor (fun _ z => T_X1_check_le z) ?_
  refine mf_bind (fun r5 hr5 => ?_)
  refine mf_bind (fun y6 hy6 => ?_)
  refine mf_bind (fun r7 hr7 => ?_)
  refine mf_tor (fun _ z => T_X1_check_le z) ?_
  refine mf_bind (fun r8 hr8 => ?_)
  exact mf_none
theorem ot_X1_height_36 {F : Nat} {c : Nat} {x0 : Nat} {x1 : Int32} {x2 : Int32} {x3 : Int32} {x4 : Int32} {x5 : Int32}  (S : St) : MF mf_s (T_X1_height_36 F c x0 x1 x2 x3 x4 x5 S) S := by
  unfold T_X1_height_36
  exact (ot_X1_height_37 0 S)
theorem tmono_X1_height {F : Nat} {c : Nat} {S : St} {x0 : Nat} {x1 : Int32} {x2 : Int32} {x3 : Int32} {x4 : Int32} {x5 : Int32} {r : St} (h : T_X1_height F c S x0 x1 x2 x3 x4 x5 = some r) : leG S r := by
  have q : MF mf_s (T_X1_height F c S x0 x1 x2 x3 x4 x5) S := by
    unfold T_X1_height
    refine mf_bind (fun _ _ => ?_)
    refine mf_tor (fun _ z => tmono_X1_checkEdge z) ?_
    refine mf_bind (fun r1 hr1 => ?_)
    refine mf_bind (fun r2 hr2 => ?_)
    refine mf_ite ?_ ?_
    · exact (ot_X1_height_36 S)
    · refine mf_bind (fun r3 hr3 => ?_)
      refine mf_ite ?_ ?_
      · exact (ot_X1_height_36 S)
      · refine mf_bind (fun r4 hr4 => ?_)
        refine mf_ite ?_ ?_
        · exact (ot_X1_height_36 S)
        · exact (ot_X1_height_37 1 S)
  exact q r h
theorem wt_X1_height_37 {P : GP} {X : Ctx} {l : Launch} {S0 : St} {F : Nat} (hO : okG P) (C : CX (OG P) X l cX1_height 6 RX1 (some .int)) (hst : l.stackTraces = false) {c : Nat} (hm : X.2.2.2.2.2.2.2.2.2 = some (.inl (exn c))) (hnt : ∀ x ∈ X.2.2.2.2.2.2.2.2.1.exceptionTable.toList, False) {x0 : Nat} {x1 : Int32} {x2 : Int32} {x3 : Int32} {x4 : Int32} {x5 : Int32}  (s0 : Int32) (S : St) : VF (OG P) X 6 42 1409 S0 f_mv (T_X1_height_37 F c x0 x1 x2 x3 x4 x5 s0 S) S 37 [(0, .ref x0), (1, .int x1), (2, .int x2), (3, .int x3), (4, .int x4), (5, .int x5)] [.int s0] := by
  unfold T_X1_height_37
  refine v_tor (fun S1 h1 => ?_) (fun _ => ?_)
  · exact g_callTS (As := [.int s0]) (st := []) C hm (fun x hx => (hnt x hx).elim) lk_X1_115 dX1_height_37 rfl (Nat.le_of_ble_eq_true rfl) (Nat.le_of_ble_eq_true rfl) (Nat.le_of_ble_eq_true rfl) (tm_X1_checkThat hO hst c S s0 h1)
  · refine v_callS_rv C (As := [.int s0]) (st := []) lk_X1_115 dX1_height_37 rfl (Nat.le_of_ble_eq_true rfl) (Nat.le_of_ble_eq_true rfl) (Nat.le_of_ble_eq_true rfl) (fun _ z => met_X1_checkThat hO S s0 z) (fun r5 hr5 => ?_)
    refine v_aload_n C dX1_height_40 0 rfl ?_
    refine g_getA C dX1_height_41 cls_1 (Nat.le_of_ble_eq_true rfl) fl_X1_48 fs_X1_48 (fun y6 hy6 => ?_)
    refine g_callV_ri C (As := []) (st := []) lk_X1_185 dX1_height_44 rfl (Nat.le_of_ble_eq_true rfl) (Nat.le_of_ble_eq_true rfl) (Nat.le_of_ble_eq_true rfl) cls_3.1 rfl (fun _ z => rc_X3_isConnected z) (fun _ z => met_X3_isConnected hO F S y6 z) (fun r7 hr7 => ?_)
    refine v_tor (fun S1 h1 => ?_) (fun _ => ?_)
    · exact g_callTS (As := [.int r7]) (st := []) C hm (fun x hx => (hnt x hx).elim) lk_X1_131 dX1_height_47 rfl (Nat.le_of_ble_eq_true rfl) (Nat.le_of_ble_eq_true rfl) (Nat.le_of_ble_eq_true rfl) (tm_X1_checkState hO hst c S r7 h1)
    · refine v_callS_rv C (As := [.int r7]) (st := []) lk_X1_131 dX1_height_47 rfl (Nat.le_of_ble_eq_true rfl) (Nat.le_of_ble_eq_true rfl) (Nat.le_of_ble_eq_true rfl) (fun _ z => met_X1_checkState hO S r7 z) (fun r8 hr8 => ?_)
      exact VF.none
theorem wt_X1_height_36 {P : GP} {X : Ctx} {l : Launch} {S0 : St} {F : Nat} (hO : okG P) (C : CX (OG P) X l cX1_height 6 RX1 (some .int)) (hst : l.stackTraces = false) {c : Nat} (hm : X.2.2.2.2.2.2.2.2.2 = some (.inl (exn c))) (hnt : ∀ x ∈ X.2.2.2.2.2.2.2.2.1.exceptionTable.toList, False) {x0 : Nat} {x1 : Int32} {x2 : Int32} {x3 : Int32} {x4 : Int32} {x5 : Int32}  (S : St) : VF (OG P) X 6 42 1409 S0 f_mv (T_X1_height_36 F c x0 x1 x2 x3 x4 x5 S) S 36 [(0, .ref x0), (1, .int x1), (2, .int x2), (3, .int x3), (4, .int x4), (5, .int x5)] [] := by
  unfold T_X1_height_36
  refine v_iconst C dX1_height_36 ci_0 ?_
  exact v_sub [0, 1, 2, 3, 4, 5] rfl (wt_X1_height_37 hO C hst hm hnt 0 S)
theorem tm_X1_height {P : GP} {l : Launch} (hO : okG P) (hst : l.stackTraces = false) (F : Nat) (c : Nat) (S : St) (x0 : Nat) (x1 : Int32) (x2 : Int32) (x3 : Int32) (x4 : Int32) (x5 : Int32) {r : St} (h : T_X1_height F c S x0 x1 x2 x3 x4 x5 = some r) : TM l P yX1_height (ws_ yX1_height cX1_height 6 (some .int)) 42 1409 [.ref x0, .int x1, .int x2, .int x3, .int x4, .int x5] S (exn c) r := by
  refine TM.of (own := RX1) (lv := [(0, .ref x0), (1, .int x1), (2, .int x2), (3, .int x3), (4, .int x4), (5, .int x5)]) hO pl_X1 rfl (Nat.le_of_ble_eq_true rfl) rfl h (tmono_X1_height h) (fun X C hm hnt _ => ?_)
  unfold T_X1_height
  refine VF.bind (fun _ _ => ?_)
  refine v_aload_n C dX1_height_0 0 rfl ?_
  refine v_iload_n C dX1_height_1 2 rfl ?_
  refine v_tor (fun S1 h1 => ?_) (fun _ => ?_)
  · exact g_callTV (As := [.int x2]) (st := []) C hm (fun x hx => (hnt x hx).elim) lk_X1_141 dX1_height_2 rfl (Nat.le_of_ble_eq_true rfl) (Nat.le_of_ble_eq_true rfl) (Nat.le_of_ble_eq_true rfl) cls_1.1 rfl (rct_X1_checkEdge h1) (tm_X1_checkEdge hO hst c S x0 x2 h1)
  · refine g_callV_rv C (As := [.int x2]) (st := []) lk_X1_141 dX1_height_2 rfl (Nat.le_of_ble_eq_true rfl) (Nat.le_of_ble_eq_true rfl) (Nat.le_of_ble_eq_true rfl) cls_1.1 rfl (fun _ z => rc_X1_checkEdge z) (fun _ z => met_X1_checkEdge hO S x0 x2 z) (fun r1 hr1 => ?_)
    refine v_aload_n C dX1_height_5 0 rfl ?_
    refine v_iload_n C dX1_height_6 1 rfl ?_
    refine g_callV_ri C (As := [.int x1]) (st := []) lk_X1_238 dX1_height_7 rfl (Nat.le_of_ble_eq_true rfl) (Nat.le_of_ble_eq_true rfl) (Nat.le_of_ble_eq_true rfl) cls_1.1 rfl (fun _ z => rc_X1_isSet z) (fun _ z => met_X1_isSet hO S x0 x1 z) (fun r2 hr2 => ?_)
    refine v_if_eq C (tgt := 36) dX1_height_10 rfl (fun _ => ?_) (fun _ => ?_)
    · exact v_sub [0, 1, 2, 3, 4, 5] rfl (wt_X1_height_36 hO C hst hm hnt S)
    · refine v_aload_n C dX1_height_13 0 rfl ?_
      refine v_iload_n C dX1_height_14 2 rfl ?_
      refine v_iload_n C dX1_height_15 3 rfl ?_
      refine v_iload C dX1_height_16 4 rfl ?_
      refine g_callV_ri C (As := [.int x2, .int x3, .int x4]) (st := []) lk_X1_220 dX1_height_18 rfl (Nat.le_of_ble_eq_true rfl) (Nat.le_of_ble_eq_true rfl) (Nat.le_of_ble_eq_true rfl) cls_1.1 rfl (fun _ z => rc_X1_isPoint z) (fun _ z => met_X1_isPoint hO S x0 x2 x3 x4 z) (fun r3 hr3 => ?_)
      refine v_if_eq C (tgt := 36) dX1_height_21 rfl (fun _ => ?_) (fun _ => ?_)
      · exact v_sub [0, 1, 2, 3, 4, 5] rfl (wt_X1_height_36 hO C hst hm hnt S)
      · refine v_iload C dX1_height_24 5 rfl ?_
        refine v_callS_ri C (As := [.int x5]) (st := []) lk_X1_223 dX1_height_26 rfl (Nat.le_of_ble_eq_true rfl) (Nat.le_of_ble_eq_true rfl) (Nat.le_of_ble_eq_true rfl) (fun _ z => met_X1_isPart hO S x5 z) (fun r4 hr4 => ?_)
        refine v_if_eq C (tgt := 36) dX1_height_29 rfl (fun _ => ?_) (fun _ => ?_)
        · exact v_sub [0, 1, 2, 3, 4, 5] rfl (wt_X1_height_36 hO C hst hm hnt S)
        · refine v_iconst C dX1_height_32 ci_1 ?_
          refine v_goto C (tgt := 37) dX1_height_33 rfl ?_
          exact v_sub [0, 1, 2, 3, 4, 5] rfl (wt_X1_height_37 hO C hst hm hnt 1 S)
theorem ot_X1_cost_28 {F : Nat} {c : Nat} {x0 : Nat} {x1 : Int32} {x2 : Int32} {x3 : Int32} {x4 : Int32}  (s0 : Int32) (S : St) : MF mf_s (T_X1_cost_28 F c x0 x1 x2 x3 x4 s0 S) S := by
  unfold T_X1_cost_28
  refine mf_tor (fun _ z => T_X1_check_le z) ?_
  refine mf_bind (fun r4 hr4 => ?_)
  refine mf_bind (fun y5 hy5 => ?_)
  refine mf_bind (fun r6 hr6 => ?_)
  refine mf_tor (fun _ z => T_X1_check_le z) ?_
  refine mf_bind (fun r7 hr7 => ?_)
  exact mf_none
theorem ot_X1_cost_27 {F : Nat} {c : Nat} {x0 : Nat} {x1 : Int32} {x2 : Int32} {x3 : Int32} {x4 : Int32}  (S : St) : MF mf_s (T_X1_cost_27 F c x0 x1 x2 x3 x4 S) S := by
  unfold T_X1_cost_27
  exact (ot_X1_cost_28 0 S)
theorem tmono_X1_cost {F : Nat} {c : Nat} {S : St} {x0 : Nat} {x1 : Int32} {x2 : Int32} {x3 : Int32} {x4 : Int32} {r : St} (h : T_X1_cost F c S x0 x1 x2 x3 x4 = some r) : leG S r := by
  have q : MF mf_s (T_X1_cost F c S x0 x1 x2 x3 x4) S := by
    unfold T_X1_cost
    refine mf_bind (fun _ _ => ?_)
    refine mf_tor (fun _ z => tmono_X1_checkEdge z) ?_
    refine mf_bind (fun r1 hr1 => ?_)
    refine mf_bind (fun r2 hr2 => ?_)
    refine mf_ite ?_ ?_
    · exact (ot_X1_cost_27 S)
    · refine mf_bind (fun r3 hr3 => ?_)
      refine mf_ite ?_ ?_
      · exact (ot_X1_cost_27 S)
      · exact (ot_X1_cost_28 1 S)
  exact q r h
theorem wt_X1_cost_28 {P : GP} {X : Ctx} {l : Launch} {S0 : St} {F : Nat} (hO : okG P) (C : CX (OG P) X l cX1_cost 5 RX1 (some .int)) (hst : l.stackTraces = false) {c : Nat} (hm : X.2.2.2.2.2.2.2.2.2 = some (.inl (exn c))) (hnt : ∀ x ∈ X.2.2.2.2.2.2.2.2.1.exceptionTable.toList, False) {x0 : Nat} {x1 : Int32} {x2 : Int32} {x3 : Int32} {x4 : Int32}  (s0 : Int32) (S : St) : VF (OG P) X 5 42 1409 S0 f_mv (T_X1_cost_28 F c x0 x1 x2 x3 x4 s0 S) S 28 [(0, .ref x0), (1, .int x1), (2, .int x2), (3, .int x3), (4, .int x4)] [.int s0] := by
  unfold T_X1_cost_28
  refine v_tor (fun S1 h1 => ?_) (fun _ => ?_)
  · exact g_callTS (As := [.int s0]) (st := []) C hm (fun x hx => (hnt x hx).elim) lk_X1_115 dX1_cost_28 rfl (Nat.le_of_ble_eq_true rfl) (Nat.le_of_ble_eq_true rfl) (Nat.le_of_ble_eq_true rfl) (tm_X1_checkThat hO hst c S s0 h1)
  · refine v_callS_rv C (As := [.int s0]) (st := []) lk_X1_115 dX1_cost_28 rfl (Nat.le_of_ble_eq_true rfl) (Nat.le_of_ble_eq_true rfl) (Nat.le_of_ble_eq_true rfl) (fun _ z => met_X1_checkThat hO S s0 z) (fun r4 hr4 => ?_)
    refine v_aload_n C dX1_cost_31 0 rfl ?_
    refine g_getA C dX1_cost_32 cls_1 (Nat.le_of_ble_eq_true rfl) fl_X1_48 fs_X1_48 (fun y5 hy5 => ?_)
    refine g_callV_ri C (As := []) (st := []) lk_X1_185 dX1_cost_35 rfl (Nat.le_of_ble_eq_true rfl) (Nat.le_of_ble_eq_true rfl) (Nat.le_of_ble_eq_true rfl) cls_3.1 rfl (fun _ z => rc_X3_isConnected z) (fun _ z => met_X3_isConnected hO F S y5 z) (fun r6 hr6 => ?_)
    refine v_tor (fun S1 h1 => ?_) (fun _ => ?_)
    · exact g_callTS (As := [.int r6]) (st := []) C hm (fun x hx => (hnt x hx).elim) lk_X1_131 dX1_cost_38 rfl (Nat.le_of_ble_eq_true rfl) (Nat.le_of_ble_eq_true rfl) (Nat.le_of_ble_eq_true rfl) (tm_X1_checkState hO hst c S r6 h1)
    · refine v_callS_rv C (As := [.int r6]) (st := []) lk_X1_131 dX1_cost_38 rfl (Nat.le_of_ble_eq_true rfl) (Nat.le_of_ble_eq_true rfl) (Nat.le_of_ble_eq_true rfl) (fun _ z => met_X1_checkState hO S r6 z) (fun r7 hr7 => ?_)
      exact VF.none
theorem wt_X1_cost_27 {P : GP} {X : Ctx} {l : Launch} {S0 : St} {F : Nat} (hO : okG P) (C : CX (OG P) X l cX1_cost 5 RX1 (some .int)) (hst : l.stackTraces = false) {c : Nat} (hm : X.2.2.2.2.2.2.2.2.2 = some (.inl (exn c))) (hnt : ∀ x ∈ X.2.2.2.2.2.2.2.2.1.exceptionTable.toList, False) {x0 : Nat} {x1 : Int32} {x2 : Int32} {x3 : Int32} {x4 : Int32}  (S : St) : VF (OG P) X 5 42 1409 S0 f_mv (T_X1_cost_27 F c x0 x1 x2 x3 x4 S) S 27 [(0, .ref x0), (1, .int x1), (2, .int x2), (3, .int x3), (4, .int x4)] [] := by
  unfold T_X1_cost_27
  refine v_iconst C dX1_cost_27 ci_0 ?_
  exact v_sub [0, 1, 2, 3, 4] rfl (wt_X1_cost_28 hO C hst hm hnt 0 S)
theorem tm_X1_cost {P : GP} {l : Launch} (hO : okG P) (hst : l.stackTraces = false) (F : Nat) (c : Nat) (S : St) (x0 : Nat) (x1 : Int32) (x2 : Int32) (x3 : Int32) (x4 : Int32) {r : St} (h : T_X1_cost F c S x0 x1 x2 x3 x4 = some r) : TM l P yX1_cost (ws_ yX1_cost cX1_cost 5 (some .int)) 42 1409 [.ref x0, .int x1, .int x2, .int x3, .int x4] S (exn c) r := by
  refine TM.of (own := RX1) (lv := [(0, .ref x0), (1, .int x1), (2, .int x2), (3, .int x3), (4, .int x4)]) hO pl_X1 rfl (Nat.le_of_ble_eq_true rfl) rfl h (tmono_X1_cost h) (fun X C hm hnt _ => ?_)
  unfold T_X1_cost
  refine VF.bind (fun _ _ => ?_)
  refine v_aload_n C dX1_cost_0 0 rfl ?_
  refine v_iload_n C dX1_cost_1 1 rfl ?_
  refine v_tor (fun S1 h1 => ?_) (fun _ => ?_)
  · exact g_callTV (As := [.int x1]) (st := []) C hm (fun x hx => (hnt x hx).elim) lk_X1_141 dX1_cost_2 rfl (Nat.le_of_ble_eq_true rfl) (Nat.le_of_ble_eq_true rfl) (Nat.le_of_ble_eq_true rfl) cls_1.1 rfl (rct_X1_checkEdge h1) (tm_X1_checkEdge hO hst c S x0 x1 h1)
  · refine g_callV_rv C (As := [.int x1]) (st := []) lk_X1_141 dX1_cost_2 rfl (Nat.le_of_ble_eq_true rfl) (Nat.le_of_ble_eq_true rfl) (Nat.le_of_ble_eq_true rfl) cls_1.1 rfl (fun _ z => rc_X1_checkEdge z) (fun _ z => met_X1_checkEdge hO S x0 x1 z) (fun r1 hr1 => ?_)
    refine v_aload_n C dX1_cost_5 0 rfl ?_
    refine v_iload_n C dX1_cost_6 1 rfl ?_
    refine v_iload_n C dX1_cost_7 2 rfl ?_
    refine v_iload_n C dX1_cost_8 3 rfl ?_
    refine g_callV_ri C (As := [.int x1, .int x2, .int x3]) (st := []) lk_X1_220 dX1_cost_9 rfl (Nat.le_of_ble_eq_true rfl) (Nat.le_of_ble_eq_true rfl) (Nat.le_of_ble_eq_true rfl) cls_1.1 rfl (fun _ z => rc_X1_isPoint z) (fun _ z => met_X1_isPoint hO S x0 x1 x2 x3 z) (fun r2 hr2 => ?_)
    refine v_if_eq C (tgt := 27) dX1_cost_12 rfl (fun _ => ?_) (fun _ => ?_)
    · exact v_sub [0, 1, 2, 3, 4] rfl (wt_X1_cost_27 hO C hst hm hnt S)
    · refine v_iload C dX1_cost_15 4 rfl ?_
      refine v_callS_ri C (As := [.int x4]) (st := []) lk_X1_223 dX1_cost_17 rfl (Nat.le_of_ble_eq_true rfl) (Nat.le_of_ble_eq_true rfl) (Nat.le_of_ble_eq_true rfl) (fun _ z => met_X1_isPart hO S x4 z) (fun r3 hr3 => ?_)
      refine v_if_eq C (tgt := 27) dX1_cost_20 rfl (fun _ => ?_) (fun _ => ?_)
      · exact v_sub [0, 1, 2, 3, 4] rfl (wt_X1_cost_27 hO C hst hm hnt S)
      · refine v_iconst C dX1_cost_23 ci_1 ?_
        refine v_goto C (tgt := 28) dX1_cost_24 rfl ?_
        exact v_sub [0, 1, 2, 3, 4] rfl (wt_X1_cost_28 hO C hst hm hnt 1 S)
theorem tmono_X1_corner {F : Nat} {c : Nat} {S : St} {x0 : Nat} {x1 : Int32} {x2 : Int32} {x3 : Int32} {r : St} (h : T_X1_corner F c S x0 x1 x2 x3 = some r) : leG S r := by
  have q : MF mf_s (T_X1_corner F c S x0 x1 x2 x3) S := by
    unfold T_X1_corner
    refine mf_bind (fun _ _ => ?_)
    refine mf_tor (fun _ z => tmono_X1_checkEdge z) ?_
    refine mf_bind (fun r1 hr1 => ?_)
    refine mf_bind (fun r2 hr2 => ?_)
    refine mf_tor (fun _ z => T_X1_check_le z) ?_
    refine mf_bind (fun r3 hr3 => ?_)
    refine mf_bind (fun y4 hy4 => ?_)
    refine mf_bind (fun r5 hr5 => ?_)
    refine mf_tor (fun _ z => T_X1_check_le z) ?_
    refine mf_bind (fun r6 hr6 => ?_)
    exact mf_none
  exact q r h
theorem tm_X1_corner {P : GP} {l : Launch} (hO : okG P) (hst : l.stackTraces = false) (F : Nat) (c : Nat) (S : St) (x0 : Nat) (x1 : Int32) (x2 : Int32) (x3 : Int32) {r : St} (h : T_X1_corner F c S x0 x1 x2 x3 = some r) : TM l P yX1_corner (ws_ yX1_corner cX1_corner 4 (some .int)) 49 3188 [.ref x0, .int x1, .int x2, .int x3] S (exn c) r := by
  refine TM.of (own := RX1) (lv := [(0, .ref x0), (1, .int x1), (2, .int x2), (3, .int x3)]) hO pl_X1 rfl (Nat.le_of_ble_eq_true rfl) rfl h (tmono_X1_corner h) (fun X C hm hnt _ => ?_)
  unfold T_X1_corner
  refine VF.bind (fun _ _ => ?_)
  refine v_aload_n C dX1_corner_0 0 rfl ?_
  refine v_iload_n C dX1_corner_1 1 rfl ?_
  refine v_tor (fun S1 h1 => ?_) (fun _ => ?_)
  · exact g_callTV (As := [.int x1]) (st := []) C hm (fun x hx => (hnt x hx).elim) lk_X1_141 dX1_corner_2 rfl (Nat.le_of_ble_eq_true rfl) (Nat.le_of_ble_eq_true rfl) (Nat.le_of_ble_eq_true rfl) cls_1.1 rfl (rct_X1_checkEdge h1) (tm_X1_checkEdge hO hst c S x0 x1 h1)
  · refine g_callV_rv C (As := [.int x1]) (st := []) lk_X1_141 dX1_corner_2 rfl (Nat.le_of_ble_eq_true rfl) (Nat.le_of_ble_eq_true rfl) (Nat.le_of_ble_eq_true rfl) cls_1.1 rfl (fun _ z => rc_X1_checkEdge z) (fun _ z => met_X1_checkEdge hO S x0 x1 z) (fun r1 hr1 => ?_)
    refine v_iload_n C dX1_corner_5 3 rfl ?_
    refine v_iconst C dX1_corner_6 ci_0 ?_
    refine v_iconst C dX1_corner_7 ci_3 ?_
    refine v_callS_ri C (As := [.int x3, .int 0, .int 3]) (st := []) lk_X1_87 dX1_corner_8 rfl (Nat.le_of_ble_eq_true rfl) (Nat.le_of_ble_eq_true rfl) (Nat.le_of_ble_eq_true rfl) (fun _ z => met_X1_isIn hO S x3 0 3 z) (fun r2 hr2 => ?_)
    refine v_tor (fun S1 h1 => ?_) (fun _ => ?_)
    · exact g_callTS (As := [.int r2]) (st := []) C hm (fun x hx => (hnt x hx).elim) lk_X1_115 dX1_corner_11 rfl (Nat.le_of_ble_eq_true rfl) (Nat.le_of_ble_eq_true rfl) (Nat.le_of_ble_eq_true rfl) (tm_X1_checkThat hO hst c S r2 h1)
    · refine v_callS_rv C (As := [.int r2]) (st := []) lk_X1_115 dX1_corner_11 rfl (Nat.le_of_ble_eq_true rfl) (Nat.le_of_ble_eq_true rfl) (Nat.le_of_ble_eq_true rfl) (fun _ z => met_X1_checkThat hO S r2 z) (fun r3 hr3 => ?_)
      refine v_aload_n C dX1_corner_14 0 rfl ?_
      refine g_getA C dX1_corner_15 cls_1 (Nat.le_of_ble_eq_true rfl) fl_X1_48 fs_X1_48 (fun y4 hy4 => ?_)
      refine g_callV_ri C (As := []) (st := []) lk_X1_185 dX1_corner_18 rfl (Nat.le_of_ble_eq_true rfl) (Nat.le_of_ble_eq_true rfl) (Nat.le_of_ble_eq_true rfl) cls_3.1 rfl (fun _ z => rc_X3_isConnected z) (fun _ z => met_X3_isConnected hO F S y4 z) (fun r5 hr5 => ?_)
      refine v_tor (fun S1 h1 => ?_) (fun _ => ?_)
      · exact g_callTS (As := [.int r5]) (st := []) C hm (fun x hx => (hnt x hx).elim) lk_X1_131 dX1_corner_21 rfl (Nat.le_of_ble_eq_true rfl) (Nat.le_of_ble_eq_true rfl) (Nat.le_of_ble_eq_true rfl) (tm_X1_checkState hO hst c S r5 h1)
      · refine v_callS_rv C (As := [.int r5]) (st := []) lk_X1_131 dX1_corner_21 rfl (Nat.le_of_ble_eq_true rfl) (Nat.le_of_ble_eq_true rfl) (Nat.le_of_ble_eq_true rfl) (fun _ z => met_X1_checkState hO S r5 z) (fun r6 hr6 => ?_)
        exact VF.none
theorem ot_X1_radius_20 {F : Nat} {c : Nat} {x0 : Nat} {x1 : Int32} {x2 : Int32}  (s0 : Int32) (S : St) : MF mf_s (T_X1_radius_20 F c x0 x1 x2 s0 S) S := by
  unfold T_X1_radius_20
  refine mf_tor (fun _ z => T_X1_check_le z) ?_
  refine mf_bind (fun r3 hr3 => ?_)
  refine mf_bind (fun y4 hy4 => ?_)
  refine mf_bind (fun r5 hr5 => ?_)
  refine mf_tor (fun _ z => T_X1_check_le z) ?_
  refine mf_bind (fun r6 hr6 => ?_)
  exact mf_none
theorem ot_X1_radius_19 {F : Nat} {c : Nat} {x0 : Nat} {x1 : Int32} {x2 : Int32}  (S : St) : MF mf_s (T_X1_radius_19 F c x0 x1 x2 S) S := by
  unfold T_X1_radius_19
  exact (ot_X1_radius_20 0 S)
theorem tmono_X1_radius {F : Nat} {c : Nat} {S : St} {x0 : Nat} {x1 : Int32} {x2 : Int32} {r : St} (h : T_X1_radius F c S x0 x1 x2 = some r) : leG S r := by
  have q : MF mf_s (T_X1_radius F c S x0 x1 x2) S := by
    unfold T_X1_radius
    refine mf_bind (fun _ _ => ?_)
    refine mf_bind (fun r1 hr1 => ?_)
    refine mf_ite ?_ ?_
    · exact (ot_X1_radius_19 S)
    · refine mf_bind (fun r2 hr2 => ?_)
      refine mf_ite ?_ ?_
      · exact (ot_X1_radius_19 S)
      · exact (ot_X1_radius_20 1 S)
  exact q r h
theorem wt_X1_radius_20 {P : GP} {X : Ctx} {l : Launch} {S0 : St} {F : Nat} (hO : okG P) (C : CX (OG P) X l cX1_radius 3 RX1 (some .int)) (hst : l.stackTraces = false) {c : Nat} (hm : X.2.2.2.2.2.2.2.2.2 = some (.inl (exn c))) (hnt : ∀ x ∈ X.2.2.2.2.2.2.2.2.1.exceptionTable.toList, False) {x0 : Nat} {x1 : Int32} {x2 : Int32}  (s0 : Int32) (S : St) : VF (OG P) X 3 51 3222 S0 f_mv (T_X1_radius_20 F c x0 x1 x2 s0 S) S 20 [(0, .ref x0), (1, .int x1), (2, .int x2)] [.int s0] := by
  unfold T_X1_radius_20
  refine v_tor (fun S1 h1 => ?_) (fun _ => ?_)
  · exact g_callTS (As := [.int s0]) (st := []) C hm (fun x hx => (hnt x hx).elim) lk_X1_115 dX1_radius_20 rfl (Nat.le_of_ble_eq_true rfl) (Nat.le_of_ble_eq_true rfl) (Nat.le_of_ble_eq_true rfl) (tm_X1_checkThat hO hst c S s0 h1)
  · refine v_callS_rv C (As := [.int s0]) (st := []) lk_X1_115 dX1_radius_20 rfl (Nat.le_of_ble_eq_true rfl) (Nat.le_of_ble_eq_true rfl) (Nat.le_of_ble_eq_true rfl) (fun _ z => met_X1_checkThat hO S s0 z) (fun r3 hr3 => ?_)
    refine v_aload_n C dX1_radius_23 0 rfl ?_
    refine g_getA C dX1_radius_24 cls_1 (Nat.le_of_ble_eq_true rfl) fl_X1_48 fs_X1_48 (fun y4 hy4 => ?_)
    refine g_callV_ri C (As := []) (st := []) lk_X1_271 dX1_radius_27 rfl (Nat.le_of_ble_eq_true rfl) (Nat.le_of_ble_eq_true rfl) (Nat.le_of_ble_eq_true rfl) cls_3.1 rfl (fun _ z => rc_X3_isUsable z) (fun _ z => met_X3_isUsable hO F S y4 z) (fun r5 hr5 => ?_)
    refine v_tor (fun S1 h1 => ?_) (fun _ => ?_)
    · exact g_callTS (As := [.int r5]) (st := []) C hm (fun x hx => (hnt x hx).elim) lk_X1_131 dX1_radius_30 rfl (Nat.le_of_ble_eq_true rfl) (Nat.le_of_ble_eq_true rfl) (Nat.le_of_ble_eq_true rfl) (tm_X1_checkState hO hst c S r5 h1)
    · refine v_callS_rv C (As := [.int r5]) (st := []) lk_X1_131 dX1_radius_30 rfl (Nat.le_of_ble_eq_true rfl) (Nat.le_of_ble_eq_true rfl) (Nat.le_of_ble_eq_true rfl) (fun _ z => met_X1_checkState hO S r5 z) (fun r6 hr6 => ?_)
      exact VF.none
theorem wt_X1_radius_19 {P : GP} {X : Ctx} {l : Launch} {S0 : St} {F : Nat} (hO : okG P) (C : CX (OG P) X l cX1_radius 3 RX1 (some .int)) (hst : l.stackTraces = false) {c : Nat} (hm : X.2.2.2.2.2.2.2.2.2 = some (.inl (exn c))) (hnt : ∀ x ∈ X.2.2.2.2.2.2.2.2.1.exceptionTable.toList, False) {x0 : Nat} {x1 : Int32} {x2 : Int32}  (S : St) : VF (OG P) X 3 51 3222 S0 f_mv (T_X1_radius_19 F c x0 x1 x2 S) S 19 [(0, .ref x0), (1, .int x1), (2, .int x2)] [] := by
  unfold T_X1_radius_19
  refine v_iconst C dX1_radius_19 ci_0 ?_
  exact v_sub [0, 1, 2] rfl (wt_X1_radius_20 hO C hst hm hnt 0 S)
theorem tm_X1_radius {P : GP} {l : Launch} (hO : okG P) (hst : l.stackTraces = false) (F : Nat) (c : Nat) (S : St) (x0 : Nat) (x1 : Int32) (x2 : Int32) {r : St} (h : T_X1_radius F c S x0 x1 x2 = some r) : TM l P yX1_radius (ws_ yX1_radius cX1_radius 3 (some .int)) 51 3222 [.ref x0, .int x1, .int x2] S (exn c) r := by
  refine TM.of (own := RX1) (lv := [(0, .ref x0), (1, .int x1), (2, .int x2)]) hO pl_X1 rfl (Nat.le_of_ble_eq_true rfl) rfl h (tmono_X1_radius h) (fun X C hm hnt _ => ?_)
  unfold T_X1_radius
  refine VF.bind (fun _ _ => ?_)
  refine v_aload_n C dX1_radius_0 0 rfl ?_
  refine v_iload_n C dX1_radius_1 1 rfl ?_
  refine g_callV_ri C (As := [.int x1]) (st := []) lk_X1_238 dX1_radius_2 rfl (Nat.le_of_ble_eq_true rfl) (Nat.le_of_ble_eq_true rfl) (Nat.le_of_ble_eq_true rfl) cls_1.1 rfl (fun _ z => rc_X1_isSet z) (fun _ z => met_X1_isSet hO S x0 x1 z) (fun r1 hr1 => ?_)
  refine v_if_eq C (tgt := 19) dX1_radius_5 rfl (fun _ => ?_) (fun _ => ?_)
  · exact v_sub [0, 1, 2] rfl (wt_X1_radius_19 hO C hst hm hnt S)
  · refine v_iload_n C dX1_radius_8 2 rfl ?_
    refine v_callS_ri C (As := [.int x2]) (st := []) lk_X1_223 dX1_radius_9 rfl (Nat.le_of_ble_eq_true rfl) (Nat.le_of_ble_eq_true rfl) (Nat.le_of_ble_eq_true rfl) (fun _ z => met_X1_isPart hO S x2 z) (fun r2 hr2 => ?_)
    refine v_if_eq C (tgt := 19) dX1_radius_12 rfl (fun _ => ?_) (fun _ => ?_)
    · exact v_sub [0, 1, 2] rfl (wt_X1_radius_19 hO C hst hm hnt S)
    · refine v_iconst C dX1_radius_15 ci_1 ?_
      refine v_goto C (tgt := 20) dX1_radius_16 rfl ?_
      exact v_sub [0, 1, 2] rfl (wt_X1_radius_20 hO C hst hm hnt 1 S)
theorem ot_X1_center_22 {F : Nat} {c : Nat} {x0 : Nat} {x1 : Int32} {x2 : Int32}  (s0 : Int32) (S : St) : MF mf_s (T_X1_center_22 F c x0 x1 x2 s0 S) S := by
  unfold T_X1_center_22
  refine mf_tor (fun _ z => T_X1_check_le z) ?_
  refine mf_bind (fun r3 hr3 => ?_)
  refine mf_bind (fun y4 hy4 => ?_)
  refine mf_bind (fun r5 hr5 => ?_)
  refine mf_tor (fun _ z => T_X1_check_le z) ?_
  refine mf_bind (fun r6 hr6 => ?_)
  exact mf_none
theorem ot_X1_center_21 {F : Nat} {c : Nat} {x0 : Nat} {x1 : Int32} {x2 : Int32}  (S : St) : MF mf_s (T_X1_center_21 F c x0 x1 x2 S) S := by
  unfold T_X1_center_21
  exact (ot_X1_center_22 0 S)
theorem tmono_X1_center {F : Nat} {c : Nat} {S : St} {x0 : Nat} {x1 : Int32} {x2 : Int32} {r : St} (h : T_X1_center F c S x0 x1 x2 = some r) : leG S r := by
  have q : MF mf_s (T_X1_center F c S x0 x1 x2) S := by
    unfold T_X1_center
    refine mf_bind (fun _ _ => ?_)
    refine mf_bind (fun r1 hr1 => ?_)
    refine mf_ite ?_ ?_
    · exact (ot_X1_center_21 S)
    · refine mf_bind (fun r2 hr2 => ?_)
      refine mf_ite ?_ ?_
      · exact (ot_X1_center_21 S)
      · exact (ot_X1_center_22 1 S)
  exact q r h
theorem wt_X1_center_22 {P : GP} {X : Ctx} {l : Launch} {S0 : St} {F : Nat} (hO : okG P) (C : CX (OG P) X l cX1_center 3 RX1 (some .int)) (hst : l.stackTraces = false) {c : Nat} (hm : X.2.2.2.2.2.2.2.2.2 = some (.inl (exn c))) (hnt : ∀ x ∈ X.2.2.2.2.2.2.2.2.1.exceptionTable.toList, False) {x0 : Nat} {x1 : Int32} {x2 : Int32}  (s0 : Int32) (S : St) : VF (OG P) X 3 49 3179 S0 f_mv (T_X1_center_22 F c x0 x1 x2 s0 S) S 22 [(0, .ref x0), (1, .int x1), (2, .int x2)] [.int s0] := by
  unfold T_X1_center_22
  refine v_tor (fun S1 h1 => ?_) (fun _ => ?_)
  · exact g_callTS (As := [.int s0]) (st := []) C hm (fun x hx => (hnt x hx).elim) lk_X1_115 dX1_center_22 rfl (Nat.le_of_ble_eq_true rfl) (Nat.le_of_ble_eq_true rfl) (Nat.le_of_ble_eq_true rfl) (tm_X1_checkThat hO hst c S s0 h1)
  · refine v_callS_rv C (As := [.int s0]) (st := []) lk_X1_115 dX1_center_22 rfl (Nat.le_of_ble_eq_true rfl) (Nat.le_of_ble_eq_true rfl) (Nat.le_of_ble_eq_true rfl) (fun _ z => met_X1_checkThat hO S s0 z) (fun r3 hr3 => ?_)
    refine v_aload_n C dX1_center_25 0 rfl ?_
    refine g_getA C dX1_center_26 cls_1 (Nat.le_of_ble_eq_true rfl) fl_X1_48 fs_X1_48 (fun y4 hy4 => ?_)
    refine g_callV_ri C (As := []) (st := []) lk_X1_271 dX1_center_29 rfl (Nat.le_of_ble_eq_true rfl) (Nat.le_of_ble_eq_true rfl) (Nat.le_of_ble_eq_true rfl) cls_3.1 rfl (fun _ z => rc_X3_isUsable z) (fun _ z => met_X3_isUsable hO F S y4 z) (fun r5 hr5 => ?_)
    refine v_tor (fun S1 h1 => ?_) (fun _ => ?_)
    · exact g_callTS (As := [.int r5]) (st := []) C hm (fun x hx => (hnt x hx).elim) lk_X1_131 dX1_center_32 rfl (Nat.le_of_ble_eq_true rfl) (Nat.le_of_ble_eq_true rfl) (Nat.le_of_ble_eq_true rfl) (tm_X1_checkState hO hst c S r5 h1)
    · refine v_callS_rv C (As := [.int r5]) (st := []) lk_X1_131 dX1_center_32 rfl (Nat.le_of_ble_eq_true rfl) (Nat.le_of_ble_eq_true rfl) (Nat.le_of_ble_eq_true rfl) (fun _ z => met_X1_checkState hO S r5 z) (fun r6 hr6 => ?_)
      exact VF.none
theorem wt_X1_center_21 {P : GP} {X : Ctx} {l : Launch} {S0 : St} {F : Nat} (hO : okG P) (C : CX (OG P) X l cX1_center 3 RX1 (some .int)) (hst : l.stackTraces = false) {c : Nat} (hm : X.2.2.2.2.2.2.2.2.2 = some (.inl (exn c))) (hnt : ∀ x ∈ X.2.2.2.2.2.2.2.2.1.exceptionTable.toList, False) {x0 : Nat} {x1 : Int32} {x2 : Int32}  (S : St) : VF (OG P) X 3 49 3179 S0 f_mv (T_X1_center_21 F c x0 x1 x2 S) S 21 [(0, .ref x0), (1, .int x1), (2, .int x2)] [] := by
  unfold T_X1_center_21
  refine v_iconst C dX1_center_21 ci_0 ?_
  exact v_sub [0, 1, 2] rfl (wt_X1_center_22 hO C hst hm hnt 0 S)
theorem tm_X1_center {P : GP} {l : Launch} (hO : okG P) (hst : l.stackTraces = false) (F : Nat) (c : Nat) (S : St) (x0 : Nat) (x1 : Int32) (x2 : Int32) {r : St} (h : T_X1_center F c S x0 x1 x2 = some r) : TM l P yX1_center (ws_ yX1_center cX1_center 3 (some .int)) 49 3179 [.ref x0, .int x1, .int x2] S (exn c) r := by
  refine TM.of (own := RX1) (lv := [(0, .ref x0), (1, .int x1), (2, .int x2)]) hO pl_X1 rfl (Nat.le_of_ble_eq_true rfl) rfl h (tmono_X1_center h) (fun X C hm hnt _ => ?_)
  unfold T_X1_center
  refine VF.bind (fun _ _ => ?_)
  refine v_aload_n C dX1_center_0 0 rfl ?_
  refine v_iload_n C dX1_center_1 1 rfl ?_
  refine g_callV_ri C (As := [.int x1]) (st := []) lk_X1_238 dX1_center_2 rfl (Nat.le_of_ble_eq_true rfl) (Nat.le_of_ble_eq_true rfl) (Nat.le_of_ble_eq_true rfl) cls_1.1 rfl (fun _ z => rc_X1_isSet z) (fun _ z => met_X1_isSet hO S x0 x1 z) (fun r1 hr1 => ?_)
  refine v_if_eq C (tgt := 21) dX1_center_5 rfl (fun _ => ?_) (fun _ => ?_)
  · exact v_sub [0, 1, 2] rfl (wt_X1_center_21 hO C hst hm hnt S)
  · refine v_iload_n C dX1_center_8 2 rfl ?_
    refine v_iconst C dX1_center_9 ci_0 ?_
    refine v_iconst C dX1_center_10 ci_2 ?_
    refine v_callS_ri C (As := [.int x2, .int 0, .int 2]) (st := []) lk_X1_87 dX1_center_11 rfl (Nat.le_of_ble_eq_true rfl) (Nat.le_of_ble_eq_true rfl) (Nat.le_of_ble_eq_true rfl) (fun _ z => met_X1_isIn hO S x2 0 2 z) (fun r2 hr2 => ?_)
    refine v_if_eq C (tgt := 21) dX1_center_14 rfl (fun _ => ?_) (fun _ => ?_)
    · exact v_sub [0, 1, 2] rfl (wt_X1_center_21 hO C hst hm hnt S)
    · refine v_iconst C dX1_center_17 ci_1 ?_
      refine v_goto C (tgt := 22) dX1_center_18 rfl ?_
      exact v_sub [0, 1, 2] rfl (wt_X1_center_22 hO C hst hm hnt 1 S)
theorem tmono_X1_critical {F : Nat} {c : Nat} {S : St} {x0 : Nat} {x1 : Int32} {r : St} (h : T_X1_critical F c S x0 x1 = some r) : leG S r := by
  have q : MF mf_s (T_X1_critical F c S x0 x1) S := by
    unfold T_X1_critical
    refine mf_bind (fun _ _ => ?_)
    refine mf_bind (fun r1 hr1 => ?_)
    refine mf_tor (fun _ z => T_X1_check_le z) ?_
    refine mf_bind (fun r2 hr2 => ?_)
    refine mf_bind (fun y3 hy3 => ?_)
    refine mf_bind (fun r4 hr4 => ?_)
    refine mf_tor (fun _ z => T_X1_check_le z) ?_
    refine mf_bind (fun r5 hr5 => ?_)
    exact mf_none
  exact q r h
theorem tm_X1_critical {P : GP} {l : Launch} (hO : okG P) (hst : l.stackTraces = false) (F : Nat) (c : Nat) (S : St) (x0 : Nat) (x1 : Int32) {r : St} (h : T_X1_critical F c S x0 x1 = some r) : TM l P yX1_critical (ws_ yX1_critical cX1_critical 2 (some .int)) 50 3204 [.ref x0, .int x1] S (exn c) r := by
  refine TM.of (own := RX1) (lv := [(0, .ref x0), (1, .int x1)]) hO pl_X1 rfl (Nat.le_of_ble_eq_true rfl) rfl h (tmono_X1_critical h) (fun X C hm hnt _ => ?_)
  unfold T_X1_critical
  refine VF.bind (fun _ _ => ?_)
  refine v_aload_n C dX1_critical_0 0 rfl ?_
  refine v_iload_n C dX1_critical_1 1 rfl ?_
  refine g_callV_ri C (As := [.int x1]) (st := []) lk_X1_238 dX1_critical_2 rfl (Nat.le_of_ble_eq_true rfl) (Nat.le_of_ble_eq_true rfl) (Nat.le_of_ble_eq_true rfl) cls_1.1 rfl (fun _ z => rc_X1_isSet z) (fun _ z => met_X1_isSet hO S x0 x1 z) (fun r1 hr1 => ?_)
  refine v_tor (fun S1 h1 => ?_) (fun _ => ?_)
  · exact g_callTS (As := [.int r1]) (st := []) C hm (fun x hx => (hnt x hx).elim) lk_X1_115 dX1_critical_5 rfl (Nat.le_of_ble_eq_true rfl) (Nat.le_of_ble_eq_true rfl) (Nat.le_of_ble_eq_true rfl) (tm_X1_checkThat hO hst c S r1 h1)
  · refine v_callS_rv C (As := [.int r1]) (st := []) lk_X1_115 dX1_critical_5 rfl (Nat.le_of_ble_eq_true rfl) (Nat.le_of_ble_eq_true rfl) (Nat.le_of_ble_eq_true rfl) (fun _ z => met_X1_checkThat hO S r1 z) (fun r2 hr2 => ?_)
    refine v_aload_n C dX1_critical_8 0 rfl ?_
    refine g_getA C dX1_critical_9 cls_1 (Nat.le_of_ble_eq_true rfl) fl_X1_48 fs_X1_48 (fun y3 hy3 => ?_)
    refine g_callV_ri C (As := []) (st := []) lk_X1_271 dX1_critical_12 rfl (Nat.le_of_ble_eq_true rfl) (Nat.le_of_ble_eq_true rfl) (Nat.le_of_ble_eq_true rfl) cls_3.1 rfl (fun _ z => rc_X3_isUsable z) (fun _ z => met_X3_isUsable hO F S y3 z) (fun r4 hr4 => ?_)
    refine v_tor (fun S1 h1 => ?_) (fun _ => ?_)
    · exact g_callTS (As := [.int r4]) (st := []) C hm (fun x hx => (hnt x hx).elim) lk_X1_131 dX1_critical_15 rfl (Nat.le_of_ble_eq_true rfl) (Nat.le_of_ble_eq_true rfl) (Nat.le_of_ble_eq_true rfl) (tm_X1_checkState hO hst c S r4 h1)
    · refine v_callS_rv C (As := [.int r4]) (st := []) lk_X1_131 dX1_critical_15 rfl (Nat.le_of_ble_eq_true rfl) (Nat.le_of_ble_eq_true rfl) (Nat.le_of_ble_eq_true rfl) (fun _ z => met_X1_checkState hO S r4 z) (fun r5 hr5 => ?_)
      exact VF.none
theorem tmono_X1_median {F : Nat} {c : Nat} {S : St} {x0 : Nat} {x1 : Int32} {r : St} (h : T_X1_median F c S x0 x1 = some r) : leG S r := by
  have q : MF mf_s (T_X1_median F c S x0 x1) S := by
    unfold T_X1_median
    refine mf_bind (fun _ _ => ?_)
    refine mf_bind (fun r1 hr1 => ?_)
    refine mf_tor (fun _ z => T_X1_check_le z) ?_
    refine mf_bind (fun r2 hr2 => ?_)
    refine mf_bind (fun y3 hy3 => ?_)
    refine mf_bind (fun r4 hr4 => ?_)
    refine mf_tor (fun _ z => T_X1_check_le z) ?_
    refine mf_bind (fun r5 hr5 => ?_)
    exact mf_none
  exact q r h
theorem tm_X1_median {P : GP} {l : Launch} (hO : okG P) (hst : l.stackTraces = false) (F : Nat) (c : Nat) (S : St) (x0 : Nat) (x1 : Int32) {r : St} (h : T_X1_median F c S x0 x1 = some r) : TM l P yX1_median (ws_ yX1_median cX1_median 2 (some .int)) 49 3186 [.ref x0, .int x1] S (exn c) r := by
  refine TM.of (own := RX1) (lv := [(0, .ref x0), (1, .int x1)]) hO pl_X1 rfl (Nat.le_of_ble_eq_true rfl) rfl h (tmono_X1_median h) (fun X C hm hnt _ => ?_)
  unfold T_X1_median
  refine VF.bind (fun _ _ => ?_)
  refine v_iload_n C dX1_median_0 1 rfl ?_
  refine v_iconst C dX1_median_1 ci_0 ?_
  refine v_iconst C dX1_median_2 ci_4 ?_
  refine v_callS_ri C (As := [.int x1, .int 0, .int 4]) (st := []) lk_X1_87 dX1_median_3 rfl (Nat.le_of_ble_eq_true rfl) (Nat.le_of_ble_eq_true rfl) (Nat.le_of_ble_eq_true rfl) (fun _ z => met_X1_isIn hO S x1 0 4 z) (fun r1 hr1 => ?_)
  refine v_tor (fun S1 h1 => ?_) (fun _ => ?_)
  · exact g_callTS (As := [.int r1]) (st := []) C hm (fun x hx => (hnt x hx).elim) lk_X1_115 dX1_median_6 rfl (Nat.le_of_ble_eq_true rfl) (Nat.le_of_ble_eq_true rfl) (Nat.le_of_ble_eq_true rfl) (tm_X1_checkThat hO hst c S r1 h1)
  · refine v_callS_rv C (As := [.int r1]) (st := []) lk_X1_115 dX1_median_6 rfl (Nat.le_of_ble_eq_true rfl) (Nat.le_of_ble_eq_true rfl) (Nat.le_of_ble_eq_true rfl) (fun _ z => met_X1_checkThat hO S r1 z) (fun r2 hr2 => ?_)
    refine v_aload_n C dX1_median_9 0 rfl ?_
    refine g_getA C dX1_median_10 cls_1 (Nat.le_of_ble_eq_true rfl) fl_X1_48 fs_X1_48 (fun y3 hy3 => ?_)
    refine g_callV_ri C (As := []) (st := []) lk_X1_271 dX1_median_13 rfl (Nat.le_of_ble_eq_true rfl) (Nat.le_of_ble_eq_true rfl) (Nat.le_of_ble_eq_true rfl) cls_3.1 rfl (fun _ z => rc_X3_isUsable z) (fun _ z => met_X3_isUsable hO F S y3 z) (fun r4 hr4 => ?_)
    refine v_tor (fun S1 h1 => ?_) (fun _ => ?_)
    · exact g_callTS (As := [.int r4]) (st := []) C hm (fun x hx => (hnt x hx).elim) lk_X1_131 dX1_median_16 rfl (Nat.le_of_ble_eq_true rfl) (Nat.le_of_ble_eq_true rfl) (Nat.le_of_ble_eq_true rfl) (tm_X1_checkState hO hst c S r4 h1)
    · refine v_callS_rv C (As := [.int r4]) (st := []) lk_X1_131 dX1_median_16 rfl (Nat.le_of_ble_eq_true rfl) (Nat.le_of_ble_eq_true rfl) (Nat.le_of_ble_eq_true rfl) (fun _ z => met_X1_checkState hO S r4 z) (fun r5 hr5 => ?_)
      exact VF.none
theorem ot_X1_radiusOf_21 {F : Nat} {c : Nat} {x0 : Nat} {x1 : Int32} {x2 : Int32}  (s0 : Int32) (S : St) : MF mf_s (T_X1_radiusOf_21 F c x0 x1 x2 s0 S) S := by
  unfold T_X1_radiusOf_21
  refine mf_tor (fun _ z => T_X1_check_le z) ?_
  refine mf_bind (fun r3 hr3 => ?_)
  refine mf_bind (fun y4 hy4 => ?_)
  refine mf_bind (fun r5 hr5 => ?_)
  refine mf_tor (fun _ z => T_X1_check_le z) ?_
  refine mf_bind (fun r6 hr6 => ?_)
  exact mf_none
theorem ot_X1_radiusOf_20 {F : Nat} {c : Nat} {x0 : Nat} {x1 : Int32} {x2 : Int32}  (S : St) : MF mf_s (T_X1_radiusOf_20 F c x0 x1 x2 S) S := by
  unfold T_X1_radiusOf_20
  exact (ot_X1_radiusOf_21 0 S)
theorem tmono_X1_radiusOf {F : Nat} {c : Nat} {S : St} {x0 : Nat} {x1 : Int32} {x2 : Int32} {r : St} (h : T_X1_radiusOf F c S x0 x1 x2 = some r) : leG S r := by
  have q : MF mf_s (T_X1_radiusOf F c S x0 x1 x2) S := by
    unfold T_X1_radiusOf
    refine mf_bind (fun _ _ => ?_)
    refine mf_bind (fun r1 hr1 => ?_)
    refine mf_ite ?_ ?_
    · exact (ot_X1_radiusOf_20 S)
    · refine mf_bind (fun r2 hr2 => ?_)
      refine mf_ite ?_ ?_
      · exact (ot_X1_radiusOf_20 S)
      · exact (ot_X1_radiusOf_21 1 S)
  exact q r h
theorem wt_X1_radiusOf_21 {P : GP} {X : Ctx} {l : Launch} {S0 : St} {F : Nat} (hO : okG P) (C : CX (OG P) X l cX1_radiusOf 3 RX1 (some .int)) (hst : l.stackTraces = false) {c : Nat} (hm : X.2.2.2.2.2.2.2.2.2 = some (.inl (exn c))) (hnt : ∀ x ∈ X.2.2.2.2.2.2.2.2.1.exceptionTable.toList, False) {x0 : Nat} {x1 : Int32} {x2 : Int32}  (s0 : Int32) (S : St) : VF (OG P) X 3 614 38753 S0 f_mv (T_X1_radiusOf_21 F c x0 x1 x2 s0 S) S 21 [(0, .ref x0), (1, .int x1), (2, .int x2)] [.int s0] := by
  unfold T_X1_radiusOf_21
  refine v_tor (fun S1 h1 => ?_) (fun _ => ?_)
  · exact g_callTS (As := [.int s0]) (st := []) C hm (fun x hx => (hnt x hx).elim) lk_X1_115 dX1_radiusOf_21 rfl (Nat.le_of_ble_eq_true rfl) (Nat.le_of_ble_eq_true rfl) (Nat.le_of_ble_eq_true rfl) (tm_X1_checkThat hO hst c S s0 h1)
  · refine v_callS_rv C (As := [.int s0]) (st := []) lk_X1_115 dX1_radiusOf_21 rfl (Nat.le_of_ble_eq_true rfl) (Nat.le_of_ble_eq_true rfl) (Nat.le_of_ble_eq_true rfl) (fun _ z => met_X1_checkThat hO S s0 z) (fun r3 hr3 => ?_)
    refine v_aload_n C dX1_radiusOf_24 0 rfl ?_
    refine g_getA C dX1_radiusOf_25 cls_1 (Nat.le_of_ble_eq_true rfl) fl_X1_48 fs_X1_48 (fun y4 hy4 => ?_)
    refine g_callV_ri C (As := []) (st := []) lk_X1_271 dX1_radiusOf_28 rfl (Nat.le_of_ble_eq_true rfl) (Nat.le_of_ble_eq_true rfl) (Nat.le_of_ble_eq_true rfl) cls_3.1 rfl (fun _ z => rc_X3_isUsable z) (fun _ z => met_X3_isUsable hO F S y4 z) (fun r5 hr5 => ?_)
    refine v_tor (fun S1 h1 => ?_) (fun _ => ?_)
    · exact g_callTS (As := [.int r5]) (st := []) C hm (fun x hx => (hnt x hx).elim) lk_X1_131 dX1_radiusOf_31 rfl (Nat.le_of_ble_eq_true rfl) (Nat.le_of_ble_eq_true rfl) (Nat.le_of_ble_eq_true rfl) (tm_X1_checkState hO hst c S r5 h1)
    · refine v_callS_rv C (As := [.int r5]) (st := []) lk_X1_131 dX1_radiusOf_31 rfl (Nat.le_of_ble_eq_true rfl) (Nat.le_of_ble_eq_true rfl) (Nat.le_of_ble_eq_true rfl) (fun _ z => met_X1_checkState hO S r5 z) (fun r6 hr6 => ?_)
      exact VF.none
theorem wt_X1_radiusOf_20 {P : GP} {X : Ctx} {l : Launch} {S0 : St} {F : Nat} (hO : okG P) (C : CX (OG P) X l cX1_radiusOf 3 RX1 (some .int)) (hst : l.stackTraces = false) {c : Nat} (hm : X.2.2.2.2.2.2.2.2.2 = some (.inl (exn c))) (hnt : ∀ x ∈ X.2.2.2.2.2.2.2.2.1.exceptionTable.toList, False) {x0 : Nat} {x1 : Int32} {x2 : Int32}  (S : St) : VF (OG P) X 3 614 38753 S0 f_mv (T_X1_radiusOf_20 F c x0 x1 x2 S) S 20 [(0, .ref x0), (1, .int x1), (2, .int x2)] [] := by
  unfold T_X1_radiusOf_20
  refine v_iconst C dX1_radiusOf_20 ci_0 ?_
  exact v_sub [0, 1, 2] rfl (wt_X1_radiusOf_21 hO C hst hm hnt 0 S)
theorem tm_X1_radiusOf {P : GP} {l : Launch} (hO : okG P) (hst : l.stackTraces = false) (F : Nat) (c : Nat) (S : St) (x0 : Nat) (x1 : Int32) (x2 : Int32) {r : St} (h : T_X1_radiusOf F c S x0 x1 x2 = some r) : TM l P yX1_radiusOf (ws_ yX1_radiusOf cX1_radiusOf 3 (some .int)) 614 38753 [.ref x0, .int x1, .int x2] S (exn c) r := by
  refine TM.of (own := RX1) (lv := [(0, .ref x0), (1, .int x1), (2, .int x2)]) hO pl_X1 rfl (Nat.le_of_ble_eq_true rfl) rfl h (tmono_X1_radiusOf h) (fun X C hm hnt _ => ?_)
  unfold T_X1_radiusOf
  refine VF.bind (fun _ _ => ?_)
  refine v_iload_n C dX1_radiusOf_0 1 rfl ?_
  refine v_iconst C dX1_radiusOf_1 ci_1 ?_
  refine v_iconst C dX1_radiusOf_2 ci_3 ?_
  refine v_callS_ri C (As := [.int x1, .int 1, .int 3]) (st := []) lk_X1_87 dX1_radiusOf_3 rfl (Nat.le_of_ble_eq_true rfl) (Nat.le_of_ble_eq_true rfl) (Nat.le_of_ble_eq_true rfl) (fun _ z => met_X1_isIn hO S x1 1 3 z) (fun r1 hr1 => ?_)
  refine v_if_eq C (tgt := 20) dX1_radiusOf_6 rfl (fun _ => ?_) (fun _ => ?_)
  · exact v_sub [0, 1, 2] rfl (wt_X1_radiusOf_20 hO C hst hm hnt S)
  · refine v_iload_n C dX1_radiusOf_9 2 rfl ?_
    refine v_callS_ri C (As := [.int x2]) (st := []) lk_X1_223 dX1_radiusOf_10 rfl (Nat.le_of_ble_eq_true rfl) (Nat.le_of_ble_eq_true rfl) (Nat.le_of_ble_eq_true rfl) (fun _ z => met_X1_isPart hO S x2 z) (fun r2 hr2 => ?_)
    refine v_if_eq C (tgt := 20) dX1_radiusOf_13 rfl (fun _ => ?_) (fun _ => ?_)
    · exact v_sub [0, 1, 2] rfl (wt_X1_radiusOf_20 hO C hst hm hnt S)
    · refine v_iconst C dX1_radiusOf_16 ci_1 ?_
      refine v_goto C (tgt := 21) dX1_radiusOf_17 rfl ?_
      exact v_sub [0, 1, 2] rfl (wt_X1_radiusOf_21 hO C hst hm hnt 1 S)
theorem ot_X1_group_25 {F : Nat} {c : Nat} {x0 : Nat} {x1 : Int32} {x2 : Int32}  (s0 : Int32) (S : St) : MF mf_s (T_X1_group_25 F c x0 x1 x2 s0 S) S := by
  unfold T_X1_group_25
  refine mf_tor (fun _ z => T_X1_check_le z) ?_
  refine mf_bind (fun r3 hr3 => ?_)
  refine mf_bind (fun y4 hy4 => ?_)
  refine mf_bind (fun r5 hr5 => ?_)
  refine mf_tor (fun _ z => T_X1_check_le z) ?_
  refine mf_bind (fun r6 hr6 => ?_)
  exact mf_none
theorem ot_X1_group_24 {F : Nat} {c : Nat} {x0 : Nat} {x1 : Int32} {x2 : Int32}  (S : St) : MF mf_s (T_X1_group_24 F c x0 x1 x2 S) S := by
  unfold T_X1_group_24
  exact (ot_X1_group_25 0 S)
theorem tmono_X1_group {F : Nat} {c : Nat} {S : St} {x0 : Nat} {x1 : Int32} {x2 : Int32} {r : St} (h : T_X1_group F c S x0 x1 x2 = some r) : leG S r := by
  have q : MF mf_s (T_X1_group F c S x0 x1 x2) S := by
    unfold T_X1_group
    refine mf_bind (fun _ _ => ?_)
    refine mf_bind (fun r1 hr1 => ?_)
    refine mf_ite ?_ ?_
    · exact (ot_X1_group_24 S)
    · refine mf_bind (fun r2 hr2 => ?_)
      refine mf_ite ?_ ?_
      · exact (ot_X1_group_24 S)
      · exact (ot_X1_group_25 1 S)
  exact q r h
theorem wt_X1_group_25 {P : GP} {X : Ctx} {l : Launch} {S0 : St} {F : Nat} (hO : okG P) (C : CX (OG P) X l cX1_group 3 RX1 (some .int)) (hst : l.stackTraces = false) {c : Nat} (hm : X.2.2.2.2.2.2.2.2.2 = some (.inl (exn c))) (hnt : ∀ x ∈ X.2.2.2.2.2.2.2.2.1.exceptionTable.toList, False) {x0 : Nat} {x1 : Int32} {x2 : Int32}  (s0 : Int32) (S : St) : VF (OG P) X 3 615 38786 S0 f_mv (T_X1_group_25 F c x0 x1 x2 s0 S) S 25 [(0, .ref x0), (1, .int x1), (2, .int x2)] [.int s0] := by
  unfold T_X1_group_25
  refine v_tor (fun S1 h1 => ?_) (fun _ => ?_)
  · exact g_callTS (As := [.int s0]) (st := []) C hm (fun x hx => (hnt x hx).elim) lk_X1_115 dX1_group_25 rfl (Nat.le_of_ble_eq_true rfl) (Nat.le_of_ble_eq_true rfl) (Nat.le_of_ble_eq_true rfl) (tm_X1_checkThat hO hst c S s0 h1)
  · refine v_callS_rv C (As := [.int s0]) (st := []) lk_X1_115 dX1_group_25 rfl (Nat.le_of_ble_eq_true rfl) (Nat.le_of_ble_eq_true rfl) (Nat.le_of_ble_eq_true rfl) (fun _ z => met_X1_checkThat hO S s0 z) (fun r3 hr3 => ?_)
    refine v_aload_n C dX1_group_28 0 rfl ?_
    refine g_getA C dX1_group_29 cls_1 (Nat.le_of_ble_eq_true rfl) fl_X1_48 fs_X1_48 (fun y4 hy4 => ?_)
    refine g_callV_ri C (As := []) (st := []) lk_X1_271 dX1_group_32 rfl (Nat.le_of_ble_eq_true rfl) (Nat.le_of_ble_eq_true rfl) (Nat.le_of_ble_eq_true rfl) cls_3.1 rfl (fun _ z => rc_X3_isUsable z) (fun _ z => met_X3_isUsable hO F S y4 z) (fun r5 hr5 => ?_)
    refine v_tor (fun S1 h1 => ?_) (fun _ => ?_)
    · exact g_callTS (As := [.int r5]) (st := []) C hm (fun x hx => (hnt x hx).elim) lk_X1_131 dX1_group_35 rfl (Nat.le_of_ble_eq_true rfl) (Nat.le_of_ble_eq_true rfl) (Nat.le_of_ble_eq_true rfl) (tm_X1_checkState hO hst c S r5 h1)
    · refine v_callS_rv C (As := [.int r5]) (st := []) lk_X1_131 dX1_group_35 rfl (Nat.le_of_ble_eq_true rfl) (Nat.le_of_ble_eq_true rfl) (Nat.le_of_ble_eq_true rfl) (fun _ z => met_X1_checkState hO S r5 z) (fun r6 hr6 => ?_)
      exact VF.none
theorem wt_X1_group_24 {P : GP} {X : Ctx} {l : Launch} {S0 : St} {F : Nat} (hO : okG P) (C : CX (OG P) X l cX1_group 3 RX1 (some .int)) (hst : l.stackTraces = false) {c : Nat} (hm : X.2.2.2.2.2.2.2.2.2 = some (.inl (exn c))) (hnt : ∀ x ∈ X.2.2.2.2.2.2.2.2.1.exceptionTable.toList, False) {x0 : Nat} {x1 : Int32} {x2 : Int32}  (S : St) : VF (OG P) X 3 615 38786 S0 f_mv (T_X1_group_24 F c x0 x1 x2 S) S 24 [(0, .ref x0), (1, .int x1), (2, .int x2)] [] := by
  unfold T_X1_group_24
  refine v_iconst C dX1_group_24 ci_0 ?_
  exact v_sub [0, 1, 2] rfl (wt_X1_group_25 hO C hst hm hnt 0 S)
theorem tm_X1_group {P : GP} {l : Launch} (hO : okG P) (hst : l.stackTraces = false) (F : Nat) (c : Nat) (S : St) (x0 : Nat) (x1 : Int32) (x2 : Int32) {r : St} (h : T_X1_group F c S x0 x1 x2 = some r) : TM l P yX1_group (ws_ yX1_group cX1_group 3 (some .int)) 615 38786 [.ref x0, .int x1, .int x2] S (exn c) r := by
  refine TM.of (own := RX1) (lv := [(0, .ref x0), (1, .int x1), (2, .int x2)]) hO pl_X1 rfl (Nat.le_of_ble_eq_true rfl) rfl h (tmono_X1_group h) (fun X C hm hnt _ => ?_)
  unfold T_X1_group
  refine VF.bind (fun _ _ => ?_)
  refine v_iload_n C dX1_group_0 1 rfl ?_
  refine v_iconst C dX1_group_1 ci_1 ?_
  refine v_iconst C dX1_group_2 ci_3 ?_
  refine v_callS_ri C (As := [.int x1, .int 1, .int 3]) (st := []) lk_X1_87 dX1_group_3 rfl (Nat.le_of_ble_eq_true rfl) (Nat.le_of_ble_eq_true rfl) (Nat.le_of_ble_eq_true rfl) (fun _ z => met_X1_isIn hO S x1 1 3 z) (fun r1 hr1 => ?_)
  refine v_if_eq C (tgt := 24) dX1_group_6 rfl (fun _ => ?_) (fun _ => ?_)
  · exact v_sub [0, 1, 2] rfl (wt_X1_group_24 hO C hst hm hnt S)
  · refine v_iload_n C dX1_group_9 2 rfl ?_
    refine v_iconst C dX1_group_10 ci_0 ?_
    refine v_iload_n C dX1_group_11 1 rfl ?_
    refine v_iconst C dX1_group_12 ci_1 ?_
    refine v_isub C dX1_group_13 ?_
    refine v_callS_ri C (As := [.int x2, .int 0, .int (x1 - 1)]) (st := []) lk_X1_87 dX1_group_14 rfl (Nat.le_of_ble_eq_true rfl) (Nat.le_of_ble_eq_true rfl) (Nat.le_of_ble_eq_true rfl) (fun _ z => met_X1_isIn hO S x2 0 (x1 - 1) z) (fun r2 hr2 => ?_)
    refine v_if_eq C (tgt := 24) dX1_group_17 rfl (fun _ => ?_) (fun _ => ?_)
    · exact v_sub [0, 1, 2] rfl (wt_X1_group_24 hO C hst hm hnt S)
    · refine v_iconst C dX1_group_20 ci_1 ?_
      refine v_goto C (tgt := 25) dX1_group_21 rfl ?_
      exact v_sub [0, 1, 2] rfl (wt_X1_group_25 hO C hst hm hnt 1 S)
theorem ot_X1_covering_20 {F : Nat} {c : Nat} {x0 : Nat} {x1 : Int32} {x2 : Int32}  (s0 : Int32) (S : St) : MF mf_s (T_X1_covering_20 F c x0 x1 x2 s0 S) S := by
  unfold T_X1_covering_20
  refine mf_tor (fun _ z => T_X1_check_le z) ?_
  refine mf_bind (fun r2 hr2 => ?_)
  refine mf_bind (fun y3 hy3 => ?_)
  refine mf_bind (fun r4 hr4 => ?_)
  refine mf_tor (fun _ z => T_X1_check_le z) ?_
  refine mf_bind (fun r5 hr5 => ?_)
  exact mf_none
theorem ot_X1_covering_19 {F : Nat} {c : Nat} {x0 : Nat} {x1 : Int32} {x2 : Int32}  (S : St) : MF mf_s (T_X1_covering_19 F c x0 x1 x2 S) S := by
  unfold T_X1_covering_19
  exact (ot_X1_covering_20 0 S)
theorem tmono_X1_covering {F : Nat} {c : Nat} {S : St} {x0 : Nat} {x1 : Int32} {x2 : Int32} {r : St} (h : T_X1_covering F c S x0 x1 x2 = some r) : leG S r := by
  have q : MF mf_s (T_X1_covering F c S x0 x1 x2) S := by
    unfold T_X1_covering
    refine mf_bind (fun _ _ => ?_)
    refine mf_ite ?_ ?_
    · exact (ot_X1_covering_19 S)
    · refine mf_bind (fun r1 hr1 => ?_)
      refine mf_ite ?_ ?_
      · exact (ot_X1_covering_19 S)
      · exact (ot_X1_covering_20 1 S)
  exact q r h
theorem wt_X1_covering_20 {P : GP} {X : Ctx} {l : Launch} {S0 : St} {F : Nat} (hO : okG P) (C : CX (OG P) X l cX1_covering 3 RX1 (some .int)) (hst : l.stackTraces = false) {c : Nat} (hm : X.2.2.2.2.2.2.2.2.2 = some (.inl (exn c))) (hnt : ∀ x ∈ X.2.2.2.2.2.2.2.2.1.exceptionTable.toList, False) {x0 : Nat} {x1 : Int32} {x2 : Int32}  (s0 : Int32) (S : St) : VF (OG P) X 3 614 38754 S0 f_mv (T_X1_covering_20 F c x0 x1 x2 s0 S) S 20 [(0, .ref x0), (1, .int x1), (2, .int x2)] [.int s0] := by
  unfold T_X1_covering_20
  refine v_tor (fun S1 h1 => ?_) (fun _ => ?_)
  · exact g_callTS (As := [.int s0]) (st := []) C hm (fun x hx => (hnt x hx).elim) lk_X1_115 dX1_covering_20 rfl (Nat.le_of_ble_eq_true rfl) (Nat.le_of_ble_eq_true rfl) (Nat.le_of_ble_eq_true rfl) (tm_X1_checkThat hO hst c S s0 h1)
  · refine v_callS_rv C (As := [.int s0]) (st := []) lk_X1_115 dX1_covering_20 rfl (Nat.le_of_ble_eq_true rfl) (Nat.le_of_ble_eq_true rfl) (Nat.le_of_ble_eq_true rfl) (fun _ z => met_X1_checkThat hO S s0 z) (fun r2 hr2 => ?_)
    refine v_aload_n C dX1_covering_23 0 rfl ?_
    refine g_getA C dX1_covering_24 cls_1 (Nat.le_of_ble_eq_true rfl) fl_X1_48 fs_X1_48 (fun y3 hy3 => ?_)
    refine g_callV_ri C (As := []) (st := []) lk_X1_271 dX1_covering_27 rfl (Nat.le_of_ble_eq_true rfl) (Nat.le_of_ble_eq_true rfl) (Nat.le_of_ble_eq_true rfl) cls_3.1 rfl (fun _ z => rc_X3_isUsable z) (fun _ z => met_X3_isUsable hO F S y3 z) (fun r4 hr4 => ?_)
    refine v_tor (fun S1 h1 => ?_) (fun _ => ?_)
    · exact g_callTS (As := [.int r4]) (st := []) C hm (fun x hx => (hnt x hx).elim) lk_X1_131 dX1_covering_30 rfl (Nat.le_of_ble_eq_true rfl) (Nat.le_of_ble_eq_true rfl) (Nat.le_of_ble_eq_true rfl) (tm_X1_checkState hO hst c S r4 h1)
    · refine v_callS_rv C (As := [.int r4]) (st := []) lk_X1_131 dX1_covering_30 rfl (Nat.le_of_ble_eq_true rfl) (Nat.le_of_ble_eq_true rfl) (Nat.le_of_ble_eq_true rfl) (fun _ z => met_X1_checkState hO S r4 z) (fun r5 hr5 => ?_)
      exact VF.none
theorem wt_X1_covering_19 {P : GP} {X : Ctx} {l : Launch} {S0 : St} {F : Nat} (hO : okG P) (C : CX (OG P) X l cX1_covering 3 RX1 (some .int)) (hst : l.stackTraces = false) {c : Nat} (hm : X.2.2.2.2.2.2.2.2.2 = some (.inl (exn c))) (hnt : ∀ x ∈ X.2.2.2.2.2.2.2.2.1.exceptionTable.toList, False) {x0 : Nat} {x1 : Int32} {x2 : Int32}  (S : St) : VF (OG P) X 3 614 38754 S0 f_mv (T_X1_covering_19 F c x0 x1 x2 S) S 19 [(0, .ref x0), (1, .int x1), (2, .int x2)] [] := by
  unfold T_X1_covering_19
  refine v_iconst C dX1_covering_19 ci_0 ?_
  exact v_sub [0, 1, 2] rfl (wt_X1_covering_20 hO C hst hm hnt 0 S)
theorem tm_X1_covering {P : GP} {l : Launch} (hO : okG P) (hst : l.stackTraces = false) (F : Nat) (c : Nat) (S : St) (x0 : Nat) (x1 : Int32) (x2 : Int32) {r : St} (h : T_X1_covering F c S x0 x1 x2 = some r) : TM l P yX1_covering (ws_ yX1_covering cX1_covering 3 (some .int)) 614 38754 [.ref x0, .int x1, .int x2] S (exn c) r := by
  refine TM.of (own := RX1) (lv := [(0, .ref x0), (1, .int x1), (2, .int x2)]) hO pl_X1 rfl (Nat.le_of_ble_eq_true rfl) rfl h (tmono_X1_covering h) (fun X C hm hnt _ => ?_)
  unfold T_X1_covering
  refine VF.bind (fun _ _ => ?_)
  refine v_iload_n C dX1_covering_0 1 rfl ?_
  refine v_if_lt C (tgt := 19) dX1_covering_1 rfl (fun _ => ?_) (fun _ => ?_)
  · exact v_sub [0, 1, 2] rfl (wt_X1_covering_19 hO C hst hm hnt S)
  · refine v_iload_n C dX1_covering_4 2 rfl ?_
    refine v_iconst C dX1_covering_5 ci_1 ?_
    refine v_sipush C dX1_covering_6 cs_1000 ?_
    refine v_callS_ri C (As := [.int x2, .int 1, .int 1000]) (st := []) lk_X1_87 dX1_covering_9 rfl (Nat.le_of_ble_eq_true rfl) (Nat.le_of_ble_eq_true rfl) (Nat.le_of_ble_eq_true rfl) (fun _ z => met_X1_isIn hO S x2 1 1000 z) (fun r1 hr1 => ?_)
    refine v_if_eq C (tgt := 19) dX1_covering_12 rfl (fun _ => ?_) (fun _ => ?_)
    · exact v_sub [0, 1, 2] rfl (wt_X1_covering_19 hO C hst hm hnt S)
    · refine v_iconst C dX1_covering_15 ci_1 ?_
      refine v_goto C (tgt := 20) dX1_covering_16 rfl ?_
      exact v_sub [0, 1, 2] rfl (wt_X1_covering_20 hO C hst hm hnt 1 S)
theorem ot_X1_covered_34 {F : Nat} {c : Nat} {x0 : Nat} {x1 : Int32} {x2 : Int32} {x3 : Int32}  (s0 : Int32) (S : St) : MF mf_s (T_X1_covered_34 F c x0 x1 x2 x3 s0 S) S := by
  unfold T_X1_covered_34
  refine mf_tor (fun _ z => T_X1_check_le z) ?_
  refine mf_bind (fun r7 hr7 => ?_)
  refine mf_bind (fun y8 hy8 => ?_)
  refine mf_bind (fun r9 hr9 => ?_)
  refine mf_tor (fun _ z => T_X1_check_le z) ?_
  refine mf_bind (fun r10 hr10 => ?_)
  exact mf_none
theorem ot_X1_covered_33 {F : Nat} {c : Nat} {x0 : Nat} {x1 : Int32} {x2 : Int32} {x3 : Int32}  (S : St) : MF mf_s (T_X1_covered_33 F c x0 x1 x2 x3 S) S := by
  unfold T_X1_covered_33
  exact (ot_X1_covered_34 0 S)
theorem tmono_X1_covered {F : Nat} {c : Nat} {S : St} {x0 : Nat} {x1 : Int32} {x2 : Int32} {x3 : Int32} {r : St} (h : T_X1_covered F c S x0 x1 x2 x3 = some r) : leG S r := by
  have q : MF mf_s (T_X1_covered F c S x0 x1 x2 x3) S := by
    unfold T_X1_covered
    refine mf_bind (fun _ _ => ?_)
    refine mf_tor (fun _ z => tmono_X1_checkEdge z) ?_
    refine mf_bind (fun r1 hr1 => ?_)
    refine mf_bind (fun y2 hy2 => ?_)
    refine mf_bind (fun y3 hy3 => ?_)
    refine mf_bind (fun y4 hy4 => ?_)
    refine mf_bind (fun y5 hy5 => ?_)
    refine mf_bind (fun r6 hr6 => ?_)
    refine mf_ite ?_ ?_
    · exact (ot_X1_covered_33 S)
    · refine mf_ite ?_ ?_
      · exact (ot_X1_covered_33 S)
      · exact (ot_X1_covered_34 1 S)
  exact q r h
theorem wt_X1_covered_34 {P : GP} {X : Ctx} {l : Launch} {S0 : St} {F : Nat} (hO : okG P) (C : CX (OG P) X l cX1_covered 6 RX1 (some .int)) (hst : l.stackTraces = false) {c : Nat} (hm : X.2.2.2.2.2.2.2.2.2 = some (.inl (exn c))) (hnt : ∀ x ∈ X.2.2.2.2.2.2.2.2.1.exceptionTable.toList, False) {x0 : Nat} {x1 : Int32} {x2 : Int32} {x3 : Int32}  (s0 : Int32) (S : St) : VF (OG P) X 6 9 160 S0 f_mv (T_X1_covered_34 F c x0 x1 x2 x3 s0 S) S 34 [(0, .ref x0), (1, .int x1), (2, .int x2), (3, .int x3)] [.int s0] := by
  unfold T_X1_covered_34
  refine v_tor (fun S1 h1 => ?_) (fun _ => ?_)
  · exact g_callTS (As := [.int s0]) (st := []) C hm (fun x hx => (hnt x hx).elim) lk_X1_115 dX1_covered_34 rfl (Nat.le_of_ble_eq_true rfl) (Nat.le_of_ble_eq_true rfl) (Nat.le_of_ble_eq_true rfl) (tm_X1_checkThat hO hst c S s0 h1)
  · refine v_callS_rv C (As := [.int s0]) (st := []) lk_X1_115 dX1_covered_34 rfl (Nat.le_of_ble_eq_true rfl) (Nat.le_of_ble_eq_true rfl) (Nat.le_of_ble_eq_true rfl) (fun _ z => met_X1_checkThat hO S s0 z) (fun r7 hr7 => ?_)
    refine v_aload_n C dX1_covered_37 0 rfl ?_
    refine g_getA C dX1_covered_38 cls_1 (Nat.le_of_ble_eq_true rfl) fl_X1_48 fs_X1_48 (fun y8 hy8 => ?_)
    refine g_callV_ri C (As := []) (st := []) lk_X1_185 dX1_covered_41 rfl (Nat.le_of_ble_eq_true rfl) (Nat.le_of_ble_eq_true rfl) (Nat.le_of_ble_eq_true rfl) cls_3.1 rfl (fun _ z => rc_X3_isConnected z) (fun _ z => met_X3_isConnected hO F S y8 z) (fun r9 hr9 => ?_)
    refine v_tor (fun S1 h1 => ?_) (fun _ => ?_)
    · exact g_callTS (As := [.int r9]) (st := []) C hm (fun x hx => (hnt x hx).elim) lk_X1_131 dX1_covered_44 rfl (Nat.le_of_ble_eq_true rfl) (Nat.le_of_ble_eq_true rfl) (Nat.le_of_ble_eq_true rfl) (tm_X1_checkState hO hst c S r9 h1)
    · refine v_callS_rv C (As := [.int r9]) (st := []) lk_X1_131 dX1_covered_44 rfl (Nat.le_of_ble_eq_true rfl) (Nat.le_of_ble_eq_true rfl) (Nat.le_of_ble_eq_true rfl) (fun _ z => met_X1_checkState hO S r9 z) (fun r10 hr10 => ?_)
      exact VF.none
theorem wt_X1_covered_33 {P : GP} {X : Ctx} {l : Launch} {S0 : St} {F : Nat} (hO : okG P) (C : CX (OG P) X l cX1_covered 6 RX1 (some .int)) (hst : l.stackTraces = false) {c : Nat} (hm : X.2.2.2.2.2.2.2.2.2 = some (.inl (exn c))) (hnt : ∀ x ∈ X.2.2.2.2.2.2.2.2.1.exceptionTable.toList, False) {x0 : Nat} {x1 : Int32} {x2 : Int32} {x3 : Int32}  (S : St) : VF (OG P) X 6 9 160 S0 f_mv (T_X1_covered_33 F c x0 x1 x2 x3 S) S 33 [(0, .ref x0), (1, .int x1), (2, .int x2), (3, .int x3)] [] := by
  unfold T_X1_covered_33
  refine v_iconst C dX1_covered_33 ci_0 ?_
  exact v_sub [0, 1, 2, 3] rfl (wt_X1_covered_34 hO C hst hm hnt 0 S)
theorem tm_X1_covered {P : GP} {l : Launch} (hO : okG P) (hst : l.stackTraces = false) (F : Nat) (c : Nat) (S : St) (x0 : Nat) (x1 : Int32) (x2 : Int32) (x3 : Int32) {r : St} (h : T_X1_covered F c S x0 x1 x2 x3 = some r) : TM l P yX1_covered (ws_ yX1_covered cX1_covered 6 (some .int)) 9 160 [.ref x0, .int x1, .int x2, .int x3] S (exn c) r := by
  refine TM.of (own := RX1) (lv := [(0, .ref x0), (1, .int x1), (2, .int x2), (3, .int x3)]) hO pl_X1 rfl (Nat.le_of_ble_eq_true rfl) rfl h (tmono_X1_covered h) (fun X C hm hnt _ => ?_)
  unfold T_X1_covered
  refine VF.bind (fun _ _ => ?_)
  refine v_aload_n C dX1_covered_0 0 rfl ?_
  refine v_iload_n C dX1_covered_1 1 rfl ?_
  refine v_tor (fun S1 h1 => ?_) (fun _ => ?_)
  · exact g_callTV (As := [.int x1]) (st := []) C hm (fun x hx => (hnt x hx).elim) lk_X1_141 dX1_covered_2 rfl (Nat.le_of_ble_eq_true rfl) (Nat.le_of_ble_eq_true rfl) (Nat.le_of_ble_eq_true rfl) cls_1.1 rfl (rct_X1_checkEdge h1) (tm_X1_checkEdge hO hst c S x0 x1 h1)
  · refine g_callV_rv C (As := [.int x1]) (st := []) lk_X1_141 dX1_covered_2 rfl (Nat.le_of_ble_eq_true rfl) (Nat.le_of_ble_eq_true rfl) (Nat.le_of_ble_eq_true rfl) cls_1.1 rfl (fun _ z => rc_X1_checkEdge z) (fun _ z => met_X1_checkEdge hO S x0 x1 z) (fun r1 hr1 => ?_)
    refine v_iload_n C dX1_covered_5 2 rfl ?_
    refine v_iconst C dX1_covered_6 ci_0 ?_
    refine v_aload_n C dX1_covered_7 0 rfl ?_
    refine g_getA C dX1_covered_8 cls_1 (Nat.le_of_ble_eq_true rfl) fl_X1_39 fs_X1_39 (fun y2 hy2 => ?_)
    refine g_getA C dX1_covered_11 cls_2 (Nat.le_of_ble_eq_true rfl) fl_X1_83 fs_X1_83 (fun y3 hy3 => ?_)
    refine v_iload_n C dX1_covered_14 1 rfl ?_
    refine g_aalA3 C dX1_covered_15 (fun y4 hy4 => ?_)
    refine g_getI C dX1_covered_16 cls_4 (Nat.le_of_ble_eq_true rfl) fl_X1_91 fs_X1_91 (fun y5 hy5 => ?_)
    refine v_callS_ri C (As := [.int x2, .int 0, .int y5]) (st := []) lk_X1_87 dX1_covered_19 rfl (Nat.le_of_ble_eq_true rfl) (Nat.le_of_ble_eq_true rfl) (Nat.le_of_ble_eq_true rfl) (fun _ z => met_X1_isIn hO S x2 0 y5 z) (fun r6 hr6 => ?_)
    refine v_if_eq C (tgt := 33) dX1_covered_22 rfl (fun _ => ?_) (fun _ => ?_)
    · exact v_sub [0, 1, 2, 3] rfl (wt_X1_covered_33 hO C hst hm hnt S)
    · refine v_iload_n C dX1_covered_25 3 rfl ?_
      refine v_if_lt C (tgt := 33) dX1_covered_26 rfl (fun _ => ?_) (fun _ => ?_)
      · exact v_sub [0, 1, 2, 3] rfl (wt_X1_covered_33 hO C hst hm hnt S)
      · refine v_iconst C dX1_covered_29 ci_1 ?_
        refine v_goto C (tgt := 34) dX1_covered_30 rfl ?_
        exact v_sub [0, 1, 2, 3] rfl (wt_X1_covered_34 hO C hst hm hnt 1 S)
theorem ot_X1_changedRadius_22 {F : Nat} {c : Nat} {x0 : Nat} {x1 : Int32} {x2 : Int32}  (s0 : Int32) (S : St) : MF mf_s (T_X1_changedRadius_22 F c x0 x1 x2 s0 S) S := by
  unfold T_X1_changedRadius_22
  refine mf_tor (fun _ z => T_X1_check_le z) ?_
  refine mf_bind (fun r3 hr3 => ?_)
  refine mf_bind (fun y4 hy4 => ?_)
  refine mf_bind (fun r5 hr5 => ?_)
  refine mf_tor (fun _ z => T_X1_check_le z) ?_
  refine mf_bind (fun r6 hr6 => ?_)
  exact mf_none
theorem ot_X1_changedRadius_21 {F : Nat} {c : Nat} {x0 : Nat} {x1 : Int32} {x2 : Int32}  (S : St) : MF mf_s (T_X1_changedRadius_21 F c x0 x1 x2 S) S := by
  unfold T_X1_changedRadius_21
  exact (ot_X1_changedRadius_22 0 S)
theorem tmono_X1_changedRadius {F : Nat} {c : Nat} {S : St} {x0 : Nat} {x1 : Int32} {x2 : Int32} {r : St} (h : T_X1_changedRadius F c S x0 x1 x2 = some r) : leG S r := by
  have q : MF mf_s (T_X1_changedRadius F c S x0 x1 x2) S := by
    unfold T_X1_changedRadius
    refine mf_bind (fun _ _ => ?_)
    refine mf_bind (fun r1 hr1 => ?_)
    refine mf_ite ?_ ?_
    · exact (ot_X1_changedRadius_21 S)
    · refine mf_bind (fun r2 hr2 => ?_)
      refine mf_ite ?_ ?_
      · exact (ot_X1_changedRadius_21 S)
      · exact (ot_X1_changedRadius_22 1 S)
  exact q r h
theorem wt_X1_changedRadius_22 {P : GP} {X : Ctx} {l : Launch} {S0 : St} {F : Nat} (hO : okG P) (C : CX (OG P) X l cX1_changedRadius 3 RX1 (some .int)) (hst : l.stackTraces = false) {c : Nat} (hm : X.2.2.2.2.2.2.2.2.2 = some (.inl (exn c))) (hnt : ∀ x ∈ X.2.2.2.2.2.2.2.2.1.exceptionTable.toList, False) {x0 : Nat} {x1 : Int32} {x2 : Int32}  (s0 : Int32) (S : St) : VF (OG P) X 3 51 3222 S0 f_mv (T_X1_changedRadius_22 F c x0 x1 x2 s0 S) S 22 [(0, .ref x0), (1, .int x1), (2, .int x2)] [.int s0] := by
  unfold T_X1_changedRadius_22
  refine v_tor (fun S1 h1 => ?_) (fun _ => ?_)
  · exact g_callTS (As := [.int s0]) (st := []) C hm (fun x hx => (hnt x hx).elim) lk_X1_115 dX1_changedRadius_22 rfl (Nat.le_of_ble_eq_true rfl) (Nat.le_of_ble_eq_true rfl) (Nat.le_of_ble_eq_true rfl) (tm_X1_checkThat hO hst c S s0 h1)
  · refine v_callS_rv C (As := [.int s0]) (st := []) lk_X1_115 dX1_changedRadius_22 rfl (Nat.le_of_ble_eq_true rfl) (Nat.le_of_ble_eq_true rfl) (Nat.le_of_ble_eq_true rfl) (fun _ z => met_X1_checkThat hO S s0 z) (fun r3 hr3 => ?_)
    refine v_aload_n C dX1_changedRadius_25 0 rfl ?_
    refine g_getA C dX1_changedRadius_26 cls_1 (Nat.le_of_ble_eq_true rfl) fl_X1_48 fs_X1_48 (fun y4 hy4 => ?_)
    refine g_callV_ri C (As := []) (st := []) lk_X1_271 dX1_changedRadius_29 rfl (Nat.le_of_ble_eq_true rfl) (Nat.le_of_ble_eq_true rfl) (Nat.le_of_ble_eq_true rfl) cls_3.1 rfl (fun _ z => rc_X3_isUsable z) (fun _ z => met_X3_isUsable hO F S y4 z) (fun r5 hr5 => ?_)
    refine v_tor (fun S1 h1 => ?_) (fun _ => ?_)
    · exact g_callTS (As := [.int r5]) (st := []) C hm (fun x hx => (hnt x hx).elim) lk_X1_131 dX1_changedRadius_32 rfl (Nat.le_of_ble_eq_true rfl) (Nat.le_of_ble_eq_true rfl) (Nat.le_of_ble_eq_true rfl) (tm_X1_checkState hO hst c S r5 h1)
    · refine v_callS_rv C (As := [.int r5]) (st := []) lk_X1_131 dX1_changedRadius_32 rfl (Nat.le_of_ble_eq_true rfl) (Nat.le_of_ble_eq_true rfl) (Nat.le_of_ble_eq_true rfl) (fun _ z => met_X1_checkState hO S r5 z) (fun r6 hr6 => ?_)
      exact VF.none
theorem wt_X1_changedRadius_21 {P : GP} {X : Ctx} {l : Launch} {S0 : St} {F : Nat} (hO : okG P) (C : CX (OG P) X l cX1_changedRadius 3 RX1 (some .int)) (hst : l.stackTraces = false) {c : Nat} (hm : X.2.2.2.2.2.2.2.2.2 = some (.inl (exn c))) (hnt : ∀ x ∈ X.2.2.2.2.2.2.2.2.1.exceptionTable.toList, False) {x0 : Nat} {x1 : Int32} {x2 : Int32}  (S : St) : VF (OG P) X 3 51 3222 S0 f_mv (T_X1_changedRadius_21 F c x0 x1 x2 S) S 21 [(0, .ref x0), (1, .int x1), (2, .int x2)] [] := by
  unfold T_X1_changedRadius_21
  refine v_iconst C dX1_changedRadius_21 ci_0 ?_
  exact v_sub [0, 1, 2] rfl (wt_X1_changedRadius_22 hO C hst hm hnt 0 S)
theorem tm_X1_changedRadius {P : GP} {l : Launch} (hO : okG P) (hst : l.stackTraces = false) (F : Nat) (c : Nat) (S : St) (x0 : Nat) (x1 : Int32) (x2 : Int32) {r : St} (h : T_X1_changedRadius F c S x0 x1 x2 = some r) : TM l P yX1_changedRadius (ws_ yX1_changedRadius cX1_changedRadius 3 (some .int)) 51 3222 [.ref x0, .int x1, .int x2] S (exn c) r := by
  refine TM.of (own := RX1) (lv := [(0, .ref x0), (1, .int x1), (2, .int x2)]) hO pl_X1 rfl (Nat.le_of_ble_eq_true rfl) rfl h (tmono_X1_changedRadius h) (fun X C hm hnt _ => ?_)
  unfold T_X1_changedRadius
  refine VF.bind (fun _ _ => ?_)
  refine v_iload_n C dX1_changedRadius_0 1 rfl ?_
  refine v_iconst C dX1_changedRadius_1 ci_0 ?_
  refine v_bipush C dX1_changedRadius_2 cb_10 ?_
  refine v_callS_ri C (As := [.int x1, .int 0, .int 10]) (st := []) lk_X1_87 dX1_changedRadius_4 rfl (Nat.le_of_ble_eq_true rfl) (Nat.le_of_ble_eq_true rfl) (Nat.le_of_ble_eq_true rfl) (fun _ z => met_X1_isIn hO S x1 0 10 z) (fun r1 hr1 => ?_)
  refine v_if_eq C (tgt := 21) dX1_changedRadius_7 rfl (fun _ => ?_) (fun _ => ?_)
  · exact v_sub [0, 1, 2] rfl (wt_X1_changedRadius_21 hO C hst hm hnt S)
  · refine v_iload_n C dX1_changedRadius_10 2 rfl ?_
    refine v_callS_ri C (As := [.int x2]) (st := []) lk_X1_223 dX1_changedRadius_11 rfl (Nat.le_of_ble_eq_true rfl) (Nat.le_of_ble_eq_true rfl) (Nat.le_of_ble_eq_true rfl) (fun _ z => met_X1_isPart hO S x2 z) (fun r2 hr2 => ?_)
    refine v_if_eq C (tgt := 21) dX1_changedRadius_14 rfl (fun _ => ?_) (fun _ => ?_)
    · exact v_sub [0, 1, 2] rfl (wt_X1_changedRadius_21 hO C hst hm hnt S)
    · refine v_iconst C dX1_changedRadius_17 ci_1 ?_
      refine v_goto C (tgt := 22) dX1_changedRadius_18 rfl ?_
      exact v_sub [0, 1, 2] rfl (wt_X1_changedRadius_22 hO C hst hm hnt 1 S)
theorem tmono_X1_radiusWithout {F : Nat} {c : Nat} {S : St} {x0 : Nat} {x1 : Int32} {x2 : Int32} {r : St} (h : T_X1_radiusWithout F c S x0 x1 x2 = some r) : leG S r := by
  have q : MF mf_s (T_X1_radiusWithout F c S x0 x1 x2) S := by
    unfold T_X1_radiusWithout
    refine mf_bind (fun _ _ => ?_)
    refine mf_tor (fun _ z => tmono_X1_checkEdge z) ?_
    refine mf_bind (fun r1 hr1 => ?_)
    refine mf_bind (fun r2 hr2 => ?_)
    refine mf_tor (fun _ z => T_X1_check_le z) ?_
    refine mf_bind (fun r3 hr3 => ?_)
    exact mf_none
  exact q r h
theorem tm_X1_radiusWithout {P : GP} {l : Launch} (hO : okG P) (hst : l.stackTraces = false) (F : Nat) (c : Nat) (S : St) (x0 : Nat) (x1 : Int32) (x2 : Int32) {r : St} (h : T_X1_radiusWithout F c S x0 x1 x2 = some r) : TM l P yX1_radiusWithout (ws_ yX1_radiusWithout cX1_radiusWithout 4 (some .int)) 51 3222 [.ref x0, .int x1, .int x2] S (exn c) r := by
  refine TM.of (own := RX1) (lv := [(0, .ref x0), (1, .int x1), (2, .int x2)]) hO pl_X1 rfl (Nat.le_of_ble_eq_true rfl) rfl h (tmono_X1_radiusWithout h) (fun X C hm hnt _ => ?_)
  unfold T_X1_radiusWithout
  refine VF.bind (fun _ _ => ?_)
  refine v_aload_n C dX1_radiusWithout_0 0 rfl ?_
  refine v_iload_n C dX1_radiusWithout_1 1 rfl ?_
  refine v_tor (fun S1 h1 => ?_) (fun _ => ?_)
  · exact g_callTV (As := [.int x1]) (st := []) C hm (fun x hx => (hnt x hx).elim) lk_X1_141 dX1_radiusWithout_2 rfl (Nat.le_of_ble_eq_true rfl) (Nat.le_of_ble_eq_true rfl) (Nat.le_of_ble_eq_true rfl) cls_1.1 rfl (rct_X1_checkEdge h1) (tm_X1_checkEdge hO hst c S x0 x1 h1)
  · refine g_callV_rv C (As := [.int x1]) (st := []) lk_X1_141 dX1_radiusWithout_2 rfl (Nat.le_of_ble_eq_true rfl) (Nat.le_of_ble_eq_true rfl) (Nat.le_of_ble_eq_true rfl) cls_1.1 rfl (fun _ z => rc_X1_checkEdge z) (fun _ z => met_X1_checkEdge hO S x0 x1 z) (fun r1 hr1 => ?_)
    refine v_iload_n C dX1_radiusWithout_5 2 rfl ?_
    refine v_callS_ri C (As := [.int x2]) (st := []) lk_X1_223 dX1_radiusWithout_6 rfl (Nat.le_of_ble_eq_true rfl) (Nat.le_of_ble_eq_true rfl) (Nat.le_of_ble_eq_true rfl) (fun _ z => met_X1_isPart hO S x2 z) (fun r2 hr2 => ?_)
    refine v_tor (fun S1 h1 => ?_) (fun _ => ?_)
    · exact g_callTS (As := [.int r2]) (st := []) C hm (fun x hx => (hnt x hx).elim) lk_X1_115 dX1_radiusWithout_9 rfl (Nat.le_of_ble_eq_true rfl) (Nat.le_of_ble_eq_true rfl) (Nat.le_of_ble_eq_true rfl) (tm_X1_checkThat hO hst c S r2 h1)
    · refine v_callS_rv C (As := [.int r2]) (st := []) lk_X1_115 dX1_radiusWithout_9 rfl (Nat.le_of_ble_eq_true rfl) (Nat.le_of_ble_eq_true rfl) (Nat.le_of_ble_eq_true rfl) (fun _ z => met_X1_checkThat hO S r2 z) (fun r3 hr3 => ?_)
      exact VF.none
theorem ot_X1_type_28 {c : Nat} {x0 : Nat} {x1 : Int32}  (s0 : Int32) (S : St) : MF mf_s (T_X1_type_28 c x0 x1 s0 S) S := by
  unfold T_X1_type_28
  refine mf_tor (fun _ z => T_X1_check_le z) ?_
  refine mf_bind (fun r5 hr5 => ?_)
  exact mf_none
theorem tmono_X1_type {c : Nat} {S : St} {x0 : Nat} {x1 : Int32} {r : St} (h : T_X1_type c S x0 x1 = some r) : leG S r := by
  have q : MF mf_s (T_X1_type c S x0 x1) S := by
    unfold T_X1_type
    refine mf_bind (fun _ _ => ?_)
    refine mf_bind (fun r1 hr1 => ?_)
    refine mf_tor (fun _ z => T_X1_check_le z) ?_
    refine mf_bind (fun r2 hr2 => ?_)
    refine mf_bind (fun y3 hy3 => ?_)
    refine mf_bind (fun r4 hr4 => ?_)
    refine mf_ite ?_ ?_
    · exact (ot_X1_type_28 0 S)
    · exact (ot_X1_type_28 1 S)
  exact q r h
theorem wt_X1_type_28 {P : GP} {X : Ctx} {l : Launch} {S0 : St} (hO : okG P) (C : CX (OG P) X l cX1_type 2 RX1 (some .int)) (hst : l.stackTraces = false) {c : Nat} (hm : X.2.2.2.2.2.2.2.2.2 = some (.inl (exn c))) (hnt : ∀ x ∈ X.2.2.2.2.2.2.2.2.1.exceptionTable.toList, False) {x0 : Nat} {x1 : Int32}  (s0 : Int32) (S : St) : VF (OG P) X 2 7 146 S0 f_mv (T_X1_type_28 c x0 x1 s0 S) S 28 [(0, .ref x0), (1, .int x1)] [.int s0] := by
  unfold T_X1_type_28
  refine v_tor (fun S1 h1 => ?_) (fun _ => ?_)
  · exact g_callTS (As := [.int s0]) (st := []) C hm (fun x hx => (hnt x hx).elim) lk_X1_131 dX1_type_28 rfl (Nat.le_of_ble_eq_true rfl) (Nat.le_of_ble_eq_true rfl) (Nat.le_of_ble_eq_true rfl) (tm_X1_checkState hO hst c S s0 h1)
  · refine v_callS_rv C (As := [.int s0]) (st := []) lk_X1_131 dX1_type_28 rfl (Nat.le_of_ble_eq_true rfl) (Nat.le_of_ble_eq_true rfl) (Nat.le_of_ble_eq_true rfl) (fun _ z => met_X1_checkState hO S s0 z) (fun r5 hr5 => ?_)
    exact VF.none
theorem tm_X1_type {P : GP} {l : Launch} (hO : okG P) (hst : l.stackTraces = false) (c : Nat) (S : St) (x0 : Nat) (x1 : Int32) {r : St} (h : T_X1_type c S x0 x1 = some r) : TM l P yX1_type (ws_ yX1_type cX1_type 2 (some .int)) 7 146 [.ref x0, .int x1] S (exn c) r := by
  refine TM.of (own := RX1) (lv := [(0, .ref x0), (1, .int x1)]) hO pl_X1 rfl (Nat.le_of_ble_eq_true rfl) rfl h (tmono_X1_type h) (fun X C hm hnt _ => ?_)
  unfold T_X1_type
  refine VF.bind (fun _ _ => ?_)
  refine v_iload_n C dX1_type_0 1 rfl ?_
  refine v_bipush C dX1_type_1 cb_32 ?_
  refine v_bipush C dX1_type_3 cb_126 ?_
  refine v_callS_ri C (As := [.int x1, .int 32, .int 126]) (st := []) lk_X1_87 dX1_type_5 rfl (Nat.le_of_ble_eq_true rfl) (Nat.le_of_ble_eq_true rfl) (Nat.le_of_ble_eq_true rfl) (fun _ z => met_X1_isIn hO S x1 32 126 z) (fun r1 hr1 => ?_)
  refine v_tor (fun S1 h1 => ?_) (fun _ => ?_)
  · exact g_callTS (As := [.int r1]) (st := []) C hm (fun x hx => (hnt x hx).elim) lk_X1_115 dX1_type_8 rfl (Nat.le_of_ble_eq_true rfl) (Nat.le_of_ble_eq_true rfl) (Nat.le_of_ble_eq_true rfl) (tm_X1_checkThat hO hst c S r1 h1)
  · refine v_callS_rv C (As := [.int r1]) (st := []) lk_X1_115 dX1_type_8 rfl (Nat.le_of_ble_eq_true rfl) (Nat.le_of_ble_eq_true rfl) (Nat.le_of_ble_eq_true rfl) (fun _ z => met_X1_checkThat hO S r1 z) (fun r2 hr2 => ?_)
    refine v_aload_n C dX1_type_11 0 rfl ?_
    refine g_getA C dX1_type_12 cls_1 (Nat.le_of_ble_eq_true rfl) fl_X1_62 fs_X1_62 (fun y3 hy3 => ?_)
    refine g_callV_ri C (As := []) (st := []) lk_X1_307 dX1_type_15 rfl (Nat.le_of_ble_eq_true rfl) (Nat.le_of_ble_eq_true rfl) (Nat.le_of_ble_eq_true rfl) cls_12.1 rfl (fun _ z => rc_J4_length z) (fun _ z => met_J4_length hO S y3 z) (fun r4 hr4 => ?_)
    refine v_bipush C dX1_type_18 cb_120 ?_
    refine v_icmp_ge C (tgt := 27) dX1_type_20 rfl (fun _ => ?_) (fun _ => ?_)
    · refine v_iconst C dX1_type_27 ci_0 ?_
      exact v_sub [0, 1] rfl (wt_X1_type_28 hO C hst hm hnt 0 S)
    · refine v_iconst C dX1_type_23 ci_1 ?_
      refine v_goto C (tgt := 28) dX1_type_24 rfl ?_
      exact v_sub [0, 1] rfl (wt_X1_type_28 hO C hst hm hnt 1 S)
theorem ot_X1_undo_15 {F : Nat} {c : Nat} {x0 : Nat}  (s0 : Int32) (S : St) : MF mf_s (T_X1_undo_15 F c x0 s0 S) S := by
  unfold T_X1_undo_15
  refine mf_tor (fun _ z => T_X1_check_le z) ?_
  refine mf_bind (fun r3 hr3 => ?_)
  exact mf_none
theorem tmono_X1_undo {F : Nat} {c : Nat} {S : St} {x0 : Nat} {r : St} (h : T_X1_undo F c S x0 = some r) : leG S r := by
  have q : MF mf_s (T_X1_undo F c S x0) S := by
    unfold T_X1_undo
    refine mf_bind (fun _ _ => ?_)
    refine mf_bind (fun y1 hy1 => ?_)
    refine mf_bind (fun r2 hr2 => ?_)
    refine mf_ite ?_ ?_
    · exact (ot_X1_undo_15 1 S)
    · exact (ot_X1_undo_15 0 S)
  exact q r h
theorem wt_X1_undo_15 {P : GP} {X : Ctx} {l : Launch} {S0 : St} {F : Nat} (hO : okG P) (C : CX (OG P) X l cX1_undo 1 RX1 (some .int)) (hst : l.stackTraces = false) {c : Nat} (hm : X.2.2.2.2.2.2.2.2.2 = some (.inl (exn c))) (hnt : ∀ x ∈ X.2.2.2.2.2.2.2.2.1.exceptionTable.toList, False) {x0 : Nat}  (s0 : Int32) (S : St) : VF (OG P) X 1 7 120 S0 f_mv (T_X1_undo_15 F c x0 s0 S) S 15 [(0, .ref x0)] [.int s0] := by
  unfold T_X1_undo_15
  refine v_tor (fun S1 h1 => ?_) (fun _ => ?_)
  · exact g_callTS (As := [.int s0]) (st := []) C hm (fun x hx => (hnt x hx).elim) lk_X1_131 dX1_undo_15 rfl (Nat.le_of_ble_eq_true rfl) (Nat.le_of_ble_eq_true rfl) (Nat.le_of_ble_eq_true rfl) (tm_X1_checkState hO hst c S s0 h1)
  · refine v_callS_rv C (As := [.int s0]) (st := []) lk_X1_131 dX1_undo_15 rfl (Nat.le_of_ble_eq_true rfl) (Nat.le_of_ble_eq_true rfl) (Nat.le_of_ble_eq_true rfl) (fun _ z => met_X1_checkState hO S s0 z) (fun r3 hr3 => ?_)
    exact VF.none
theorem tm_X1_undo {P : GP} {l : Launch} (hO : okG P) (hst : l.stackTraces = false) (F : Nat) (c : Nat) (S : St) (x0 : Nat) {r : St} (h : T_X1_undo F c S x0 = some r) : TM l P yX1_undo (ws_ yX1_undo cX1_undo 1 (some .int)) 7 120 [.ref x0] S (exn c) r := by
  refine TM.of (own := RX1) (lv := [(0, .ref x0)]) hO pl_X1 rfl (Nat.le_of_ble_eq_true rfl) rfl h (tmono_X1_undo h) (fun X C hm hnt _ => ?_)
  unfold T_X1_undo
  refine VF.bind (fun _ _ => ?_)
  refine v_aload_n C dX1_undo_0 0 rfl ?_
  refine g_getA C dX1_undo_1 cls_1 (Nat.le_of_ble_eq_true rfl) fl_X1_55 fs_X1_55 (fun y1 hy1 => ?_)
  refine g_callV_ri C (As := []) (st := []) lk_X1_348 dX1_undo_4 rfl (Nat.le_of_ble_eq_true rfl) (Nat.le_of_ble_eq_true rfl) (Nat.le_of_ble_eq_true rfl) cls_11.1 rfl (fun _ z => rc_J2_isEmpty z) (fun _ z => met_J2_isEmpty hO S y1 z) (fun r2 hr2 => ?_)
  refine v_if_ne C (tgt := 14) dX1_undo_7 rfl (fun _ => ?_) (fun _ => ?_)
  · refine v_iconst C dX1_undo_10 ci_1 ?_
    refine v_goto C (tgt := 15) dX1_undo_11 rfl ?_
    exact v_sub [0] rfl (wt_X1_undo_15 hO C hst hm hnt 1 S)
  · refine v_iconst C dX1_undo_14 ci_0 ?_
    exact v_sub [0] rfl (wt_X1_undo_15 hO C hst hm hnt 0 S)
