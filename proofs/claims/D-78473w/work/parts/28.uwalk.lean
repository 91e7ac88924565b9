/-! THEIR WALKS (by program) -/
set_option maxRecDepth 100000
set_option maxHeartbeats 4000000

theorem umono_X10_require {ek : Nat → Nat} {S : St} {x0 : Nat} {x1 : Int32} {r : Nat × St} (h : U_X10_require ek S x0 x1 = some r) : leG S r.2 := by
  have q : MF mf_p (U_X10_require ek S x0 x1) S := by
    unfold U_X10_require
    refine mf_bind (fun _ _ => ?_)
    refine mf_ite ?_ ?_
    · refine mf_new (fun r1 hr1 => ?_)
      refine mf_bind (fun y2 hy2 => ?_)
      refine mf_callv (fun _ z => mono_X11_init z) (fun r3 hr3 => ?_)
      refine mf_bind (fun _ _ => ?_)
      exact mf_ret leG.rf
    · exact mf_none
  exact q r h
theorem um_X10_require {P : GP} {l : Launch} (hO : okG P) (S : St) (x0 : Nat) (x1 : Int32) {r : Nat × St} (h : U_X10_require P.2.2.2.2.2 S x0 x1 = some r) : UM l P yX10_require (ws_ yX10_require cX10_require 2 none) 4 103 [.ref x0, .int x1] S RX11 r := by
  refine UM.of (own := RX10) (lv := [(0, .ref x0), (1, .int x1)]) hO pl_X10 rfl (Nat.le_of_ble_eq_true rfl) rfl h (umono_X10_require h) (fun X C hm hnt => ?_)
  unfold U_X10_require
  refine VF.bind (fun _ _ => ?_)
  refine v_iload_n C dX10_require_0 1 rfl ?_
  refine v_if_ne C (tgt := 16) dX10_require_1 rfl (fun _ => ?_) (fun _ => ?_)
  · refine g_new C dX10_require_4 cls_10 q773 q774 q150 dfok_10 (fun r1 hr1 => ?_)
    refine v_dup C dX10_require_7 rfl ?_
    refine v_aload_n C dX10_require_8 0 rfl ?_
    refine g_getI C dX10_require_9 cls_9 (Nat.le_of_ble_eq_true rfl) fl_X10_19 fs_X10_19 (fun y2 hy2 => ?_)
    refine v_callI_mv C (As := [.int y2]) (st := [.ref (r1.1)]) lk_X10_41 dX10_require_12 rfl (Nat.le_of_ble_eq_true rfl) (Nat.le_of_ble_eq_true rfl) (Nat.le_of_ble_eq_true rfl) (fun _ z => met_X11_init hO r1.2 (r1.1) y2 z) (fun r3 hr3 => ?_)
    exact g_athrow C hm hnt cls_10.1 dX10_require_15
  · exact VF.none
theorem ou_X10_expect_14 {F : Nat} {ek : Nat → Nat} {x0 : Nat}  (s0 : Nat) (s1 : Int32) (S : St) : MF mf_p (U_X10_expect_14 F ek x0 s0 s1 S) S := by
  unfold U_X10_expect_14
  refine mf_torU (fun _ z => umono_X10_require z) ?_
  refine mf_callv (fun _ z => mono_X10_require z) (fun r2 hr2 => ?_)
  exact mf_none
theorem umono_X10_expect {F : Nat} {ek : Nat → Nat} {S : St} {x0 : Nat} {x1 : Int32} {r : Nat × St} (h : U_X10_expect F ek S x0 x1 = some r) : leG S r.2 := by
  have q : MF mf_p (U_X10_expect F ek S x0 x1) S := by
    unfold U_X10_expect
    refine mf_bind (fun _ _ => ?_)
    refine mf_call (fun _ z => mono_X10_token z) (fun r1 hr1 => ?_)
    refine mf_ite ?_ ?_
    · exact (ou_X10_expect_14 x0 1 r1.2)
    · exact (ou_X10_expect_14 x0 0 r1.2)
  exact q r h
theorem wu_X10_expect_14 {P : GP} {X : Ctx} {l : Launch} {S0 : St} {F : Nat} (hO : okG P) (C : CX (OG P) X l cX10_expect 2 RX10 none) (hm : X.2.2.2.2.2.2.2.2.2 = some (.inr RX11)) (hnt : ∀ x ∈ X.2.2.2.2.2.2.2.2.1.exceptionTable.toList, False) {x0 : Nat}  (s0 : Nat) (s1 : Int32) (S : St) : VF (OG P) X 2 6 128 S0 f_ma (U_X10_expect_14 F P.2.2.2.2.2 x0 s0 s1 S) S 14 [(0, .ref x0)] [.int s1, .ref s0] := by
  unfold U_X10_expect_14
  refine v_torU (fun S1 h1 => ?_) (fun _ => ?_)
  · exact g_callUV (As := [.int s1]) (st := []) C hm (fun x hx => (hnt x hx).elim) lk_X10_44 dX10_expect_14 rfl (Nat.le_of_ble_eq_true rfl) (Nat.le_of_ble_eq_true rfl) (Nat.le_of_ble_eq_true rfl) cls_9.1 rfl (rcu_X10_require h1) (um_X10_require hO S s0 s1 h1)
  · refine g_callV_mv C (As := [.int s1]) (st := []) lk_X10_44 dX10_expect_14 rfl (Nat.le_of_ble_eq_true rfl) (Nat.le_of_ble_eq_true rfl) (Nat.le_of_ble_eq_true rfl) cls_9.1 rfl (fun _ z => rc_X10_require z) (fun _ z => met_X10_require hO S s0 s1 z) (fun r2 hr2 => ?_)
    exact VF.none
theorem um_X10_expect {P : GP} {l : Launch} (hO : okG P) (F : Nat) (S : St) (x0 : Nat) (x1 : Int32) {r : Nat × St} (h : U_X10_expect F P.2.2.2.2.2 S x0 x1 = some r) : UM l P yX10_expect (ws_ yX10_expect cX10_expect 2 none) 6 128 [.ref x0, .int x1] S RX11 r := by
  refine UM.of (own := RX10) (lv := [(0, .ref x0), (1, .int x1)]) hO pl_X10 rfl (Nat.le_of_ble_eq_true rfl) rfl h (umono_X10_expect h) (fun X C hm hnt => ?_)
  unfold U_X10_expect
  refine VF.bind (fun _ _ => ?_)
  refine v_aload_n C dX10_expect_0 0 rfl ?_
  refine v_aload_n C dX10_expect_1 0 rfl ?_
  refine g_callV_mi C (As := []) (st := [.ref x0]) lk_X10_36 dX10_expect_2 rfl (Nat.le_of_ble_eq_true rfl) (Nat.le_of_ble_eq_true rfl) (Nat.le_of_ble_eq_true rfl) cls_9.1 rfl (fun _ z => rc_X10_token z) (fun _ z => met_X10_token hO F S x0 z) (fun r1 hr1 => ?_)
  refine v_iload_n C dX10_expect_5 1 rfl ?_
  refine v_icmp_ne C (tgt := 13) dX10_expect_6 rfl (fun _ => ?_) (fun _ => ?_)
  · refine v_iconst C dX10_expect_9 ci_1 ?_
    refine v_goto C (tgt := 14) dX10_expect_10 rfl ?_
    exact v_sub [0] rfl (wu_X10_expect_14 hO C hm hnt x0 1 r1.2)
  · refine v_iconst C dX10_expect_13 ci_0 ?_
    exact v_sub [0] rfl (wu_X10_expect_14 hO C hm hnt x0 0 r1.2)
theorem ou_X10_number_70 {F : Nat} {ek : Nat → Nat} {x0 : Nat} {x1 : Int32}  (S : St) : MF mf_p (U_X10_number_70 F ek x0 x1 S) S := by
  unfold U_X10_number_70
  refine mf_bind (fun r14 hr14 => ?_)
  refine mf_bind (fun r15 hr15 => ?_)
  refine mf_ite ?_ ?_
  · refine mf_torU (fun _ z => umono_X10_require z) ?_
    refine mf_callv (fun _ z => mono_X10_require z) (fun r16 hr16 => ?_)
    exact mf_none
  · refine mf_torU (fun _ z => umono_X10_require z) ?_
    refine mf_callv (fun _ z => mono_X10_require z) (fun r17 hr17 => ?_)
    exact mf_none
theorem umono_X10_number {F : Nat} {ek : Nat → Nat} {S : St} {x0 : Nat} {r : Nat × St} (h : U_X10_number F ek S x0 = some r) : leG S r.2 := by
  have q : MF mf_p (U_X10_number F ek S x0) S := by
    unfold U_X10_number
    refine mf_bind (fun _ _ => ?_)
    refine mf_call (fun _ z => mono_X10_token z) (fun r1 hr1 => ?_)
    refine mf_bind (fun r2 hr2 => ?_)
    refine mf_torU (fun _ z => umono_X10_require z) ?_
    refine mf_callv (fun _ z => mono_X10_require z) (fun r3 hr3 => ?_)
    refine mf_bind (fun r4 hr4 => ?_)
    refine mf_bind (fun y5 hy5 => ?_)
    refine mf_bind (fun y6 hy6 => ?_)
    refine mf_put (fun S7 hS7 => ?_)
    refine mf_bind (fun r8 hr8 => ?_)
    refine mf_bind (fun r9 hr9 => ?_)
    refine mf_ite ?_ ?_
    · exact (ou_X10_number_70 S7)
    · refine mf_bind (fun r10 hr10 => ?_)
      refine mf_bind (fun y11 hy11 => ?_)
      refine mf_bind (fun y12 hy12 => ?_)
      refine mf_put (fun S13 hS13 => ?_)
      exact (ou_X10_number_70 S13)
  exact q r h
theorem wu_X10_number_70 {P : GP} {X : Ctx} {l : Launch} {S0 : St} {F : Nat} (hO : okG P) (C : CX (OG P) X l cX10_number 2 RX10 (some .int)) (hm : X.2.2.2.2.2.2.2.2.2 = some (.inr RX11)) (hnt : ∀ x ∈ X.2.2.2.2.2.2.2.2.1.exceptionTable.toList, False) {x0 : Nat} {x1 : Int32}  (S : St) : VF (OG P) X 2 6 128 S0 f_ma (U_X10_number_70 F P.2.2.2.2.2 x0 x1 S) S 70 [(0, .ref x0), (1, .int x1)] [] := by
  unfold U_X10_number_70
  refine v_aload_n C dX10_number_70 0 rfl ?_
  refine v_aload_n C dX10_number_71 0 rfl ?_
  refine g_callV_ri C (As := []) (st := [.ref x0]) lk_X10_33 dX10_number_72 rfl (Nat.le_of_ble_eq_true rfl) (Nat.le_of_ble_eq_true rfl) (Nat.le_of_ble_eq_true rfl) cls_9.1 rfl (fun _ z => rc_X10_next z) (fun _ z => met_X10_next hO S x0 z) (fun r14 hr14 => ?_)
  refine v_bipush C dX10_number_75 cb_48 ?_
  refine v_bipush C dX10_number_77 cb_57 ?_
  refine g_callSN_ri C (As := [.int r14, .int 48, .int 57]) (st := [.ref x0]) lk_X10_48 dX10_number_79 rfl (Nat.le_of_ble_eq_true rfl) (Nat.le_of_ble_eq_true rfl) (Nat.le_of_ble_eq_true rfl) (fun _ z => met_X1_isIn hO S r14 48 57 z) (fun r15 hr15 => ?_)
  refine v_if_ne C (tgt := 89) dX10_number_82 rfl (fun _ => ?_) (fun _ => ?_)
  · refine v_iconst C dX10_number_85 ci_1 ?_
    refine v_goto C (tgt := 90) dX10_number_86 rfl ?_
    refine v_torU (fun S1 h1 => ?_) (fun _ => ?_)
    · exact g_callUV (As := [.int 1]) (st := []) C hm (fun x hx => (hnt x hx).elim) lk_X10_44 dX10_number_90 rfl (Nat.le_of_ble_eq_true rfl) (Nat.le_of_ble_eq_true rfl) (Nat.le_of_ble_eq_true rfl) cls_9.1 rfl (rcu_X10_require h1) (um_X10_require hO S x0 1 h1)
    · refine g_callV_mv C (As := [.int 1]) (st := []) lk_X10_44 dX10_number_90 rfl (Nat.le_of_ble_eq_true rfl) (Nat.le_of_ble_eq_true rfl) (Nat.le_of_ble_eq_true rfl) cls_9.1 rfl (fun _ z => rc_X10_require z) (fun _ z => met_X10_require hO S x0 1 z) (fun r16 hr16 => ?_)
      exact VF.none
  · refine v_iconst C dX10_number_89 ci_0 ?_
    refine v_torU (fun S1 h1 => ?_) (fun _ => ?_)
    · exact g_callUV (As := [.int 0]) (st := []) C hm (fun x hx => (hnt x hx).elim) lk_X10_44 dX10_number_90 rfl (Nat.le_of_ble_eq_true rfl) (Nat.le_of_ble_eq_true rfl) (Nat.le_of_ble_eq_true rfl) cls_9.1 rfl (rcu_X10_require h1) (um_X10_require hO S x0 0 h1)
    · refine g_callV_mv C (As := [.int 0]) (st := []) lk_X10_44 dX10_number_90 rfl (Nat.le_of_ble_eq_true rfl) (Nat.le_of_ble_eq_true rfl) (Nat.le_of_ble_eq_true rfl) cls_9.1 rfl (fun _ z => rc_X10_require z) (fun _ z => met_X10_require hO S x0 0 z) (fun r17 hr17 => ?_)
      exact VF.none
theorem um_X10_number {P : GP} {l : Launch} (hO : okG P) (F : Nat) (S : St) (x0 : Nat) {r : Nat × St} (h : U_X10_number F P.2.2.2.2.2 S x0 = some r) : UM l P yX10_number (ws_ yX10_number cX10_number 2 (some .int)) 6 128 [.ref x0] S RX11 r := by
  refine UM.of (own := RX10) (lv := [(0, .ref x0)]) hO pl_X10 rfl (Nat.le_of_ble_eq_true rfl) rfl h (umono_X10_number h) (fun X C hm hnt => ?_)
  unfold U_X10_number
  refine VF.bind (fun _ _ => ?_)
  refine v_aload_n C dX10_number_0 0 rfl ?_
  refine v_aload_n C dX10_number_1 0 rfl ?_
  refine g_callV_mi C (As := []) (st := [.ref x0]) lk_X10_36 dX10_number_2 rfl (Nat.le_of_ble_eq_true rfl) (Nat.le_of_ble_eq_true rfl) (Nat.le_of_ble_eq_true rfl) cls_9.1 rfl (fun _ z => rc_X10_token z) (fun _ z => met_X10_token hO F S x0 z) (fun r1 hr1 => ?_)
  refine v_bipush C dX10_number_5 cb_48 ?_
  refine v_bipush C dX10_number_7 cb_57 ?_
  refine g_callSN_ri C (As := [.int (r1.1), .int 48, .int 57]) (st := [.ref x0]) lk_X10_48 dX10_number_9 rfl (Nat.le_of_ble_eq_true rfl) (Nat.le_of_ble_eq_true rfl) (Nat.le_of_ble_eq_true rfl) (fun _ z => met_X1_isIn hO r1.2 (r1.1) 48 57 z) (fun r2 hr2 => ?_)
  refine v_torU (fun S1 h1 => ?_) (fun _ => ?_)
  · exact g_callUV (As := [.int r2]) (st := []) C hm (fun x hx => (hnt x hx).elim) lk_X10_44 dX10_number_12 rfl (Nat.le_of_ble_eq_true rfl) (Nat.le_of_ble_eq_true rfl) (Nat.le_of_ble_eq_true rfl) cls_9.1 rfl (rcu_X10_require h1) (um_X10_require hO r1.2 x0 r2 h1)
  · refine g_callV_mv C (As := [.int r2]) (st := []) lk_X10_44 dX10_number_12 rfl (Nat.le_of_ble_eq_true rfl) (Nat.le_of_ble_eq_true rfl) (Nat.le_of_ble_eq_true rfl) cls_9.1 rfl (fun _ z => rc_X10_require z) (fun _ z => met_X10_require hO r1.2 x0 r2 z) (fun r3 hr3 => ?_)
    refine v_aload_n C dX10_number_15 0 rfl ?_
    refine g_callV_ri C (As := []) (st := []) lk_X10_33 dX10_number_16 rfl (Nat.le_of_ble_eq_true rfl) (Nat.le_of_ble_eq_true rfl) (Nat.le_of_ble_eq_true rfl) cls_9.1 rfl (fun _ z => rc_X10_next z) (fun _ z => met_X10_next hO r3 x0 z) (fun r4 hr4 => ?_)
    refine v_bipush C dX10_number_19 cb_48 ?_
    refine v_isub C dX10_number_21 ?_
    refine v_leti (fun y5 hy5 => ?_)
    refine v_istore_n C (lv' := [(1, .int y5), (0, .ref x0)]) dX10_number_22 (Nat.le_of_ble_eq_true rfl) rfl ?_
    refine v_aload_n C dX10_number_23 1 rfl ?_
    refine v_dup C dX10_number_24 rfl ?_
    refine g_getI C dX10_number_25 cls_9 (Nat.le_of_ble_eq_true rfl) fl_X10_19 fs_X10_19 (fun y6 hy6 => ?_)
    refine v_iconst C dX10_number_28 ci_1 ?_
    refine v_iadd C dX10_number_29 ?_
    refine g_putV C dX10_number_30 cls_9 (Nat.le_of_ble_eq_true rfl) fl_X10_19 fs_X10_19 rfl rfl rfl (fun S7 hS7 => ?_)
    refine v_aload_n C dX10_number_33 1 rfl ?_
    refine g_callV_ri C (As := []) (st := []) lk_X10_33 dX10_number_34 rfl (Nat.le_of_ble_eq_true rfl) (Nat.le_of_ble_eq_true rfl) (Nat.le_of_ble_eq_true rfl) cls_9.1 rfl (fun _ z => rc_X10_next z) (fun _ z => met_X10_next hO S7 x0 z) (fun r8 hr8 => ?_)
    refine v_bipush C dX10_number_37 cb_48 ?_
    refine v_bipush C dX10_number_39 cb_57 ?_
    refine g_callSN_ri C (As := [.int r8, .int 48, .int 57]) (st := []) lk_X10_48 dX10_number_41 rfl (Nat.le_of_ble_eq_true rfl) (Nat.le_of_ble_eq_true rfl) (Nat.le_of_ble_eq_true rfl) (fun _ z => met_X1_isIn hO S7 r8 48 57 z) (fun r9 hr9 => ?_)
    refine v_if_eq C (tgt := 70) dX10_number_44 rfl (fun _ => ?_) (fun _ => ?_)
    · exact v_sub [1, 0] rfl (wu_X10_number_70 hO C hm hnt S7)
    · refine v_bipush C dX10_number_47 cb_10 ?_
      refine v_iload_n C dX10_number_49 0 rfl ?_
      refine v_imul C dX10_number_50 ?_
      refine v_aload_n C dX10_number_51 1 rfl ?_
      refine g_callV_ri C (As := []) (st := [.int (10 * y5)]) lk_X10_33 dX10_number_52 rfl (Nat.le_of_ble_eq_true rfl) (Nat.le_of_ble_eq_true rfl) (Nat.le_of_ble_eq_true rfl) cls_9.1 rfl (fun _ z => rc_X10_next z) (fun _ z => met_X10_next hO S7 x0 z) (fun r10 hr10 => ?_)
      refine v_iadd C dX10_number_55 ?_
      refine v_bipush C dX10_number_56 cb_48 ?_
      refine v_isub C dX10_number_58 ?_
      refine v_leti (fun y11 hy11 => ?_)
      refine v_istore_n C (lv' := [(1, .int y11), (0, .ref x0)]) dX10_number_59 (Nat.le_of_ble_eq_true rfl) rfl ?_
      refine v_aload_n C dX10_number_60 1 rfl ?_
      refine v_dup C dX10_number_61 rfl ?_
      refine g_getI C dX10_number_62 cls_9 (Nat.le_of_ble_eq_true rfl) fl_X10_19 fs_X10_19 (fun y12 hy12 => ?_)
      refine v_iconst C dX10_number_65 ci_1 ?_
      refine v_iadd C dX10_number_66 ?_
      refine g_putV C dX10_number_67 cls_9 (Nat.le_of_ble_eq_true rfl) fl_X10_19 fs_X10_19 rfl rfl rfl (fun S13 hS13 => ?_)
      exact v_sub [1, 0] rfl (wu_X10_number_70 hO C hm hnt S13)
theorem umono_X10_two {F : Nat} {ek : Nat → Nat} {S : St} {x0 : Nat} {x1 : Int32} {x2 : Int32} {r : Nat × St} (h : U_X10_two F ek S x0 x1 x2 = some r) : leG S r.2 := by
  have q : MF mf_p (U_X10_two F ek S x0 x1 x2) S := by
    unfold U_X10_two
    refine mf_bind (fun _ _ => ?_)
    refine mf_bind (fun y1 hy1 => ?_)
    refine mf_torU (fun _ z => umono_X10_number z) ?_
    refine mf_call (fun _ z => mono_X10_number z) (fun r2 hr2 => ?_)
    refine mf_tI (fun S3 hS3 => ?_)
    refine mf_torU (fun _ z => umono_X10_expect z) ?_
    refine mf_callv (fun _ z => mono_X10_expect z) (fun r4 hr4 => ?_)
    refine mf_bind (fun y5 hy5 => ?_)
    refine mf_torU (fun _ z => umono_X10_number z) ?_
    refine mf_call (fun _ z => mono_X10_number z) (fun r6 hr6 => ?_)
    exact mf_none
  exact q r h
theorem um_X10_two {P : GP} {l : Launch} (hO : okG P) (F : Nat) (S : St) (x0 : Nat) (x1 : Int32) (x2 : Int32) {r : Nat × St} (h : U_X10_two F P.2.2.2.2.2 S x0 x1 x2 = some r) : UM l P yX10_two (ws_ yX10_two cX10_two 3 none) 7 149 [.ref x0, .int x1, .int x2] S RX11 r := by
  refine UM.of (own := RX10) (lv := [(0, .ref x0), (1, .int x1), (2, .int x2)]) hO pl_X10 rfl (Nat.le_of_ble_eq_true rfl) rfl h (umono_X10_two h) (fun X C hm hnt => ?_)
  unfold U_X10_two
  refine VF.bind (fun _ _ => ?_)
  refine v_aload_n C dX10_two_0 0 rfl ?_
  refine g_getA C dX10_two_1 cls_9 (Nat.le_of_ble_eq_true rfl) fl_X10_9 fs_X10_9 (fun y1 hy1 => ?_)
  refine v_iload_n C dX10_two_4 1 rfl ?_
  refine v_aload_n C dX10_two_5 0 rfl ?_
  refine v_torU (fun S1 h1 => ?_) (fun _ => ?_)
  · exact g_callUV (As := []) (st := [.int x1, .ref y1]) C hm (fun x hx => (hnt x hx).elim) lk_X10_52 dX10_two_6 rfl (Nat.le_of_ble_eq_true rfl) (Nat.le_of_ble_eq_true rfl) (Nat.le_of_ble_eq_true rfl) cls_9.1 rfl (rcu_X10_number h1) (um_X10_number hO F S x0  h1)
  · refine g_callV_mi C (As := []) (st := [.int x1, .ref y1]) lk_X10_52 dX10_two_6 rfl (Nat.le_of_ble_eq_true rfl) (Nat.le_of_ble_eq_true rfl) (Nat.le_of_ble_eq_true rfl) cls_9.1 rfl (fun _ z => rc_X10_number z) (fun _ z => met_X10_number hO F S x0 z) (fun r2 hr2 => ?_)
    refine g_ias C dX10_two_9 (fun S3 hS3 => ?_)
    refine v_aload_n C dX10_two_10 0 rfl ?_
    refine v_iload_n C dX10_two_11 2 rfl ?_
    refine v_torU (fun S1 h1 => ?_) (fun _ => ?_)
    · exact g_callUV (As := [.int x2]) (st := []) C hm (fun x hx => (hnt x hx).elim) lk_X10_55 dX10_two_12 rfl (Nat.le_of_ble_eq_true rfl) (Nat.le_of_ble_eq_true rfl) (Nat.le_of_ble_eq_true rfl) cls_9.1 rfl (rcu_X10_expect h1) (um_X10_expect hO F S3 x0 x2 h1)
    · refine g_callV_mv C (As := [.int x2]) (st := []) lk_X10_55 dX10_two_12 rfl (Nat.le_of_ble_eq_true rfl) (Nat.le_of_ble_eq_true rfl) (Nat.le_of_ble_eq_true rfl) cls_9.1 rfl (fun _ z => rc_X10_expect z) (fun _ z => met_X10_expect hO F S3 x0 x2 z) (fun r4 hr4 => ?_)
      refine v_aload_n C dX10_two_15 0 rfl ?_
      refine g_getA C dX10_two_16 cls_9 (Nat.le_of_ble_eq_true rfl) fl_X10_9 fs_X10_9 (fun y5 hy5 => ?_)
      refine v_iload_n C dX10_two_19 1 rfl ?_
      refine v_iconst C dX10_two_20 ci_1 ?_
      refine v_iadd C dX10_two_21 ?_
      refine v_aload_n C dX10_two_22 0 rfl ?_
      refine v_torU (fun S1 h1 => ?_) (fun _ => ?_)
      · exact g_callUV (As := []) (st := [.int (x1 + 1), .ref y5]) C hm (fun x hx => (hnt x hx).elim) lk_X10_52 dX10_two_23 rfl (Nat.le_of_ble_eq_true rfl) (Nat.le_of_ble_eq_true rfl) (Nat.le_of_ble_eq_true rfl) cls_9.1 rfl (rcu_X10_number h1) (um_X10_number hO F r4 x0  h1)
      · refine g_callV_mi C (As := []) (st := [.int (x1 + 1), .ref y5]) lk_X10_52 dX10_two_23 rfl (Nat.le_of_ble_eq_true rfl) (Nat.le_of_ble_eq_true rfl) (Nat.le_of_ble_eq_true rfl) cls_9.1 rfl (fun _ z => rc_X10_number z) (fun _ z => met_X10_number hO F r4 x0 z) (fun r6 hr6 => ?_)
        exact VF.none
theorem ou_X10_command_156 {F : Nat} {ek : Nat → Nat} {x0 : Nat}  (S : St) : MF mf_p (U_X10_command_156 F ek x0 S) S := by
  unfold U_X10_command_156
  refine mf_torU (fun _ z => umono_X10_expect z) ?_
  refine mf_callv (fun _ z => mono_X10_expect z) (fun r13 hr13 => ?_)
  exact mf_none
theorem ou_X10_command_114 {F : Nat} {ek : Nat → Nat} {x0 : Nat} {x1 : Int32}  (s0 : Nat) (s1 : Nat) (S : St) : MF mf_p (U_X10_command_114 F ek x0 x1 s0 s1 S) S := by
  unfold U_X10_command_114
  refine mf_put (fun S14 hS14 => ?_)
  refine mf_ite ?_ ?_
  · refine mf_torU (fun _ z => umono_X10_two z) ?_
    refine mf_callv (fun _ z => mono_X10_two z) (fun r15 hr15 => ?_)
    refine mf_torU (fun _ z => umono_X10_expect z) ?_
    refine mf_callv (fun _ z => mono_X10_expect z) (fun r16 hr16 => ?_)
    refine mf_bind (fun y17 hy17 => ?_)
    refine mf_torU (fun _ z => umono_X10_number z) ?_
    refine mf_call (fun _ z => mono_X10_number z) (fun r18 hr18 => ?_)
    refine mf_tI (fun S19 hS19 => ?_)
    exact (ou_X10_command_156 S19)
  · refine mf_torU (fun _ z => umono_X10_two z) ?_
    refine mf_callv (fun _ z => mono_X10_two z) (fun r20 hr20 => ?_)
    exact (ou_X10_command_156 r20)
theorem ou_X10_command_73 {F : Nat} {ek : Nat → Nat} {x0 : Nat} {x1 : Int32}  (s0 : Nat) (s1 : Int32) (S : St) : MF mf_p (U_X10_command_73 F ek x0 x1 s0 s1 S) S := by
  unfold U_X10_command_73
  refine mf_torU (fun _ z => umono_X10_require z) ?_
  refine mf_callv (fun _ z => mono_X10_require z) (fun r10 hr10 => ?_)
  refine mf_bind (fun y11 hy11 => ?_)
  refine mf_put (fun S12 hS12 => ?_)
  refine mf_ite ?_ ?_
  · exact (ou_X10_command_114 x0 (ek 1) S12)
  · refine mf_ite ?_ ?_
    · exact (ou_X10_command_114 x0 (ek 2) S12)
    · exact (ou_X10_command_114 x0 (ek 3) S12)
theorem ou_X10_command_68 {F : Nat} {ek : Nat → Nat} {x0 : Nat} {x1 : Int32}  (s0 : Nat) (S : St) : MF mf_p (U_X10_command_68 F ek x0 x1 s0 S) S := by
  unfold U_X10_command_68
  exact (ou_X10_command_73 s0 1 S)
theorem umono_X10_command {F : Nat} {ek : Nat → Nat} {S : St} {x0 : Nat} {r : Nat × St} (h : U_X10_command F ek S x0 = some r) : leG S r.2 := by
  have q : MF mf_p (U_X10_command F ek S x0) S := by
    unfold U_X10_command
    refine mf_bind (fun _ _ => ?_)
    refine mf_call (fun _ z => mono_X10_token z) (fun r1 hr1 => ?_)
    refine mf_bind (fun y2 hy2 => ?_)
    refine mf_bind (fun r3 hr3 => ?_)
    refine mf_ite ?_ ?_
    · refine mf_ite ?_ ?_
      · exact (ou_X10_command_68 x0 r1.2)
      · refine mf_ite ?_ ?_
        · exact (ou_X10_command_68 x0 r1.2)
        · refine mf_ite ?_ ?_
          · exact (ou_X10_command_68 x0 r1.2)
          · exact (ou_X10_command_73 x0 0 r1.2)
    · refine mf_put (fun S4 hS4 => ?_)
      refine mf_torU (fun _ z => umono_X10_two z) ?_
      refine mf_callv (fun _ z => mono_X10_two z) (fun r5 hr5 => ?_)
      refine mf_torU (fun _ z => umono_X10_expect z) ?_
      refine mf_callv (fun _ z => mono_X10_expect z) (fun r6 hr6 => ?_)
      refine mf_bind (fun y7 hy7 => ?_)
      refine mf_torU (fun _ z => umono_X10_number z) ?_
      refine mf_call (fun _ z => mono_X10_number z) (fun r8 hr8 => ?_)
      refine mf_tI (fun S9 hS9 => ?_)
      exact (ou_X10_command_156 S9)
  exact q r h
theorem wu_X10_command_156 {P : GP} {X : Ctx} {l : Launch} {S0 : St} {F : Nat} (hO : okG P) (C : CX (OG P) X l cX10_command 2 RX10 none) (hm : X.2.2.2.2.2.2.2.2.2 = some (.inr RX11)) (hnt : ∀ x ∈ X.2.2.2.2.2.2.2.2.1.exceptionTable.toList, False) {x0 : Nat}  (S : St) : VF (OG P) X 2 8 171 S0 f_ma (U_X10_command_156 F P.2.2.2.2.2 x0 S) S 156 [(0, .ref x0)] [] := by
  unfold U_X10_command_156
  refine v_aload_n C dX10_command_156 0 rfl ?_
  refine v_bipush C dX10_command_157 cb_59 ?_
  refine v_torU (fun S1 h1 => ?_) (fun _ => ?_)
  · exact g_callUV (As := [.int 59]) (st := []) C hm (fun x hx => (hnt x hx).elim) lk_X10_55 dX10_command_159 rfl (Nat.le_of_ble_eq_true rfl) (Nat.le_of_ble_eq_true rfl) (Nat.le_of_ble_eq_true rfl) cls_9.1 rfl (rcu_X10_expect h1) (um_X10_expect hO F S x0 59 h1)
  · refine g_callV_mv C (As := [.int 59]) (st := []) lk_X10_55 dX10_command_159 rfl (Nat.le_of_ble_eq_true rfl) (Nat.le_of_ble_eq_true rfl) (Nat.le_of_ble_eq_true rfl) cls_9.1 rfl (fun _ z => rc_X10_expect z) (fun _ z => met_X10_expect hO F S x0 59 z) (fun r13 hr13 => ?_)
    exact VF.none
theorem wu_X10_command_114 {P : GP} {X : Ctx} {l : Launch} {S0 : St} {F : Nat} (hO : okG P) (C : CX (OG P) X l cX10_command 2 RX10 none) (hm : X.2.2.2.2.2.2.2.2.2 = some (.inr RX11)) (hnt : ∀ x ∈ X.2.2.2.2.2.2.2.2.1.exceptionTable.toList, False) {x0 : Nat} {x1 : Int32}  (s0 : Nat) (s1 : Nat) (S : St) : VF (OG P) X 2 8 171 S0 f_ma (U_X10_command_114 F P.2.2.2.2.2 x0 x1 s0 s1 S) S 114 [(0, .ref x0), (1, .int x1)] [.ref s1, .ref s0] := by
  unfold U_X10_command_114
  refine g_putV C dX10_command_114 cls_9 (Nat.le_of_ble_eq_true rfl) fl_X10_65 fs_X10_65 rfl rfl rfl (fun S14 hS14 => ?_)
  refine v_iload_n C dX10_command_117 1 rfl ?_
  refine v_bipush C dX10_command_118 cb_120 ?_
  refine v_icmp_ne C (tgt := 149) dX10_command_120 rfl (fun _ => ?_) (fun _ => ?_)
  · refine v_aload_n C dX10_command_123 0 rfl ?_
    refine v_iconst C dX10_command_124 ci_0 ?_
    refine v_bipush C dX10_command_125 cb_58 ?_
    refine v_torU (fun S1 h1 => ?_) (fun _ => ?_)
    · exact g_callUV (As := [.int 0, .int 58]) (st := []) C hm (fun x hx => (hnt x hx).elim) lk_X10_68 dX10_command_127 rfl (Nat.le_of_ble_eq_true rfl) (Nat.le_of_ble_eq_true rfl) (Nat.le_of_ble_eq_true rfl) cls_9.1 rfl (rcu_X10_two h1) (um_X10_two hO F S14 x0 0 58 h1)
    · refine g_callV_mv C (As := [.int 0, .int 58]) (st := []) lk_X10_68 dX10_command_127 rfl (Nat.le_of_ble_eq_true rfl) (Nat.le_of_ble_eq_true rfl) (Nat.le_of_ble_eq_true rfl) cls_9.1 rfl (fun _ z => rc_X10_two z) (fun _ z => met_X10_two hO F S14 x0 0 58 z) (fun r15 hr15 => ?_)
      refine v_aload_n C dX10_command_130 0 rfl ?_
      refine v_bipush C dX10_command_131 cb_45 ?_
      refine v_torU (fun S1 h1 => ?_) (fun _ => ?_)
      · exact g_callUV (As := [.int 45]) (st := []) C hm (fun x hx => (hnt x hx).elim) lk_X10_55 dX10_command_133 rfl (Nat.le_of_ble_eq_true rfl) (Nat.le_of_ble_eq_true rfl) (Nat.le_of_ble_eq_true rfl) cls_9.1 rfl (rcu_X10_expect h1) (um_X10_expect hO F r15 x0 45 h1)
      · refine g_callV_mv C (As := [.int 45]) (st := []) lk_X10_55 dX10_command_133 rfl (Nat.le_of_ble_eq_true rfl) (Nat.le_of_ble_eq_true rfl) (Nat.le_of_ble_eq_true rfl) cls_9.1 rfl (fun _ z => rc_X10_expect z) (fun _ z => met_X10_expect hO F r15 x0 45 z) (fun r16 hr16 => ?_)
        refine v_aload_n C dX10_command_136 0 rfl ?_
        refine g_getA C dX10_command_137 cls_9 (Nat.le_of_ble_eq_true rfl) fl_X10_9 fs_X10_9 (fun y17 hy17 => ?_)
        refine v_iconst C dX10_command_140 ci_2 ?_
        refine v_aload_n C dX10_command_141 0 rfl ?_
        refine v_torU (fun S1 h1 => ?_) (fun _ => ?_)
        · exact g_callUV (As := []) (st := [.int 2, .ref y17]) C hm (fun x hx => (hnt x hx).elim) lk_X10_52 dX10_command_142 rfl (Nat.le_of_ble_eq_true rfl) (Nat.le_of_ble_eq_true rfl) (Nat.le_of_ble_eq_true rfl) cls_9.1 rfl (rcu_X10_number h1) (um_X10_number hO F r16 x0  h1)
        · refine g_callV_mi C (As := []) (st := [.int 2, .ref y17]) lk_X10_52 dX10_command_142 rfl (Nat.le_of_ble_eq_true rfl) (Nat.le_of_ble_eq_true rfl) (Nat.le_of_ble_eq_true rfl) cls_9.1 rfl (fun _ z => rc_X10_number z) (fun _ z => met_X10_number hO F r16 x0 z) (fun r18 hr18 => ?_)
          refine g_ias C dX10_command_145 (fun S19 hS19 => ?_)
          refine v_goto C (tgt := 156) dX10_command_146 rfl ?_
          exact v_sub [0] rfl (wu_X10_command_156 hO C hm hnt S19)
  · refine v_aload_n C dX10_command_149 0 rfl ?_
    refine v_iconst C dX10_command_150 ci_0 ?_
    refine v_bipush C dX10_command_151 cb_61 ?_
    refine v_torU (fun S1 h1 => ?_) (fun _ => ?_)
    · exact g_callUV (As := [.int 0, .int 61]) (st := []) C hm (fun x hx => (hnt x hx).elim) lk_X10_68 dX10_command_153 rfl (Nat.le_of_ble_eq_true rfl) (Nat.le_of_ble_eq_true rfl) (Nat.le_of_ble_eq_true rfl) cls_9.1 rfl (rcu_X10_two h1) (um_X10_two hO F S14 x0 0 61 h1)
    · refine g_callV_mv C (As := [.int 0, .int 61]) (st := []) lk_X10_68 dX10_command_153 rfl (Nat.le_of_ble_eq_true rfl) (Nat.le_of_ble_eq_true rfl) (Nat.le_of_ble_eq_true rfl) cls_9.1 rfl (fun _ z => rc_X10_two z) (fun _ z => met_X10_two hO F S14 x0 0 61 z) (fun r20 hr20 => ?_)
      exact v_sub [0] rfl (wu_X10_command_156 hO C hm hnt r20)
theorem wu_X10_command_73 {P : GP} {X : Ctx} {l : Launch} {S0 : St} {F : Nat} (hO : okG P) (C : CX (OG P) X l cX10_command 2 RX10 none) (hm : X.2.2.2.2.2.2.2.2.2 = some (.inr RX11)) (hnt : ∀ x ∈ X.2.2.2.2.2.2.2.2.1.exceptionTable.toList, False) {x0 : Nat} {x1 : Int32}  (s0 : Nat) (s1 : Int32) (S : St) : VF (OG P) X 2 8 171 S0 f_ma (U_X10_command_73 F P.2.2.2.2.2 x0 x1 s0 s1 S) S 73 [(0, .ref x0), (1, .int x1)] [.int s1, .ref s0] := by
  unfold U_X10_command_73
  refine v_torU (fun S1 h1 => ?_) (fun _ => ?_)
  · exact g_callUV (As := [.int s1]) (st := []) C hm (fun x hx => (hnt x hx).elim) lk_X10_44 dX10_command_73 rfl (Nat.le_of_ble_eq_true rfl) (Nat.le_of_ble_eq_true rfl) (Nat.le_of_ble_eq_true rfl) cls_9.1 rfl (rcu_X10_require h1) (um_X10_require hO S s0 s1 h1)
  · refine g_callV_mv C (As := [.int s1]) (st := []) lk_X10_44 dX10_command_73 rfl (Nat.le_of_ble_eq_true rfl) (Nat.le_of_ble_eq_true rfl) (Nat.le_of_ble_eq_true rfl) cls_9.1 rfl (fun _ z => rc_X10_require z) (fun _ z => met_X10_require hO S s0 s1 z) (fun r10 hr10 => ?_)
    refine v_aload_n C dX10_command_76 0 rfl ?_
    refine v_dup C dX10_command_77 rfl ?_
    refine g_getI C dX10_command_78 cls_9 (Nat.le_of_ble_eq_true rfl) fl_X10_19 fs_X10_19 (fun y11 hy11 => ?_)
    refine v_iconst C dX10_command_81 ci_1 ?_
    refine v_iadd C dX10_command_82 ?_
    refine g_putV C dX10_command_83 cls_9 (Nat.le_of_ble_eq_true rfl) fl_X10_19 fs_X10_19 rfl rfl rfl (fun S12 hS12 => ?_)
    refine v_aload_n C dX10_command_86 0 rfl ?_
    refine v_iload_n C dX10_command_87 1 rfl ?_
    refine v_bipush C dX10_command_88 cb_119 ?_
    refine v_icmp_ne C (tgt := 99) dX10_command_90 rfl (fun _ => ?_) (fun _ => ?_)
    · refine g_gets C dX10_command_93 (zG_3 P) q802 ?_
      refine v_goto C (tgt := 114) dX10_command_96 rfl ?_
      exact v_sub [0, 1] rfl (wu_X10_command_114 hO C hm hnt x0 (P.2.2.2.2.2 1) S12)
    · refine v_iload_n C dX10_command_99 1 rfl ?_
      refine v_bipush C dX10_command_100 cb_118 ?_
      refine v_icmp_ne C (tgt := 111) dX10_command_102 rfl (fun _ => ?_) (fun _ => ?_)
      · refine g_gets C dX10_command_105 (zG_4 P) q804 ?_
        refine v_goto C (tgt := 114) dX10_command_108 rfl ?_
        exact v_sub [0, 1] rfl (wu_X10_command_114 hO C hm hnt x0 (P.2.2.2.2.2 2) S12)
      · refine g_gets C dX10_command_111 (zG_5 P) q806 ?_
        exact v_sub [0, 1] rfl (wu_X10_command_114 hO C hm hnt x0 (P.2.2.2.2.2 3) S12)
theorem wu_X10_command_68 {P : GP} {X : Ctx} {l : Launch} {S0 : St} {F : Nat} (hO : okG P) (C : CX (OG P) X l cX10_command 2 RX10 none) (hm : X.2.2.2.2.2.2.2.2.2 = some (.inr RX11)) (hnt : ∀ x ∈ X.2.2.2.2.2.2.2.2.1.exceptionTable.toList, False) {x0 : Nat} {x1 : Int32}  (s0 : Nat) (S : St) : VF (OG P) X 2 8 171 S0 f_ma (U_X10_command_68 F P.2.2.2.2.2 x0 x1 s0 S) S 68 [(0, .ref x0), (1, .int x1)] [.ref s0] := by
  unfold U_X10_command_68
  refine v_iconst C dX10_command_68 ci_1 ?_
  refine v_goto C (tgt := 73) dX10_command_69 rfl ?_
  exact v_sub [0, 1] rfl (wu_X10_command_73 hO C hm hnt s0 1 S)
theorem um_X10_command {P : GP} {l : Launch} (hO : okG P) (F : Nat) (S : St) (x0 : Nat) {r : Nat × St} (h : U_X10_command F P.2.2.2.2.2 S x0 = some r) : UM l P yX10_command (ws_ yX10_command cX10_command 2 none) 8 171 [.ref x0] S RX11 r := by
  refine UM.of (own := RX10) (lv := [(0, .ref x0)]) hO pl_X10 rfl (Nat.le_of_ble_eq_true rfl) rfl h (umono_X10_command h) (fun X C hm hnt => ?_)
  unfold U_X10_command
  refine VF.bind (fun _ _ => ?_)
  refine v_aload_n C dX10_command_0 0 rfl ?_
  refine g_callV_mi C (As := []) (st := []) lk_X10_36 dX10_command_1 rfl (Nat.le_of_ble_eq_true rfl) (Nat.le_of_ble_eq_true rfl) (Nat.le_of_ble_eq_true rfl) cls_9.1 rfl (fun _ z => rc_X10_token z) (fun _ z => met_X10_token hO F S x0 z) (fun r1 hr1 => ?_)
  refine v_leti (fun y2 hy2 => ?_)
  refine v_istore_n C (lv' := [(1, .int y2), (0, .ref x0)]) dX10_command_4 (Nat.le_of_ble_eq_true rfl) rfl ?_
  refine v_iload_n C dX10_command_5 0 rfl ?_
  refine v_bipush C dX10_command_6 cb_48 ?_
  refine v_bipush C dX10_command_8 cb_57 ?_
  refine g_callSN_ri C (As := [.int y2, .int 48, .int 57]) (st := []) lk_X10_48 dX10_command_10 rfl (Nat.le_of_ble_eq_true rfl) (Nat.le_of_ble_eq_true rfl) (Nat.le_of_ble_eq_true rfl) (fun _ z => met_X1_isIn hO r1.2 y2 48 57 z) (fun r3 hr3 => ?_)
  refine v_if_eq C (tgt := 49) dX10_command_13 rfl (fun _ => ?_) (fun _ => ?_)
  · refine v_aload_n C dX10_command_49 1 rfl ?_
    refine v_iload_n C dX10_command_50 0 rfl ?_
    refine v_bipush C dX10_command_51 cb_119 ?_
    refine v_icmp_eq C (tgt := 68) dX10_command_53 rfl (fun _ => ?_) (fun _ => ?_)
    · exact v_sub [1, 0] rfl (wu_X10_command_68 hO C hm hnt x0 r1.2)
    · refine v_iload_n C dX10_command_56 0 rfl ?_
      refine v_bipush C dX10_command_57 cb_118 ?_
      refine v_icmp_eq C (tgt := 68) dX10_command_59 rfl (fun _ => ?_) (fun _ => ?_)
      · exact v_sub [1, 0] rfl (wu_X10_command_68 hO C hm hnt x0 r1.2)
      · refine v_iload_n C dX10_command_62 0 rfl ?_
        refine v_bipush C dX10_command_63 cb_120 ?_
        refine v_icmp_ne C (tgt := 72) dX10_command_65 rfl (fun _ => ?_) (fun _ => ?_)
        · exact v_sub [1, 0] rfl (wu_X10_command_68 hO C hm hnt x0 r1.2)
        · refine v_iconst C dX10_command_72 ci_0 ?_
          exact v_sub [1, 0] rfl (wu_X10_command_73 hO C hm hnt x0 0 r1.2)
  · refine v_aload_n C dX10_command_16 1 rfl ?_
    refine g_gets C dX10_command_17 (zG_2 P) q759 ?_
    refine g_putV C dX10_command_20 cls_9 (Nat.le_of_ble_eq_true rfl) fl_X10_65 fs_X10_65 rfl rfl rfl (fun S4 hS4 => ?_)
    refine v_aload_n C dX10_command_23 1 rfl ?_
    refine v_iconst C dX10_command_24 ci_0 ?_
    refine v_bipush C dX10_command_25 cb_45 ?_
    refine v_torU (fun S1 h1 => ?_) (fun _ => ?_)
    · exact g_callUV (As := [.int 0, .int 45]) (st := []) C hm (fun x hx => (hnt x hx).elim) lk_X10_68 dX10_command_27 rfl (Nat.le_of_ble_eq_true rfl) (Nat.le_of_ble_eq_true rfl) (Nat.le_of_ble_eq_true rfl) cls_9.1 rfl (rcu_X10_two h1) (um_X10_two hO F S4 x0 0 45 h1)
    · refine g_callV_mv C (As := [.int 0, .int 45]) (st := []) lk_X10_68 dX10_command_27 rfl (Nat.le_of_ble_eq_true rfl) (Nat.le_of_ble_eq_true rfl) (Nat.le_of_ble_eq_true rfl) cls_9.1 rfl (fun _ z => rc_X10_two z) (fun _ z => met_X10_two hO F S4 x0 0 45 z) (fun r5 hr5 => ?_)
      refine v_aload_n C dX10_command_30 1 rfl ?_
      refine v_bipush C dX10_command_31 cb_58 ?_
      refine v_torU (fun S1 h1 => ?_) (fun _ => ?_)
      · exact g_callUV (As := [.int 58]) (st := []) C hm (fun x hx => (hnt x hx).elim) lk_X10_55 dX10_command_33 rfl (Nat.le_of_ble_eq_true rfl) (Nat.le_of_ble_eq_true rfl) (Nat.le_of_ble_eq_true rfl) cls_9.1 rfl (rcu_X10_expect h1) (um_X10_expect hO F r5 x0 58 h1)
      · refine g_callV_mv C (As := [.int 58]) (st := []) lk_X10_55 dX10_command_33 rfl (Nat.le_of_ble_eq_true rfl) (Nat.le_of_ble_eq_true rfl) (Nat.le_of_ble_eq_true rfl) cls_9.1 rfl (fun _ z => rc_X10_expect z) (fun _ z => met_X10_expect hO F r5 x0 58 z) (fun r6 hr6 => ?_)
        refine v_aload_n C dX10_command_36 1 rfl ?_
        refine g_getA C dX10_command_37 cls_9 (Nat.le_of_ble_eq_true rfl) fl_X10_9 fs_X10_9 (fun y7 hy7 => ?_)
        refine v_iconst C dX10_command_40 ci_2 ?_
        refine v_aload_n C dX10_command_41 1 rfl ?_
        refine v_torU (fun S1 h1 => ?_) (fun _ => ?_)
        · exact g_callUV (As := []) (st := [.int 2, .ref y7]) C hm (fun x hx => (hnt x hx).elim) lk_X10_52 dX10_command_42 rfl (Nat.le_of_ble_eq_true rfl) (Nat.le_of_ble_eq_true rfl) (Nat.le_of_ble_eq_true rfl) cls_9.1 rfl (rcu_X10_number h1) (um_X10_number hO F r6 x0  h1)
        · refine g_callV_mi C (As := []) (st := [.int 2, .ref y7]) lk_X10_52 dX10_command_42 rfl (Nat.le_of_ble_eq_true rfl) (Nat.le_of_ble_eq_true rfl) (Nat.le_of_ble_eq_true rfl) cls_9.1 rfl (fun _ z => rc_X10_number z) (fun _ z => met_X10_number hO F r6 x0 z) (fun r8 hr8 => ?_)
          refine g_ias C dX10_command_45 (fun S9 hS9 => ?_)
          refine v_goto C (tgt := 156) dX10_command_46 rfl ?_
          exact v_sub [1] rfl (wu_X10_command_156 hO C hm hnt S9)
