/-! THEIR WALKS (by program) -/
set_option maxRecDepth 100000
set_option maxHeartbeats 4000000
theorem fl_X1_329 : flk RX1 329 "NetworkCenters$Fault" (TX11 6).2.1 (TX11 6).2.2.1 := Or.inr ⟨_, q793⟩
theorem fs_X1_329 : fsame TX11 6 "NetworkCenters$Fault" := Or.inl rfl
theorem fl_X1_335 : flk RX1 335 "NetworkCenters$Reader" (TX10 2).2.1 (TX10 2).2.2.1 := Or.inr ⟨_, q677⟩
theorem fs_X1_335 : fsame TX10 2 "NetworkCenters$Reader" := Or.inl rfl
theorem fl_X1_339 : flk RX1 339 "NetworkCenters$Reader" (TX10 1).2.1 (TX10 1).2.2.1 := Or.inr ⟨_, q675⟩
theorem fs_X1_339 : fsame TX10 1 "NetworkCenters$Reader" := Or.inl rfl
theorem lk_X1_318 : LkI RX1 318 yX10_init cX10_init 2 1 := ⟨⟨q671, q147, q669, q670, rfl⟩, ⟨ne_X10.1, ne_X10.2, by decide +kernel⟩⟩
theorem lk_X1_321 : LkV RX1 321 yX10_isAtEnd cX10_isAtEnd 1 (some .boolean) 0 := ⟨lw_V q688 q689 q690 q147 q691, ne_X10.1, ne_X10.2, by decide +kernel⟩
theorem lk_X1_324 : LkV RX1 324 yX10_command cX10_command 2 none 0 := ⟨lw_V q752 q753 q754 q147 q755, ne_X10.1, ne_X10.2, by decide +kernel⟩
theorem lk_X1_332 : LkVW RX1 332 yX1_fault cX1_fault 3 (some .int) [(12, 26, 29, 327)] 0 := ⟨lw_VW q1969 q663 q664 q105 q665, ne_X1.1, ne_X1.2, by decide +kernel⟩
theorem lkK_X1_342_3 : LkK RX1 342 RX12 ⟨"NetworkCenters$Kind", "done", "(LNetworkCenters$Network;[I)LNetworkCenters$Network;"⟩ yX12_done cX12_done 4 (some (.object "NetworkCenters$Network")) 2 := ⟨⟨q1970, q1972, q1992, q1993, q1994⟩, q1971, by decide +kernel⟩
theorem lkK_X1_342_2 : LkK RX1 342 RX15 ⟨"NetworkCenters$Kind", "done", "(LNetworkCenters$Network;[I)LNetworkCenters$Network;"⟩ yX15_done cX15_done 3 (some (.object "NetworkCenters$Network")) 2 := ⟨⟨q1970, q1972, q1987, q1988, q1989⟩, q1971, by decide +kernel⟩
theorem lkK_X1_342_1 : LkK RX1 342 RX14 ⟨"NetworkCenters$Kind", "done", "(LNetworkCenters$Network;[I)LNetworkCenters$Network;"⟩ yX14_done cX14_done 3 (some (.object "NetworkCenters$Network")) 2 := ⟨⟨q1970, q1972, q1982, q1983, q1984⟩, q1971, by decide +kernel⟩
theorem lkK_X1_342_0 : LkK RX1 342 RX13 ⟨"NetworkCenters$Kind", "done", "(LNetworkCenters$Network;[I)LNetworkCenters$Network;"⟩ yX13_done cX13_done 4 (some (.object "NetworkCenters$Network")) 2 := ⟨⟨q1970, q1972, q1973, q1974, q1975⟩, q1971, by decide +kernel⟩
theorem o_X1_fault_26 {F : Nat} {ek : Nat → Nat}  (S : St) : MF mf_p (C_X1_fault_26 F ek S) S := by
  unfold C_X1_fault_26
  exact mf_ret leG.rf
theorem o_X1_fault_29 {F : Nat} {ek : Nat → Nat}  (s0 : Nat) (S : St) : MF mf_p (C_X1_fault_29 F ek s0 S) S := by
  unfold C_X1_fault_29
  refine mf_bind (fun y7 hy7 => ?_)
  exact mf_ret leG.rf
theorem o_X1_fault_12 {F : Nat} {ek : Nat → Nat} {x1 : Nat}  : ∀ (n : Nat) (S : St), MF mf_p (C_X1_fault_12 F ek x1 n S) S := by
  intro n
  induction n with
  | zero => intro S; exact mf_none
  | succ n ih =>
    intro S
    unfold C_X1_fault_12
    refine mf_call (fun _ z => mono_X10_isAtEnd z) (fun r4 hr4 => ?_)
    refine mf_ite ?_ ?_
    · refine mf_cat (fun e5 he5 => mf_le (umono_X10_command he5) ?_) ?_
      · exact (o_X1_fault_29 (e5.1) e5.2)
      · refine mf_callv (fun _ z => mono_X10_command z) (fun r6 hr6 => ?_)
        exact (ih r6)
    · exact (o_X1_fault_26 r4.2)
theorem mono_X1_fault {F : Nat} {ek : Nat → Nat} {S : St} {x0 : Nat} {r : Int32 × St} (h : C_X1_fault F ek S x0 = some r) : leG S r.2 := by
  have q : MF mf_p (C_X1_fault F ek S x0) S := by
    unfold C_X1_fault
    refine mf_bind (fun _ _ => ?_)
    refine mf_new (fun r1 hr1 => ?_)
    refine mf_bind (fun y2 hy2 => ?_)
    refine mf_callv (fun _ z => mono_X10_init z) (fun r3 hr3 => ?_)
    exact (o_X1_fault_12 F r3)
  exact q r h
theorem w_X1_fault_26 {P : GP} {X : Ctx} {l : Launch} {S0 : St} {F : Nat} (hO : okG P) (C : CX (OG P) X l cX1_fault 3 RX1 (some .int)) (hm : X.2.2.2.2.2.2.2.2.2 = none) (htab : X.2.2.2.2.2.2.2.2.1.exceptionTable.toList = tableOf [(12, 26, 29, 327)])  (S : St) : VF (OG P) X 3 9 192 S0 f_mi (C_X1_fault_26 F P.2.2.2.2.2 S) S 26 [] [] := by
  unfold C_X1_fault_26
  refine v_goto C (tgt := 35) dX1_fault_26 rfl ?_
  refine v_iconst C dX1_fault_35 ci_m1 ?_
  exact v_ireturn C hm dX1_fault_36 rfl
theorem w_X1_fault_29 {P : GP} {X : Ctx} {l : Launch} {S0 : St} {F : Nat} (hO : okG P) (C : CX (OG P) X l cX1_fault 3 RX1 (some .int)) (hm : X.2.2.2.2.2.2.2.2.2 = none) (htab : X.2.2.2.2.2.2.2.2.1.exceptionTable.toList = tableOf [(12, 26, 29, 327)])  (s0 : Nat) (S : St) : VF (OG P) X 3 9 192 S0 f_mi (C_X1_fault_29 F P.2.2.2.2.2 s0 S) S 29 [] [.ref s0] := by
  unfold C_X1_fault_29
  refine v_astore_n C (lv' := [(2, .ref s0)]) dX1_fault_29 (Nat.le_of_ble_eq_true rfl) rfl ?_
  refine v_aload_n C dX1_fault_30 0 rfl ?_
  refine g_getI C dX1_fault_31 cls_10 (Nat.le_of_ble_eq_true rfl) fl_X1_329 fs_X1_329 (fun y7 hy7 => ?_)
  exact v_ireturn C hm dX1_fault_34 rfl
theorem w_X1_fault_12 {P : GP} {X : Ctx} {l : Launch} {S0 : St} {F : Nat} (hO : okG P) (C : CX (OG P) X l cX1_fault 3 RX1 (some .int)) (hm : X.2.2.2.2.2.2.2.2.2 = none) (htab : X.2.2.2.2.2.2.2.2.1.exceptionTable.toList = tableOf [(12, 26, 29, 327)]) {x1 : Nat}  : ∀ (n : Nat) (S : St), VF (OG P) X 3 9 192 S0 f_mi (C_X1_fault_12 F P.2.2.2.2.2 x1 n S) S 12 [(1, .ref x1)] [] := by
  intro n
  induction n with
  | zero => intro S; exact VF.none
  | succ n ih =>
    intro S
    unfold C_X1_fault_12
    refine v_aload_n C dX1_fault_12 0 rfl ?_
    refine g_callV_mi C (As := []) (st := []) lk_X1_321 dX1_fault_13 rfl (Nat.le_of_ble_eq_true rfl) (Nat.le_of_ble_eq_true rfl) (Nat.le_of_ble_eq_true rfl) cls_9.1 rfl (fun _ z => rc_X10_isAtEnd z) (fun _ z => met_X10_isAtEnd hO F S x1 z) (fun r4 hr4 => ?_)
    refine v_if_ne C (tgt := 26) dX1_fault_16 rfl (fun _ => ?_) (fun _ => ?_)
    · refine v_aload_n C dX1_fault_19 0 rfl ?_
      refine v_cat (fun e5 he5 => ?_) (fun _ => ?_)
      · refine g_callCV (As := []) (st := []) C htab (fun x hx => by cases hx; exact ⟨rfl, rfl, rfl⟩) ⟨_, rfl⟩ (by decide) q666 q775 lk_X1_324 dX1_fault_20 rfl (Nat.le_of_ble_eq_true rfl) (Nat.le_of_ble_eq_true rfl) (Nat.le_of_ble_eq_true rfl) cls_9.1 rfl (rcu_X10_command he5) (um_X10_command hO F r4.2 x1  he5) ?_
        exact v_sub [] rfl (w_X1_fault_29 hO C hm htab (e5.1) e5.2)
      · refine g_callV_mv C (As := []) (st := []) lk_X1_324 dX1_fault_20 rfl (Nat.le_of_ble_eq_true rfl) (Nat.le_of_ble_eq_true rfl) (Nat.le_of_ble_eq_true rfl) cls_9.1 rfl (fun _ z => rc_X10_command z) (fun _ z => met_X10_command hO F r4.2 x1 z) (fun r6 hr6 => ?_)
        refine v_goto C (tgt := 12) dX1_fault_23 rfl ?_
        exact v_sub [0] rfl (ih r6)
    · exact v_sub [] rfl (w_X1_fault_26 hO C hm htab r4.2)
theorem met_X1_fault {P : GP} {l : Launch} (hO : okG P) (F : Nat) (S : St) (x0 : Nat) {r : Int32 × St} (h : C_X1_fault F P.2.2.2.2.2 S x0 = some r) : FM l (OG P) yX1_fault (wsW_ yX1_fault cX1_fault 3 (some .int) [(12, 26, 29, 327)]) 9 192 [.ref x0] S (f_mi r) := by
  refine FM.ofW (own := RX1) (lv := [(0, .ref x0)]) hO pl_X1 rfl (Nat.le_of_ble_eq_true rfl) rfl h (mono_X1_fault h).LE (fun X C hm htab => ?_)
  unfold C_X1_fault
  refine VF.bind (fun _ _ => ?_)
  refine g_new C dX1_fault_0 cls_9 q667 q668 q147 dfok_9 (fun r1 hr1 => ?_)
  refine v_dup C dX1_fault_3 rfl ?_
  refine v_aload_n C dX1_fault_4 0 rfl ?_
  refine g_getA C dX1_fault_5 cls_1 (Nat.le_of_ble_eq_true rfl) fl_X1_62 fs_X1_62 (fun y2 hy2 => ?_)
  refine v_callI_mv C (As := [.ref y2]) (st := [.ref (r1.1)]) lk_X1_318 dX1_fault_8 rfl (Nat.le_of_ble_eq_true rfl) (Nat.le_of_ble_eq_true rfl) (Nat.le_of_ble_eq_true rfl) (fun _ z => met_X10_init hO r1.2 (r1.1) y2 z) (fun r3 hr3 => ?_)
  refine v_astore_n C (lv' := [(1, .ref (r1.1)), (0, .ref x0)]) dX1_fault_11 (Nat.le_of_ble_eq_true rfl) rfl ?_
  exact v_sub [0] rfl (w_X1_fault_12 hO C hm htab F r3)
theorem o_X1_run_84 {F : Nat} {ek : Nat → Nat} {x0 : Nat} {x2 : Int32} {x3 : Nat} (k35 : Nat → Int32 → St → Option (Int32 × St)) (hk35 : ∀ (z1 : Nat) (z2 : Int32) (τ : St), MF mf_p (k35 z1 z2 τ) τ) (s0 : Nat) (S : St) : MF mf_p (C_X1_run_84 F ek k35 x0 x2 x3 s0 S) S := by
  unfold C_X1_run_84
  exact (hk35 s0 x2 S)
theorem o_X1_run_71 {F : Nat} {ek : Nat → Nat} {x0 : Nat} {x1 : Nat} {x3 : Nat} {x4 : Option Nat} (k35 : Nat → Int32 → St → Option (Int32 × St)) (hk35 : ∀ (z1 : Nat) (z2 : Int32) (τ : St), MF mf_p (k35 z1 z2 τ) τ) (s0 : Int32) (s1 : Int32) (S : St) : MF mf_p (C_X1_run_71 F ek k35 x0 x1 x3 x4 s0 s1 S) S := by
  unfold C_X1_run_71
  refine mf_bind (fun y14 hy14 => ?_)
  refine mf_ite ?_ ?_
  · exact (o_X1_run_84 k35 hk35 x1 S)
  · refine mf_bind (fun a15 ha15 => ?_)
    exact (o_X1_run_84 k35 hk35 a15 S)
theorem o_X1_run_88 {F : Nat} {ek : Nat → Nat} {x0 : Nat} {x1 : Nat} {x2 : Int32}  (S : St) : MF mf_p (C_X1_run_88 F ek x0 x1 x2 S) S := by
  unfold C_X1_run_88
  refine mf_callv (fun _ z => mono_X1_become z) (fun r16 hr16 => ?_)
  exact mf_ret leG.rf
theorem o_X1_run_91 {F : Nat} {ek : Nat → Nat}  (s0 : Nat) (S : St) : MF mf_p (C_X1_run_91 F ek s0 S) S := by
  unfold C_X1_run_91
  exact mf_ret leG.rf
theorem o_X1_run_35 {F : Nat} {ek : Nat → Nat} {x0 : Nat} {x3 : Nat}  : ∀ (n : Nat) (x1 : Nat) (x2 : Int32) (S : St), MF mf_p (C_X1_run_35 F ek x0 x3 n x1 x2 S) S := by
  intro n
  induction n with
  | zero => intro x1 x2 S; exact mf_none
  | succ n ih =>
    intro x1 x2 S
    unfold C_X1_run_35
    refine mf_call (fun _ z => mono_X10_isAtEnd z) (fun r7 hr7 => ?_)
    refine mf_ite ?_ ?_
    · refine mf_cat (fun e8 he8 => mf_le (umono_X10_command he8) ?_) ?_
      · exact (o_X1_run_91 (e8.1) e8.2)
      · refine mf_callv (fun _ z => mono_X10_command z) (fun r9 hr9 => ?_)
        refine mf_bind (fun y10 hy10 => ?_)
        refine mf_bind (fun y11 hy11 => ?_)
        refine mf_call (fun _ z => kd_le (fun _ z => mono_X13_done z) (fun _ z => mono_X14_done z) (fun _ z => mono_X15_done z) (fun _ z => mono_X12_done z) z) (fun r12 hr12 => ?_)
        refine mf_bind (fun y13 hy13 => ?_)
        refine mf_ite ?_ ?_
        · exact (o_X1_run_71 (C_X1_run_35 F ek x0 x3 n) ih x2 0 r12.2)
        · exact (o_X1_run_71 (C_X1_run_35 F ek x0 x3 n) ih x2 1 r12.2)
    · exact (o_X1_run_88 r7.2)
theorem o_X1_run_13 {F : Nat} {ek : Nat → Nat} {x0 : Nat}  (s0 : Int32) (S : St) : MF mf_p (C_X1_run_13 F ek x0 s0 S) S := by
  unfold C_X1_run_13
  refine mf_bind (fun r2 hr2 => ?_)
  refine mf_bind (fun y3 hy3 => ?_)
  refine mf_new (fun r4 hr4 => ?_)
  refine mf_bind (fun y5 hy5 => ?_)
  refine mf_callv (fun _ z => mono_X10_init z) (fun r6 hr6 => ?_)
  exact (o_X1_run_35 F y3 0 r6)
theorem mono_X1_run {F : Nat} {ek : Nat → Nat} {S : St} {x0 : Nat} {r : Int32 × St} (h : C_X1_run F ek S x0 = some r) : leG S r.2 := by
  have q : MF mf_p (C_X1_run F ek S x0) S := by
    unfold C_X1_run
    refine mf_bind (fun _ _ => ?_)
    refine mf_call (fun _ z => mono_X1_fault z) (fun r1 hr1 => ?_)
    refine mf_ite ?_ ?_
    · exact (o_X1_run_13 1 r1.2)
    · exact (o_X1_run_13 0 r1.2)
  exact q r h
theorem w_X1_run_84 {P : GP} {X : Ctx} {l : Launch} {S0 : St} {F : Nat} (hO : okG P) (C : CX (OG P) X l cX1_run 5 RX1 (some .int)) (hm : X.2.2.2.2.2.2.2.2.2 = none) (htab : X.2.2.2.2.2.2.2.2.1.exceptionTable.toList = tableOf [(35, 88, 91, 327)]) {x0 : Nat} {x2 : Int32} {x3 : Nat} (k35 : Nat → Int32 → St → Option (Int32 × St)) (hk35 : ∀ (z1 : Nat) (z2 : Int32) (τ : St), VF (OG P) X 5 10 214 S0 f_mi (k35 z1 z2 τ) τ 35 [(0, .ref x0), (1, .ref z1), (2, .int z2), (3, .ref x3)] []) (s0 : Nat) (S : St) : VF (OG P) X 5 10 214 S0 f_mi (C_X1_run_84 F P.2.2.2.2.2 k35 x0 x2 x3 s0 S) S 84 [(0, .ref x0), (2, .int x2), (3, .ref x3)] [.ref s0] := by
  unfold C_X1_run_84
  refine v_astore_n C (lv' := [(1, .ref s0), (0, .ref x0), (2, .int x2), (3, .ref x3)]) dX1_run_84 (Nat.le_of_ble_eq_true rfl) rfl ?_
  refine v_goto C (tgt := 35) dX1_run_85 rfl ?_
  exact v_sub [1, 0, 2, 3] rfl (hk35 s0 x2 S)
theorem w_X1_run_71 {P : GP} {X : Ctx} {l : Launch} {S0 : St} {F : Nat} (hO : okG P) (C : CX (OG P) X l cX1_run 5 RX1 (some .int)) (hm : X.2.2.2.2.2.2.2.2.2 = none) (htab : X.2.2.2.2.2.2.2.2.1.exceptionTable.toList = tableOf [(35, 88, 91, 327)]) {x0 : Nat} {x1 : Nat} {x3 : Nat} {x4 : Option Nat} (k35 : Nat → Int32 → St → Option (Int32 × St)) (hk35 : ∀ (z1 : Nat) (z2 : Int32) (τ : St), VF (OG P) X 5 10 214 S0 f_mi (k35 z1 z2 τ) τ 35 [(0, .ref x0), (1, .ref z1), (2, .int z2), (3, .ref x3)] []) (s0 : Int32) (s1 : Int32) (S : St) : VF (OG P) X 5 10 214 S0 f_mi (C_X1_run_71 F P.2.2.2.2.2 k35 x0 x1 x3 x4 s0 s1 S) S 71 [(0, .ref x0), (1, .ref x1), (3, .ref x3), (4, va_rf x4)] [.int s1, .int s0] := by
  unfold C_X1_run_71
  refine v_iadd C dX1_run_71 ?_
  refine v_leti (fun y14 hy14 => ?_)
  refine v_istore_n C (lv' := [(2, .int y14), (0, .ref x0), (1, .ref x1), (3, .ref x3), (4, va_rf x4)]) dX1_run_72 (Nat.le_of_ble_eq_true rfl) rfl ?_
  refine g_aloadQ C dX1_run_73 4 rfl ?_
  refine g_ifnonnull C (tgt := 82) dX1_run_75 rfl (fun _ => ?_) (fun _ => ?_)
  · refine v_aload_n C dX1_run_78 2 rfl ?_
    refine v_goto C (tgt := 84) dX1_run_79 rfl ?_
    exact v_sub [1, 0, 3] rfl (w_X1_run_84 hO C hm htab k35 hk35 x1 S)
  · refine g_aloadQ C dX1_run_82 4 rfl ?_
    refine VF.bind (fun a15 ha15 => ?_)
    subst ha15
    exact v_sub [1, 0, 3] rfl (w_X1_run_84 hO C hm htab k35 hk35 a15 S)
theorem w_X1_run_88 {P : GP} {X : Ctx} {l : Launch} {S0 : St} {F : Nat} (hO : okG P) (C : CX (OG P) X l cX1_run 5 RX1 (some .int)) (hm : X.2.2.2.2.2.2.2.2.2 = none) (htab : X.2.2.2.2.2.2.2.2.1.exceptionTable.toList = tableOf [(35, 88, 91, 327)]) {x0 : Nat} {x1 : Nat} {x2 : Int32}  (S : St) : VF (OG P) X 5 10 214 S0 f_mi (C_X1_run_88 F P.2.2.2.2.2 x0 x1 x2 S) S 88 [(0, .ref x0), (1, .ref x1), (2, .int x2)] [] := by
  unfold C_X1_run_88
  refine v_goto C (tgt := 95) dX1_run_88 rfl ?_
  refine v_aload_n C dX1_run_95 0 rfl ?_
  refine v_aload_n C dX1_run_96 1 rfl ?_
  refine g_callV_mv C (As := [.ref x1]) (st := []) lk_X1_118 dX1_run_97 rfl (Nat.le_of_ble_eq_true rfl) (Nat.le_of_ble_eq_true rfl) (Nat.le_of_ble_eq_true rfl) cls_1.1 rfl (fun _ z => rc_X1_become z) (fun _ z => met_X1_become hO F S x0 x1 z) (fun r16 hr16 => ?_)
  refine v_iload_n C dX1_run_100 2 rfl ?_
  exact v_ireturn C hm dX1_run_101 rfl
theorem w_X1_run_91 {P : GP} {X : Ctx} {l : Launch} {S0 : St} {F : Nat} (hO : okG P) (C : CX (OG P) X l cX1_run 5 RX1 (some .int)) (hm : X.2.2.2.2.2.2.2.2.2 = none) (htab : X.2.2.2.2.2.2.2.2.1.exceptionTable.toList = tableOf [(35, 88, 91, 327)])  (s0 : Nat) (S : St) : VF (OG P) X 5 10 214 S0 f_mi (C_X1_run_91 F P.2.2.2.2.2 s0 S) S 91 [] [.ref s0] := by
  unfold C_X1_run_91
  refine v_astore C (lv' := [(4, .ref s0)]) dX1_run_91 (Nat.le_of_ble_eq_true rfl) rfl ?_
  refine v_iconst C dX1_run_93 ci_m1 ?_
  exact v_ireturn C hm dX1_run_94 rfl
theorem w_X1_run_35 {P : GP} {X : Ctx} {l : Launch} {S0 : St} {F : Nat} (hO : okG P) (C : CX (OG P) X l cX1_run 5 RX1 (some .int)) (hm : X.2.2.2.2.2.2.2.2.2 = none) (htab : X.2.2.2.2.2.2.2.2.1.exceptionTable.toList = tableOf [(35, 88, 91, 327)]) {x0 : Nat} {x3 : Nat}  : ∀ (n : Nat) (x1 : Nat) (x2 : Int32) (S : St), VF (OG P) X 5 10 214 S0 f_mi (C_X1_run_35 F P.2.2.2.2.2 x0 x3 n x1 x2 S) S 35 [(0, .ref x0), (1, .ref x1), (2, .int x2), (3, .ref x3)] [] := by
  intro n
  induction n with
  | zero => intro x1 x2 S; exact VF.none
  | succ n ih =>
    intro x1 x2 S
    unfold C_X1_run_35
    refine v_aload_n C dX1_run_35 3 rfl ?_
    refine g_callV_mi C (As := []) (st := []) lk_X1_321 dX1_run_36 rfl (Nat.le_of_ble_eq_true rfl) (Nat.le_of_ble_eq_true rfl) (Nat.le_of_ble_eq_true rfl) cls_9.1 rfl (fun _ z => rc_X10_isAtEnd z) (fun _ z => met_X10_isAtEnd hO F S x3 z) (fun r7 hr7 => ?_)
    refine v_if_ne C (tgt := 88) dX1_run_39 rfl (fun _ => ?_) (fun _ => ?_)
    · refine v_aload_n C dX1_run_42 3 rfl ?_
      refine v_cat (fun e8 he8 => ?_) (fun _ => ?_)
      · refine g_callCV (As := []) (st := []) C htab (fun x hx => by cases hx; exact ⟨rfl, rfl, rfl⟩) ⟨_, rfl⟩ (by decide) q666 q775 lk_X1_324 dX1_run_43 rfl (Nat.le_of_ble_eq_true rfl) (Nat.le_of_ble_eq_true rfl) (Nat.le_of_ble_eq_true rfl) cls_9.1 rfl (rcu_X10_command he8) (um_X10_command hO F r7.2 x3  he8) ?_
        exact v_sub [] rfl (w_X1_run_91 hO C hm htab (e8.1) e8.2)
      · refine g_callV_mv C (As := []) (st := []) lk_X1_324 dX1_run_43 rfl (Nat.le_of_ble_eq_true rfl) (Nat.le_of_ble_eq_true rfl) (Nat.le_of_ble_eq_true rfl) cls_9.1 rfl (fun _ z => rc_X10_command z) (fun _ z => met_X10_command hO F r7.2 x3 z) (fun r9 hr9 => ?_)
        refine v_aload_n C dX1_run_46 3 rfl ?_
        refine g_getA C dX1_run_47 cls_9 (Nat.le_of_ble_eq_true rfl) fl_X1_335 fs_X1_335 (fun y10 hy10 => ?_)
        refine v_aload_n C dX1_run_50 1 rfl ?_
        refine v_aload_n C dX1_run_51 3 rfl ?_
        refine g_getA C dX1_run_52 cls_9 (Nat.le_of_ble_eq_true rfl) fl_X1_339 fs_X1_339 (fun y11 hy11 => ?_)
        refine g_callKD (As := [.ref x1, .ref y11]) (st := []) hO C dX1_run_55 rfl (Nat.le_of_ble_eq_true rfl) ⟨_, _, _, _, _, _, _, _, lkK_X1_342_0, (Nat.le_of_ble_eq_true rfl), (Nat.le_of_ble_eq_true rfl), rfl, fun _ z => met_X13_done hO F r9 _ x1 y11 z⟩ ⟨_, _, _, _, _, _, _, _, lkK_X1_342_1, (Nat.le_of_ble_eq_true rfl), (Nat.le_of_ble_eq_true rfl), rfl, fun _ z => met_X14_done hO r9 _ x1 y11 z⟩ ⟨_, _, _, _, _, _, _, _, lkK_X1_342_2, (Nat.le_of_ble_eq_true rfl), (Nat.le_of_ble_eq_true rfl), rfl, fun _ z => met_X15_done hO r9 _ x1 y11 z⟩ ⟨_, _, _, _, _, _, _, _, lkK_X1_342_3, (Nat.le_of_ble_eq_true rfl), (Nat.le_of_ble_eq_true rfl), rfl, fun _ z => met_X12_done hO r9 _ x1 y11 z⟩ (fun r12 => ?_)
        refine g_letq (fun y13 hy13 => ?_)
        refine g_astoreQ C (lv' := [(4, va_rf y13), (0, .ref x0), (1, .ref x1), (2, .int x2), (3, .ref x3)]) dX1_run_58 (Nat.le_of_ble_eq_true rfl) rfl ?_
        refine v_iload_n C dX1_run_60 3 rfl ?_
        refine g_aloadQ C dX1_run_61 0 rfl ?_
        refine g_ifnonnull C (tgt := 70) dX1_run_63 rfl (fun _ => ?_) (fun _ => ?_)
        · refine v_iconst C dX1_run_66 ci_0 ?_
          refine v_goto C (tgt := 71) dX1_run_67 rfl ?_
          exact v_sub [1, 2, 4, 0] rfl (w_X1_run_71 hO C hm htab (C_X1_run_35 F P.2.2.2.2.2 x0 x3 n) ih x2 0 r12.2)
        · refine v_iconst C dX1_run_70 ci_1 ?_
          exact v_sub [1, 2, 4, 0] rfl (w_X1_run_71 hO C hm htab (C_X1_run_35 F P.2.2.2.2.2 x0 x3 n) ih x2 1 r12.2)
    · exact v_sub [0, 1, 2] rfl (w_X1_run_88 hO C hm htab r7.2)
theorem w_X1_run_13 {P : GP} {X : Ctx} {l : Launch} {S0 : St} {F : Nat} (hO : okG P) (C : CX (OG P) X l cX1_run 5 RX1 (some .int)) (hm : X.2.2.2.2.2.2.2.2.2 = none) (htab : X.2.2.2.2.2.2.2.2.1.exceptionTable.toList = tableOf [(35, 88, 91, 327)]) {x0 : Nat}  (s0 : Int32) (S : St) : VF (OG P) X 5 10 214 S0 f_mi (C_X1_run_13 F P.2.2.2.2.2 x0 s0 S) S 13 [(0, .ref x0)] [.int s0] := by
  unfold C_X1_run_13
  refine v_callS_rv C (As := [.int s0]) (st := []) lk_X1_115 dX1_run_13 rfl (Nat.le_of_ble_eq_true rfl) (Nat.le_of_ble_eq_true rfl) (Nat.le_of_ble_eq_true rfl) (fun _ z => met_X1_checkThat hO S s0 z) (fun r2 hr2 => ?_)
  refine v_aload_n C dX1_run_16 0 rfl ?_
  refine g_getA C dX1_run_17 cls_1 (Nat.le_of_ble_eq_true rfl) fl_X1_39 fs_X1_39 (fun y3 hy3 => ?_)
  refine v_astore_n C (lv' := [(1, .ref y3), (0, .ref x0)]) dX1_run_20 (Nat.le_of_ble_eq_true rfl) rfl ?_
  refine v_iconst C dX1_run_21 ci_0 ?_
  refine v_istore_n C (lv' := [(2, .int 0), (1, .ref y3), (0, .ref x0)]) dX1_run_22 (Nat.le_of_ble_eq_true rfl) rfl ?_
  refine g_new C dX1_run_23 cls_9 q667 q668 q147 dfok_9 (fun r4 hr4 => ?_)
  refine v_dup C dX1_run_26 rfl ?_
  refine v_aload_n C dX1_run_27 2 rfl ?_
  refine g_getA C dX1_run_28 cls_1 (Nat.le_of_ble_eq_true rfl) fl_X1_62 fs_X1_62 (fun y5 hy5 => ?_)
  refine v_callI_mv C (As := [.ref y5]) (st := [.ref (r4.1)]) lk_X1_318 dX1_run_31 rfl (Nat.le_of_ble_eq_true rfl) (Nat.le_of_ble_eq_true rfl) (Nat.le_of_ble_eq_true rfl) (fun _ z => met_X10_init hO r4.2 (r4.1) y5 z) (fun r6 hr6 => ?_)
  refine v_astore_n C (lv' := [(3, .ref (r4.1)), (2, .int 0), (1, .ref y3), (0, .ref x0)]) dX1_run_34 (Nat.le_of_ble_eq_true rfl) rfl ?_
  exact v_sub [3, 2, 1, 0] rfl (w_X1_run_35 hO C hm htab F y3 0 r6)
theorem met_X1_run {P : GP} {l : Launch} (hO : okG P) (F : Nat) (S : St) (x0 : Nat) {r : Int32 × St} (h : C_X1_run F P.2.2.2.2.2 S x0 = some r) : FM l (OG P) yX1_run (wsW_ yX1_run cX1_run 5 (some .int) [(35, 88, 91, 327)]) 10 214 [.ref x0] S (f_mi r) := by
  refine FM.ofW (own := RX1) (lv := [(0, .ref x0)]) hO pl_X1 rfl (Nat.le_of_ble_eq_true rfl) rfl h (mono_X1_run h).LE (fun X C hm htab => ?_)
  unfold C_X1_run
  refine VF.bind (fun _ _ => ?_)
  refine v_aload_n C dX1_run_0 0 rfl ?_
  refine g_callVW_mi C (As := []) (st := []) lk_X1_332 dX1_run_1 rfl (Nat.le_of_ble_eq_true rfl) (Nat.le_of_ble_eq_true rfl) (Nat.le_of_ble_eq_true rfl) cls_1.1 rfl (fun _ z => rc_X1_fault z) (fun _ z => met_X1_fault hO F S x0 z) (fun r1 hr1 => ?_)
  refine v_iconst C dX1_run_4 ci_m1 ?_
  refine v_icmp_ne C (tgt := 12) dX1_run_5 rfl (fun _ => ?_) (fun _ => ?_)
  · refine v_iconst C dX1_run_8 ci_1 ?_
    refine v_goto C (tgt := 13) dX1_run_9 rfl ?_
    exact v_sub [0] rfl (w_X1_run_13 hO C hm htab 1 r1.2)
  · refine v_iconst C dX1_run_12 ci_0 ?_
    exact v_sub [0] rfl (w_X1_run_13 hO C hm htab 0 r1.2)
theorem ot_X1_run_13 {F : Nat} {ek : Nat → Nat} {c : Nat} {x0 : Nat}  (s0 : Int32) (S : St) : MF mf_s (T_X1_run_13 F ek c x0 s0 S) S := by
  unfold T_X1_run_13
  refine mf_tor (fun _ z => T_X1_check_le z) ?_
  refine mf_bind (fun r2 hr2 => ?_)
  exact mf_none
theorem tmono_X1_run {F : Nat} {ek : Nat → Nat} {c : Nat} {S : St} {x0 : Nat} {r : St} (h : T_X1_run F ek c S x0 = some r) : leG S r := by
  have q : MF mf_s (T_X1_run F ek c S x0) S := by
    unfold T_X1_run
    refine mf_bind (fun _ _ => ?_)
    refine mf_call (fun _ z => mono_X1_fault z) (fun r1 hr1 => ?_)
    refine mf_ite ?_ ?_
    · exact (ot_X1_run_13 1 r1.2)
    · exact (ot_X1_run_13 0 r1.2)
  exact q r h
theorem wt_X1_run_13 {P : GP} {X : Ctx} {l : Launch} {S0 : St} {F : Nat} (hO : okG P) (C : CX (OG P) X l cX1_run 5 RX1 (some .int)) (hst : l.stackTraces = false) {c : Nat} (hm : X.2.2.2.2.2.2.2.2.2 = some (.inl (exn c))) (htab : X.2.2.2.2.2.2.2.2.1.exceptionTable.toList = tableOf [(35, 88, 91, 327)]) {x0 : Nat}  (s0 : Int32) (S : St) : VF (OG P) X 5 10 214 S0 f_mv (T_X1_run_13 F P.2.2.2.2.2 c x0 s0 S) S 13 [(0, .ref x0)] [.int s0] := by
  unfold T_X1_run_13
  refine v_tor (fun S1 h1 => ?_) (fun _ => ?_)
  · exact g_callTS (As := [.int s0]) (st := []) C hm (fun x hx => by rw [htab] at hx; rcases List.mem_singleton.mp hx with rfl; rfl) lk_X1_115 dX1_run_13 rfl (Nat.le_of_ble_eq_true rfl) (Nat.le_of_ble_eq_true rfl) (Nat.le_of_ble_eq_true rfl) (tm_X1_checkThat hO hst c S s0 h1)
  · refine v_callS_rv C (As := [.int s0]) (st := []) lk_X1_115 dX1_run_13 rfl (Nat.le_of_ble_eq_true rfl) (Nat.le_of_ble_eq_true rfl) (Nat.le_of_ble_eq_true rfl) (fun _ z => met_X1_checkThat hO S s0 z) (fun r2 hr2 => ?_)
    exact VF.none
theorem tm_X1_run {P : GP} {l : Launch} (hO : okG P) (hst : l.stackTraces = false) (F : Nat) (c : Nat) (S : St) (x0 : Nat) {r : St} (h : T_X1_run F P.2.2.2.2.2 c S x0 = some r) : TM l P yX1_run (wsW_ yX1_run cX1_run 5 (some .int) [(35, 88, 91, 327)]) 10 214 [.ref x0] S (exn c) r := by
  refine TM.ofW (own := RX1) (lv := [(0, .ref x0)]) hO pl_X1 rfl (Nat.le_of_ble_eq_true rfl) rfl h (tmono_X1_run h) (fun X C hm htab _ => ?_)
  unfold T_X1_run
  refine VF.bind (fun _ _ => ?_)
  refine v_aload_n C dX1_run_0 0 rfl ?_
  refine g_callVW_mi C (As := []) (st := []) lk_X1_332 dX1_run_1 rfl (Nat.le_of_ble_eq_true rfl) (Nat.le_of_ble_eq_true rfl) (Nat.le_of_ble_eq_true rfl) cls_1.1 rfl (fun _ z => rc_X1_fault z) (fun _ z => met_X1_fault hO F S x0 z) (fun r1 hr1 => ?_)
  refine v_iconst C dX1_run_4 ci_m1 ?_
  refine v_icmp_ne C (tgt := 12) dX1_run_5 rfl (fun _ => ?_) (fun _ => ?_)
  · refine v_iconst C dX1_run_8 ci_1 ?_
    refine v_goto C (tgt := 13) dX1_run_9 rfl ?_
    exact v_sub [0] rfl (wt_X1_run_13 hO C hst hm htab 1 r1.2)
  · refine v_iconst C dX1_run_12 ci_0 ?_
    exact v_sub [0] rfl (wt_X1_run_13 hO C hst hm htab 0 r1.2)
