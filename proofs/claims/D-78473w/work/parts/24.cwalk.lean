/-! THEIR WALKS (by program) -/
set_option maxRecDepth 100000
set_option maxHeartbeats 4000000
theorem cb_m100 : (Int8.ofInt (-100)).toInt32 = -100 := by decide
theorem cb_m10 : (Int8.ofInt (-10)).toInt32 = -10 := by decide
theorem cb_m2 : (Int8.ofInt (-2)).toInt32 = -2 := by decide
theorem cb_16 : (Int8.ofInt (16)).toInt32 = 16 := by decide
theorem cb_100 : (Int8.ofInt (100)).toInt32 = 100 := by decide
theorem cb_108 : (Int8.ofInt (108)).toInt32 = 108 := by decide
theorem cb_110 : (Int8.ofInt (110)).toInt32 = 110 := by decide
theorem cb_117 : (Int8.ofInt (117)).toInt32 = 117 := by decide
theorem ci_8 : Int32.ofInt (8) = 8 := by decide
theorem ci_16 : Int32.ofInt (16) = 16 := by decide
theorem cs_255 : (Int16.ofInt (255)).toInt32 = 255 := by decide
theorem cs_256 : (Int16.ofInt (256)).toInt32 = 256 := by decide
theorem fl_J15_7 : flk RJ15 7 "java/util/AbstractList" (TJ17 0).2.1 (TJ17 0).2.2.1 := Or.inl q1392
theorem fs_J15_7 : fsame TJ17 0 "java/util/AbstractList" := Or.inl rfl
theorem fl_J17_7 : flk RJ17 7 "java/util/LinkedList" (TJ17 1).2.1 (TJ17 1).2.2.1 := Or.inl q1388
theorem fs_J17_7 : fsame TJ17 1 "java/util/LinkedList" := Or.inl rfl
theorem fl_J17_18 : flk RJ17 18 "java/util/LinkedList" (TJ17 2).2.1 (TJ17 2).2.2.1 := Or.inl q1390
theorem fs_J17_18 : fsame TJ17 2 "java/util/LinkedList" := Or.inl rfl
theorem fl_J17_27 : flk RJ17 27 "java/util/LinkedList" (TJ17 3).2.1 (TJ17 3).2.2.1 := Or.inl q1391
theorem fs_J17_27 : fsame TJ17 3 "java/util/LinkedList" := Or.inl rfl
theorem fl_J17_30 : flk RJ17 30 "java/util/LinkedList$Node" (TJ18 2).2.1 (TJ18 2).2.2.1 := Or.inl q1427
theorem fs_J17_30 : fsame TJ18 2 "java/util/LinkedList$Node" := Or.inl rfl
theorem fl_J17_33 : flk RJ17 33 "java/util/LinkedList" (TJ17 0).2.1 (TJ17 0).2.2.1 := Or.inl q1396
theorem fs_J17_33 : fsame TJ17 0 "java/util/LinkedList" := Or.inr q1394
theorem fl_J17_36 : flk RJ17 36 "java/util/LinkedList$Node" (TJ18 1).2.1 (TJ18 1).2.2.1 := Or.inl q1425
theorem fs_J17_36 : fsame TJ18 1 "java/util/LinkedList$Node" := Or.inl rfl
theorem fl_J17_39 : flk RJ17 39 "java/util/LinkedList$Node" (TJ18 0).2.1 (TJ18 0).2.2.1 := Or.inl q1422
theorem fs_J17_39 : fsame TJ18 0 "java/util/LinkedList$Node" := Or.inl rfl
theorem fl_J18_7 : flk RJ18 7 "java/util/LinkedList$Node" (TJ18 0).2.1 (TJ18 0).2.2.1 := Or.inl q1420
theorem fs_J18_7 : fsame TJ18 0 "java/util/LinkedList$Node" := Or.inl rfl
theorem fl_J18_13 : flk RJ18 13 "java/util/LinkedList$Node" (TJ18 1).2.1 (TJ18 1).2.2.1 := Or.inl q1423
theorem fs_J18_13 : fsame TJ18 1 "java/util/LinkedList$Node" := Or.inl rfl
theorem fl_J18_17 : flk RJ18 17 "java/util/LinkedList$Node" (TJ18 2).2.1 (TJ18 2).2.2.1 := Or.inl q1426
theorem fs_J18_17 : fsame TJ18 2 "java/util/LinkedList$Node" := Or.inl rfl
theorem fl_J2_3 : flk RJ2 3 "java/util/ArrayDeque" (TJ2 0).2.1 (TJ2 0).2.2.1 := Or.inl q248
theorem fs_J2_3 : fsame TJ2 0 "java/util/ArrayDeque" := Or.inl rfl
theorem fl_J2_20 : flk RJ2 20 "java/util/ArrayDeque" (TJ2 2).2.1 (TJ2 2).2.2.1 := Or.inl q250
theorem fs_J2_20 : fsame TJ2 2 "java/util/ArrayDeque" := Or.inl rfl
theorem fl_J2_24 : flk RJ2 24 "java/util/ArrayDeque" (TJ2 1).2.1 (TJ2 1).2.2.1 := Or.inl q249
theorem fs_J2_24 : fsame TJ2 1 "java/util/ArrayDeque" := Or.inl rfl
theorem fl_J24_1 : flk RJ24 1 "java/util/LinkedList$ListItr" (TJ24 4).2.1 (TJ24 4).2.2.1 := Or.inl q1488
theorem fs_J24_1 : fsame TJ24 4 "java/util/LinkedList$ListItr" := Or.inl rfl
theorem fl_J24_13 : flk RJ24 13 "java/util/LinkedList" (TJ17 0).2.1 (TJ17 0).2.2.1 := Or.inl q1393
theorem fs_J24_13 : fsame TJ17 0 "java/util/LinkedList" := Or.inr q1394
theorem fl_J24_19 : flk RJ24 19 "java/util/LinkedList$ListItr" (TJ24 3).2.1 (TJ24 3).2.2.1 := Or.inl q1487
theorem fs_J24_19 : fsame TJ24 3 "java/util/LinkedList$ListItr" := Or.inl rfl
theorem fl_J24_22 : flk RJ24 22 "java/util/LinkedList" (TJ17 1).2.1 (TJ17 1).2.2.1 := Or.inl q1389
theorem fs_J24_22 : fsame TJ17 1 "java/util/LinkedList" := Or.inl rfl
theorem fl_J24_29 : flk RJ24 29 "java/util/LinkedList$ListItr" (TJ24 1).2.1 (TJ24 1).2.2.1 := Or.inl q1485
theorem fs_J24_29 : fsame TJ24 1 "java/util/LinkedList$ListItr" := Or.inl rfl
theorem fl_J24_33 : flk RJ24 33 "java/util/LinkedList$ListItr" (TJ24 2).2.1 (TJ24 2).2.2.1 := Or.inl q1486
theorem fs_J24_33 : fsame TJ24 2 "java/util/LinkedList$ListItr" := Or.inl rfl
theorem fl_J24_46 : flk RJ24 46 "java/util/LinkedList$ListItr" (TJ24 0).2.1 (TJ24 0).2.2.1 := Or.inl q1484
theorem fs_J24_46 : fsame TJ24 0 "java/util/LinkedList$ListItr" := Or.inl rfl
theorem fl_J24_49 : flk RJ24 49 "java/util/LinkedList$Node" (TJ18 1).2.1 (TJ18 1).2.2.1 := Or.inl q1424
theorem fs_J24_49 : fsame TJ18 1 "java/util/LinkedList$Node" := Or.inl rfl
theorem fl_J24_52 : flk RJ24 52 "java/util/LinkedList$Node" (TJ18 0).2.1 (TJ18 0).2.2.1 := Or.inl q1421
theorem fs_J24_52 : fsame TJ18 0 "java/util/LinkedList$Node" := Or.inl rfl
theorem fl_J27_7 : flk RJ27 7 "java/util/BitSet" (TJ27 1).2.1 (TJ27 1).2.2.1 := Or.inl q989
theorem fs_J27_7 : fsame TJ27 1 "java/util/BitSet" := Or.inl rfl
theorem fl_J27_11 : flk RJ27 11 "java/util/BitSet" (TJ27 0).2.1 (TJ27 0).2.2.1 := Or.inl q988
theorem fs_J27_11 : fsame TJ27 0 "java/util/BitSet" := Or.inl rfl
theorem fl_J27_24 : flk RJ27 24 "java/util/BitSet" (TJ27 2).2.1 (TJ27 2).2.2.1 := Or.inl q990
theorem fs_J27_24 : fsame TJ27 2 "java/util/BitSet" := Or.inl rfl
theorem fl_J3_15 : flk RJ3 15 "java/lang/AbstractStringBuilder" (TJ4 0).2.1 (TJ4 0).2.2.1 := Or.inl q276
theorem fs_J3_15 : fsame TJ4 0 "java/lang/AbstractStringBuilder" := Or.inl rfl
theorem fl_J3_22 : flk RJ3 22 "java/lang/AbstractStringBuilder" (TJ4 1).2.1 (TJ4 1).2.2.1 := Or.inl q277
theorem fs_J3_22 : fsame TJ4 1 "java/lang/AbstractStringBuilder" := Or.inl rfl
theorem fl_J3_73 : flk RJ3 73 "java/lang/AbstractStringBuilder" (TJ4 2).2.1 (TJ4 2).2.2.1 := Or.inl q278
theorem fs_J3_73 : fsame TJ4 2 "java/lang/AbstractStringBuilder" := Or.inl rfl
theorem fl_J3_79 : flk RJ3 79 "java/lang/AbstractStringBuilder" (TJ4 3).2.1 (TJ4 3).2.2.1 := Or.inl q280
theorem fs_J3_79 : fsame TJ4 3 "java/lang/AbstractStringBuilder" := Or.inl rfl
theorem fl_J7_7 : flk RJ7 7 "java/lang/Throwable" (TX11 0).2.1 (TX11 0).2.2.1 := Or.inl q577
theorem fs_J7_7 : fsame TX11 0 "java/lang/Throwable" := Or.inl rfl
theorem fl_J7_17 : flk RJ7 17 "java/lang/Throwable" (TX11 1).2.1 (TX11 1).2.2.1 := Or.inl q578
theorem fs_J7_17 : fsame TX11 1 "java/lang/Throwable" := Or.inl rfl
theorem fl_J7_24 : flk RJ7 24 "java/lang/Throwable" (TX11 2).2.1 (TX11 2).2.2.1 := Or.inl q579
theorem fs_J7_24 : fsame TX11 2 "java/lang/Throwable" := Or.inl rfl
theorem fl_J7_31 : flk RJ7 31 "java/lang/Throwable" (TX11 3).2.1 (TX11 3).2.2.1 := Or.inl q576
theorem fs_J7_31 : fsame TX11 3 "java/lang/Throwable" := Or.inl rfl
theorem fl_X1_15 : flk RX1 15 "NetworkCenters$Rising" (TX8 0).2.1 (TX8 0).2.2.1 := Or.inr ⟨_, q914⟩
theorem fs_X1_15 : fsame TX8 0 "NetworkCenters$Rising" := Or.inl rfl
theorem fl_X1_21 : flk RX1 21 "NetworkCenters$Falling" (TX9 0).2.1 (TX9 0).2.2.1 := Or.inr ⟨_, q929⟩
theorem fs_X1_21 : fsame TX9 0 "NetworkCenters$Falling" := Or.inl rfl
theorem fl_X1_22 : flk RX1 22 "NetworkCenters$Falling" (TX9 1).2.1 (TX9 1).2.2.1 := Or.inr ⟨_, q931⟩
theorem fs_X1_22 : fsame TX9 1 "NetworkCenters$Falling" := Or.inl rfl
theorem fl_X1_25 : flk RX1 25 "NetworkCenters$Rising" (TX8 1).2.1 (TX8 1).2.2.1 := Or.inr ⟨_, q916⟩
theorem fs_X1_25 : fsame TX8 1 "NetworkCenters$Rising" := Or.inl rfl
theorem fl_X1_39 : flk RX1 39 "NetworkCenters" (TX1 0).2.1 (TX1 0).2.2.1 := Or.inl q291
theorem fs_X1_39 : fsame TX1 0 "NetworkCenters" := Or.inl rfl
theorem fl_X1_48 : flk RX1 48 "NetworkCenters" (TX1 1).2.1 (TX1 1).2.2.1 := Or.inl q292
theorem fs_X1_48 : fsame TX1 1 "NetworkCenters" := Or.inl rfl
theorem fl_X1_55 : flk RX1 55 "NetworkCenters" (TX1 2).2.1 (TX1 2).2.2.1 := Or.inl q293
theorem fs_X1_55 : fsame TX1 2 "NetworkCenters" := Or.inl rfl
theorem fl_X1_62 : flk RX1 62 "NetworkCenters" (TX1 3).2.1 (TX1 3).2.2.1 := Or.inl q294
theorem fs_X1_62 : fsame TX1 3 "NetworkCenters" := Or.inl rfl
theorem fl_X1_83 : flk RX1 83 "NetworkCenters$Network" (TX2 2).2.1 (TX2 2).2.2.1 := Or.inr ⟨_, q180⟩
theorem fs_X1_83 : fsame TX2 2 "NetworkCenters$Network" := Or.inl rfl
theorem fl_X1_91 : flk RX1 91 "NetworkCenters$Edge" (TX5 2).2.1 (TX5 2).2.2.1 := Or.inr ⟨_, q1346⟩
theorem fs_X1_91 : fsame TX5 2 "NetworkCenters$Edge" := Or.inl rfl
theorem fl_X1_144 : flk RX1 144 "NetworkCenters$Network" (TX2 3).2.1 (TX2 3).2.2.1 := Or.inr ⟨_, q184⟩
theorem fs_X1_144 : fsame TX2 3 "NetworkCenters$Network" := Or.inl rfl
theorem fl_X1_152 : flk RX1 152 "NetworkCenters$Network" (TX2 0).2.1 (TX2 0).2.2.1 := Or.inr ⟨_, q174⟩
theorem fs_X1_152 : fsame TX2 0 "NetworkCenters$Network" := Or.inl rfl
theorem fl_X1_160 : flk RX1 160 "NetworkCenters$Network" (TX2 1).2.1 (TX2 1).2.2.1 := Or.inr ⟨_, q176⟩
theorem fs_X1_160 : fsame TX2 1 "NetworkCenters$Network" := Or.inl rfl
theorem fl_X1_179 : flk RX1 179 "NetworkCenters$Stretch" (TX6 0).2.1 (TX6 0).2.2.1 := Or.inr ⟨_, q1687⟩
theorem fs_X1_179 : fsame TX6 0 "NetworkCenters$Stretch" := Or.inl rfl
theorem fl_X1_208 : flk RX1 208 "NetworkCenters$Edge" (TX5 0).2.1 (TX5 0).2.2.1 := Or.inr ⟨_, q1339⟩
theorem fs_X1_208 : fsame TX5 0 "NetworkCenters$Edge" := Or.inl rfl
theorem fl_X1_211 : flk RX1 211 "NetworkCenters$Edge" (TX5 1).2.1 (TX5 1).2.2.1 := Or.inr ⟨_, q1343⟩
theorem fs_X1_211 : fsame TX5 1 "NetworkCenters$Edge" := Or.inl rfl
theorem fl_X1_214 : flk RX1 214 "NetworkCenters$Plan" (TX3 2).2.1 (TX3 2).2.2.1 := Or.inr ⟨_, q216⟩
theorem fs_X1_214 : fsame TX3 2 "NetworkCenters$Plan" := Or.inl rfl
theorem fl_X1_251 : flk RX1 251 "NetworkCenters$Plan" (TX3 3).2.1 (TX3 3).2.2.1 := Or.inr ⟨_, q218⟩
theorem fs_X1_251 : fsame TX3 3 "NetworkCenters$Plan" := Or.inl rfl
theorem fl_X1_255 : flk RX1 255 "NetworkCenters$Points" (TX7 1).2.1 (TX7 1).2.2.1 := Or.inr ⟨_, q883⟩
theorem fs_X1_255 : fsame TX7 1 "NetworkCenters$Points" := Or.inl rfl
theorem fl_X1_260 : flk RX1 260 "NetworkCenters$Points" (TX7 2).2.1 (TX7 2).2.2.1 := Or.inr ⟨_, q886⟩
theorem fs_X1_260 : fsame TX7 2 "NetworkCenters$Points" := Or.inl rfl
theorem fl_X1_277 : flk RX1 277 "NetworkCenters$Points" (TX7 0).2.1 (TX7 0).2.2.1 := Or.inr ⟨_, q880⟩
theorem fs_X1_277 : fsame TX7 0 "NetworkCenters$Points" := Or.inl rfl
theorem fl_X1_356 : flk RX1 356 "NetworkCenters" (TX1 4).2.1 (TX1 4).2.2.1 := Or.inl q295
theorem fs_X1_356 : fsame TX1 4 "NetworkCenters" := Or.inl rfl
theorem fl_X10_9 : flk RX10 9 "NetworkCenters$Reader" (TX10 1).2.1 (TX10 1).2.2.1 := Or.inl q674
theorem fs_X10_9 : fsame TX10 1 "NetworkCenters$Reader" := Or.inl rfl
theorem fl_X10_15 : flk RX10 15 "NetworkCenters$Reader" (TX10 0).2.1 (TX10 0).2.2.1 := Or.inl q673
theorem fs_X10_15 : fsame TX10 0 "NetworkCenters$Reader" := Or.inl rfl
theorem fl_X10_19 : flk RX10 19 "NetworkCenters$Reader" (TX10 3).2.1 (TX10 3).2.2.1 := Or.inl q678
theorem fs_X10_19 : fsame TX10 3 "NetworkCenters$Reader" := Or.inl rfl
theorem fl_X10_65 : flk RX10 65 "NetworkCenters$Reader" (TX10 2).2.1 (TX10 2).2.2.1 := Or.inl q676
theorem fs_X10_65 : fsame TX10 2 "NetworkCenters$Reader" := Or.inl rfl
theorem fl_X11_9 : flk RX11 9 "NetworkCenters$Fault" (TX11 6).2.1 (TX11 6).2.2.1 := Or.inl q792
theorem fs_X11_9 : fsame TX11 6 "NetworkCenters$Fault" := Or.inl rfl
theorem fl_X12_9 : flk RX12 9 "NetworkCenters$Network" (TX2 2).2.1 (TX2 2).2.2.1 := Or.inr ⟨_, q178⟩
theorem fs_X12_9 : fsame TX2 2 "NetworkCenters$Network" := Or.inl rfl
theorem fl_X12_19 : flk RX12 19 "NetworkCenters$Network" (TX2 3).2.1 (TX2 3).2.2.1 := Or.inr ⟨_, q182⟩
theorem fs_X12_19 : fsame TX2 3 "NetworkCenters$Network" := Or.inl rfl
theorem fl_X2_13 : flk RX2 13 "NetworkCenters$Network" (TX2 0).2.1 (TX2 0).2.2.1 := Or.inl q172
theorem fs_X2_13 : fsame TX2 0 "NetworkCenters$Network" := Or.inl rfl
theorem fl_X2_22 : flk RX2 22 "NetworkCenters$Network" (TX2 1).2.1 (TX2 1).2.2.1 := Or.inl q175
theorem fs_X2_22 : fsame TX2 1 "NetworkCenters$Network" := Or.inl rfl
theorem fl_X2_25 : flk RX2 25 "NetworkCenters$Network" (TX2 2).2.1 (TX2 2).2.2.1 := Or.inl q179
theorem fs_X2_25 : fsame TX2 2 "NetworkCenters$Network" := Or.inl rfl
theorem fl_X2_29 : flk RX2 29 "NetworkCenters$Network" (TX2 3).2.1 (TX2 3).2.2.1 := Or.inl q181
theorem fs_X2_29 : fsame TX2 3 "NetworkCenters$Network" := Or.inl rfl
theorem fl_X2_76 : flk RX2 76 "NetworkCenters$Stretch" (TX6 0).2.1 (TX6 0).2.2.1 := Or.inr ⟨_, q1686⟩
theorem fs_X2_76 : fsame TX6 0 "NetworkCenters$Stretch" := Or.inl rfl
theorem fl_X2_87 : flk RX2 87 "NetworkCenters$Stretch" (TX6 1).2.1 (TX6 1).2.2.1 := Or.inr ⟨_, q1690⟩
theorem fs_X2_87 : fsame TX6 1 "NetworkCenters$Stretch" := Or.inl rfl
theorem fl_X2_90 : flk RX2 90 "NetworkCenters$Stretch" (TX6 2).2.1 (TX6 2).2.2.1 := Or.inr ⟨_, q1693⟩
theorem fs_X2_90 : fsame TX6 2 "NetworkCenters$Stretch" := Or.inl rfl
theorem fl_X2_100 : flk RX2 100 "NetworkCenters$Edge" (TX5 0).2.1 (TX5 0).2.2.1 := Or.inr ⟨_, q1338⟩
theorem fs_X2_100 : fsame TX5 0 "NetworkCenters$Edge" := Or.inl rfl
theorem fl_X2_101 : flk RX2 101 "NetworkCenters$Edge" (TX5 1).2.1 (TX5 1).2.2.1 := Or.inr ⟨_, q1342⟩
theorem fs_X2_101 : fsame TX5 1 "NetworkCenters$Edge" := Or.inl rfl
theorem fl_X2_109 : flk RX2 109 "NetworkCenters$Edge" (TX5 2).2.1 (TX5 2).2.2.1 := Or.inr ⟨_, q1347⟩
theorem fs_X2_109 : fsame TX5 2 "NetworkCenters$Edge" := Or.inl rfl
theorem fl_X3_9 : flk RX3 9 "NetworkCenters$Plan" (TX3 0).2.1 (TX3 0).2.2.1 := Or.inl q213
theorem fs_X3_9 : fsame TX3 0 "NetworkCenters$Plan" := Or.inl rfl
theorem fl_X3_21 : flk RX3 21 "NetworkCenters$Plan" (TX3 1).2.1 (TX3 1).2.2.1 := Or.inl q214
theorem fs_X3_21 : fsame TX3 1 "NetworkCenters$Plan" := Or.inl rfl
theorem fl_X3_25 : flk RX3 25 "NetworkCenters$Plan" (TX3 2).2.1 (TX3 2).2.2.1 := Or.inl q215
theorem fs_X3_25 : fsame TX3 2 "NetworkCenters$Plan" := Or.inl rfl
theorem fl_X3_30 : flk RX3 30 "NetworkCenters$Network" (TX2 2).2.1 (TX2 2).2.2.1 := Or.inr ⟨_, q177⟩
theorem fs_X3_30 : fsame TX2 2 "NetworkCenters$Network" := Or.inl rfl
theorem fl_X3_34 : flk RX3 34 "NetworkCenters$Edge" (TX5 0).2.1 (TX5 0).2.2.1 := Or.inr ⟨_, q1337⟩
theorem fs_X3_34 : fsame TX5 0 "NetworkCenters$Edge" := Or.inl rfl
theorem fl_X3_39 : flk RX3 39 "NetworkCenters$Edge" (TX5 1).2.1 (TX5 1).2.2.1 := Or.inr ⟨_, q1341⟩
theorem fs_X3_39 : fsame TX5 1 "NetworkCenters$Edge" := Or.inl rfl
theorem fl_X3_42 : flk RX3 42 "NetworkCenters$Edge" (TX5 2).2.1 (TX5 2).2.2.1 := Or.inr ⟨_, q1345⟩
theorem fs_X3_42 : fsame TX5 2 "NetworkCenters$Edge" := Or.inl rfl
theorem fl_X3_65 : flk RX3 65 "NetworkCenters$Network" (TX2 0).2.1 (TX2 0).2.2.1 := Or.inr ⟨_, q173⟩
theorem fs_X3_65 : fsame TX2 0 "NetworkCenters$Network" := Or.inl rfl
theorem fl_X3_88 : flk RX3 88 "NetworkCenters$Plan" (TX3 3).2.1 (TX3 3).2.2.1 := Or.inl q217
theorem fs_X3_88 : fsame TX3 3 "NetworkCenters$Plan" := Or.inl rfl
theorem fl_X3_105 : flk RX3 105 "NetworkCenters$Plan" (TX3 4).2.1 (TX3 4).2.2.1 := Or.inl q219
theorem fs_X3_105 : fsame TX3 4 "NetworkCenters$Plan" := Or.inl rfl
theorem fl_X3_109 : flk RX3 109 "NetworkCenters$Points" (TX7 3).2.1 (TX7 3).2.2.1 := Or.inr ⟨_, q888⟩
theorem fs_X3_109 : fsame TX7 3 "NetworkCenters$Points" := Or.inl rfl
theorem fl_X3_112 : flk RX3 112 "NetworkCenters$Points" (TX7 0).2.1 (TX7 0).2.2.1 := Or.inr ⟨_, q879⟩
theorem fs_X3_112 : fsame TX7 0 "NetworkCenters$Points" := Or.inl rfl
theorem fl_X3_114 : flk RX3 114 "NetworkCenters$Points" (TX7 1).2.1 (TX7 1).2.2.1 := Or.inr ⟨_, q882⟩
theorem fs_X3_114 : fsame TX7 1 "NetworkCenters$Points" := Or.inl rfl
theorem fl_X3_117 : flk RX3 117 "NetworkCenters$Points" (TX7 2).2.1 (TX7 2).2.2.1 := Or.inr ⟨_, q885⟩
theorem fs_X3_117 : fsame TX7 2 "NetworkCenters$Points" := Or.inl rfl
theorem fl_X3_144 : flk RX3 144 "NetworkCenters$Network" (TX2 3).2.1 (TX2 3).2.2.1 := Or.inr ⟨_, q183⟩
theorem fs_X3_144 : fsame TX2 3 "NetworkCenters$Network" := Or.inl rfl
theorem fl_X3_148 : flk RX3 148 "NetworkCenters$Stretch" (TX6 0).2.1 (TX6 0).2.2.1 := Or.inr ⟨_, q1685⟩
theorem fs_X3_148 : fsame TX6 0 "NetworkCenters$Stretch" := Or.inl rfl
theorem fl_X3_153 : flk RX3 153 "NetworkCenters$Stretch" (TX6 1).2.1 (TX6 1).2.2.1 := Or.inr ⟨_, q1689⟩
theorem fs_X3_153 : fsame TX6 1 "NetworkCenters$Stretch" := Or.inl rfl
theorem fl_X3_154 : flk RX3 154 "NetworkCenters$Stretch" (TX6 2).2.1 (TX6 2).2.2.1 := Or.inr ⟨_, q1692⟩
theorem fs_X3_154 : fsame TX6 2 "NetworkCenters$Stretch" := Or.inl rfl
theorem fl_X3_166 : flk RX3 166 "NetworkCenters$Plan" (TX3 5).2.1 (TX3 5).2.2.1 := Or.inl q220
theorem fs_X3_166 : fsame TX3 5 "NetworkCenters$Plan" := Or.inl rfl
theorem fl_X3_169 : flk RX3 169 "NetworkCenters$Plan" (TX3 6).2.1 (TX3 6).2.2.1 := Or.inl q221
theorem fs_X3_169 : fsame TX3 6 "NetworkCenters$Plan" := Or.inl rfl
theorem fl_X5_7 : flk RX5 7 "NetworkCenters$Edge" (TX5 0).2.1 (TX5 0).2.2.1 := Or.inl q1336
theorem fs_X5_7 : fsame TX5 0 "NetworkCenters$Edge" := Or.inl rfl
theorem fl_X5_13 : flk RX5 13 "NetworkCenters$Edge" (TX5 1).2.1 (TX5 1).2.2.1 := Or.inl q1340
theorem fs_X5_13 : fsame TX5 1 "NetworkCenters$Edge" := Or.inl rfl
theorem fl_X5_16 : flk RX5 16 "NetworkCenters$Edge" (TX5 2).2.1 (TX5 2).2.2.1 := Or.inl q1344
theorem fs_X5_16 : fsame TX5 2 "NetworkCenters$Edge" := Or.inl rfl
theorem fl_X6_7 : flk RX6 7 "NetworkCenters$Stretch" (TX6 0).2.1 (TX6 0).2.2.1 := Or.inl q1684
theorem fs_X6_7 : fsame TX6 0 "NetworkCenters$Stretch" := Or.inl rfl
theorem fl_X6_13 : flk RX6 13 "NetworkCenters$Stretch" (TX6 1).2.1 (TX6 1).2.2.1 := Or.inl q1688
theorem fs_X6_13 : fsame TX6 1 "NetworkCenters$Stretch" := Or.inl rfl
theorem fl_X6_16 : flk RX6 16 "NetworkCenters$Stretch" (TX6 2).2.1 (TX6 2).2.2.1 := Or.inl q1691
theorem fs_X6_16 : fsame TX6 2 "NetworkCenters$Stretch" := Or.inl rfl
theorem fl_X7_7 : flk RX7 7 "NetworkCenters$Points" (TX7 0).2.1 (TX7 0).2.2.1 := Or.inl q878
theorem fs_X7_7 : fsame TX7 0 "NetworkCenters$Points" := Or.inl rfl
theorem fl_X7_13 : flk RX7 13 "NetworkCenters$Points" (TX7 1).2.1 (TX7 1).2.2.1 := Or.inl q881
theorem fs_X7_13 : fsame TX7 1 "NetworkCenters$Points" := Or.inl rfl
theorem fl_X7_16 : flk RX7 16 "NetworkCenters$Points" (TX7 2).2.1 (TX7 2).2.2.1 := Or.inl q884
theorem fs_X7_16 : fsame TX7 2 "NetworkCenters$Points" := Or.inl rfl
theorem fl_X7_27 : flk RX7 27 "NetworkCenters$Points" (TX7 3).2.1 (TX7 3).2.2.1 := Or.inl q887
theorem fs_X7_27 : fsame TX7 3 "NetworkCenters$Points" := Or.inl rfl
theorem fl_X7_31 : flk RX7 31 "NetworkCenters$Points" (TX7 4).2.1 (TX7 4).2.2.1 := Or.inl q889
theorem fs_X7_31 : fsame TX7 4 "NetworkCenters$Points" := Or.inl rfl
theorem fl_X8_7 : flk RX8 7 "NetworkCenters$Rising" (TX8 0).2.1 (TX8 0).2.2.1 := Or.inl q913
theorem fs_X8_7 : fsame TX8 0 "NetworkCenters$Rising" := Or.inl rfl
theorem fl_X8_13 : flk RX8 13 "NetworkCenters$Rising" (TX8 1).2.1 (TX8 1).2.2.1 := Or.inl q915
theorem fs_X8_13 : fsame TX8 1 "NetworkCenters$Rising" := Or.inl rfl
theorem fl_X9_7 : flk RX9 7 "NetworkCenters$Falling" (TX9 0).2.1 (TX9 0).2.2.1 := Or.inl q928
theorem fs_X9_7 : fsame TX9 0 "NetworkCenters$Falling" := Or.inl rfl
theorem fl_X9_13 : flk RX9 13 "NetworkCenters$Falling" (TX9 1).2.1 (TX9 1).2.2.1 := Or.inl q930
theorem fs_X9_13 : fsame TX9 1 "NetworkCenters$Falling" := Or.inl rfl
theorem lkO_J1_1 : LkO RJ1 1 := ⟨q245, q157, q158⟩
theorem lkC_J12_150 : LkC RJ12 150 := ⟨q380, q382, q381, q122⟩
theorem lkO_J3_3 : LkO RJ3 3 := ⟨q266, q157, q158⟩
theorem lk_J4_1 : LkI RJ4 1 yJ3_init cJ3_init 2 1 := ⟨⟨q265, q111, q263, q264, rfl⟩, ⟨ne_J3.1, ne_J3.2, by decide +kernel⟩⟩
theorem lk_J19_201 : LkS RJ19 201 yJ19_hugeLength cJ19_hugeLength 3 (some .int) 2 := ⟨lw_S q365 q366 q130 q367, ne_J19.1, ne_J19.2, by decide +kernel⟩
theorem lk_J3_114 : LkS RJ3 114 yJ19_newLength cJ19_newLength 4 (some .int) 3 := ⟨lw_S q360 q361 q130 q362, ne_J19.1, ne_J19.2, by decide +kernel⟩
theorem lk_J3_104 : LkUP RJ3 104 RJ4 yJ3_newCapacity cJ3_newCapacity 6 (some .int) 1 := LkUP.of q356 q2523 (by simp [exW]) q358 q111 q359 ⟨ne_J3.1, ne_J3.2, by decide +kernel⟩
theorem lk_J3_108 : LkS RJ3 108 yJ12_copyOf cJ12_copyOf 3 (some (.array .byte)) 2 := ⟨lw_S q369 q370 q121 q371, ne_J12.1, ne_J12.2, by decide +kernel⟩
theorem lk_J3_245 : LkS RJ3 245 yJ22_stringSize cJ22_stringSize 4 (some .int) 1 := ⟨lw_S q464 q465 q134 q466, ne_J22.1, ne_J22.2, by decide +kernel⟩
theorem lk_J3_100 : LkUP RJ3 100 RJ4 yJ3_ensureCapacityInternal cJ3_ensureCapacityInternal 3 none 1 := LkUP.of q352 q2522 (by simp [exW]) q354 q111 q355 ⟨ne_J3.1, ne_J3.2, by decide +kernel⟩
theorem lk_J3_83 : LkU RJ3 83 RJ4 "java/lang/AbstractStringBuilder" ⟨"java/lang/AbstractStringBuilder", "isLatin1", "()Z"⟩ yJ3_isLatin1 cJ3_isLatin1 1 (some .boolean) 0 := ⟨lw_app (fun w hw => by simp only [List.mem_cons, List.not_mem_nil, or_false] at hw; rcases hw with e | e | e | e | e <;> rw [e] <;> first | exact q383 | exact q385 | exact q386 | exact q384 | exact q111) (lw_meth q387), (Or.inl rfl), by decide +kernel⟩
theorem lk_J3_248 : LkS RJ3 248 yJ22_getChars cJ22_getChars 7 (some .int) 3 := ⟨lw_S q467 q468 q134 q469, ne_J22.1, ne_J22.2, by decide +kernel⟩
theorem lk_J4_53 : LkSU RJ4 53 yJ3_append_2 cJ3_append_2 4 (some (.object "java/lang/AbstractStringBuilder")) 1 := ⟨lw_app (fun w hw => by simp only [List.mem_cons, List.not_mem_nil, or_false] at hw; rcases hw with e | e | e | e | e <;> rw [e] <;> first | exact q461 | exact q2527 | exact q289 | exact q462 | exact q111) (lw_meth q463), by decide +kernel, by decide +kernel⟩
theorem lk_J4_29 : LkSU RJ4 29 yJ3_append cJ3_append 3 (some (.object "java/lang/AbstractStringBuilder")) 1 := ⟨lw_app (fun w hw => by simp only [List.mem_cons, List.not_mem_nil, or_false] at hw; rcases hw with e | e | e | e | e <;> rw [e] <;> first | exact q345 | exact q2520 | exact q289 | exact q346 | exact q111) (lw_meth q347), by decide +kernel, by decide +kernel⟩
theorem lkO_J5_1 : LkO RJ5 1 := ⟨q494, q157, q158⟩
theorem lk_J5_552 : LkU RJ5 552 RJ4 "java/lang/AbstractStringBuilder" ⟨"java/lang/AbstractStringBuilder", "getValue", "()[B"⟩ yJ3_getValue cJ3_getValue 1 (some (.array .byte)) 0 := ⟨lw_app (fun w hw => by simp only [List.mem_cons, List.not_mem_nil, or_false] at hw; rcases hw with e | e | e | e | e <;> rw [e] <;> first | exact q495 | exact q497 | exact q498 | exact q496 | exact q111) (lw_meth q499), (Or.inl rfl), by decide +kernel⟩
theorem lk_J12_343 : LkS RJ12 343 yJ12_checkLength cJ12_checkLength 2 none 2 := ⟨lw_S q508 q509 q121 q510, ne_J12.1, ne_J12.2, by decide +kernel⟩
theorem lk_J12_339 : LkS RJ12 339 yJ12_copyOfRangeByte cJ12_copyOfRangeByte 5 (some (.array .byte)) 3 := ⟨lw_S q505 q506 q121 q507, ne_J12.1, ne_J12.2, by decide +kernel⟩
theorem lk_J12_13 : LkS RJ12 13 yJ12_rangeCheck cJ12_rangeCheck 3 none 3 := ⟨lw_S q629 q630 q121 q631, ne_J12.1, ne_J12.2, by decide +kernel⟩
theorem lk_J15_1 : LkI RJ15 1 yJ1_init cJ1_init 1 0 := ⟨⟨q244, q109, q1387, q243, rfl⟩, ⟨ne_J1.1, ne_J1.2, by decide +kernel⟩⟩
theorem lk_J17_99 : LkI RJ17 99 yJ4_init cJ4_init 1 0 := ⟨⟨q262, q112, q1467, q261, rfl⟩, ⟨ne_J4.1, ne_J4.2, by decide +kernel⟩⟩
theorem lk_J17_128 : LkV RJ17 128 yJ17_isPositionIndex cJ17_isPositionIndex 2 (some .boolean) 1 := ⟨lw_V q1457 q1459 qs33 q128 q1460, ne_J17.1, ne_J17.2, by decide +kernel⟩
theorem lkO_J24_7 : LkO RJ24 7 := ⟨q1479, q157, q158⟩
theorem lk_J24_25 : LkV RJ24 25 yJ17_node cJ17_node 4 (some (.object "java/util/LinkedList$Node")) 1 := ⟨lw_V q1480 q1481 q1482 q128 q1483, ne_J17.1, ne_J17.2, by decide +kernel⟩
theorem lk_J17_76 : LkV RJ17 76 yJ17_checkPositionIndex cJ17_checkPositionIndex 2 none 1 := ⟨lw_V q1453 q1455 qs32 q128 q1456, ne_J17.1, ne_J17.2, by decide +kernel⟩
theorem lk_J17_152 : LkI RJ17 152 yJ24_init cJ24_init 3 2 := ⟨⟨q1478, q137, q1476, q1477, rfl⟩, ⟨ne_J24.1, ne_J24.2, by decide +kernel⟩⟩
theorem lk_J15_47 : LkU RJ15 47 RJ17 "java/util/AbstractList" ⟨"java/util/AbstractList", "listIterator", "(I)Ljava/util/ListIterator;"⟩ yJ17_listIterator cJ17_listIterator 2 (some (.object "java/util/ListIterator")) 1 := ⟨lw_app (fun w hw => by simp only [List.mem_cons, List.not_mem_nil, or_false] at hw; rcases hw with e | e | e | e | e <;> rw [e] <;> first | exact q1447 | exact q1449 | exact q1450 | exact q1451 | exact q128) (lw_meth q1452), (Or.inr q1500), by decide +kernel⟩
theorem lk_J16_1 : LkI RJ16 1 yJ15_init cJ15_init 1 0 := ⟨⟨q1386, q126, q1384, q1385, rfl⟩, ⟨ne_J15.1, ne_J15.2, by decide +kernel⟩⟩
theorem lk_J16_65 : LkU RJ16 65 RJ17 "java/util/AbstractList" ⟨"java/util/AbstractSequentialList", "listIterator", "()Ljava/util/ListIterator;"⟩ yJ15_listIterator cJ15_listIterator 1 (some (.object "java/util/ListIterator")) 0 := ⟨lw_app (fun w hw => by simp only [List.mem_cons, List.not_mem_nil, or_false] at hw; rcases hw with e | e | e | e | e <;> rw [e] <;> first | exact q1441 | exact q1442 | exact q1444 | exact q1445 | exact q126) (lw_meth q1446), (Or.inl rfl), by decide +kernel⟩
theorem lk_J17_1 : LkI RJ17 1 yJ16_init cJ16_init 1 0 := ⟨⟨q1383, q127, q1381, q1382, rfl⟩, ⟨ne_J16.1, ne_J16.2, by decide +kernel⟩⟩
theorem lkO_J18_1 : LkO RJ18 1 := ⟨q1419, q157, q158⟩
theorem lk_J17_24 : LkI RJ17 24 yJ18_init cJ18_init 4 3 := ⟨⟨q1418, q129, q1416, q1417, rfl⟩, ⟨ne_J18.1, ne_J18.2, by decide +kernel⟩⟩
theorem lk_J17_57 : LkV RJ17 57 yJ17_linkLast cJ17_linkLast 4 none 1 := ⟨lw_V q1410 q1411 q1412 q128 q1413, ne_J17.1, ne_J17.2, by decide +kernel⟩
theorem lk_J17_115 : LkV RJ17 115 yJ17_isElementIndex cJ17_isElementIndex 2 (some .boolean) 1 := ⟨lw_V q1547 q1549 qs36 q128 q1550, ne_J17.1, ne_J17.2, by decide +kernel⟩
theorem lk_J17_90 : LkV RJ17 90 yJ17_checkElementIndex cJ17_checkElementIndex 2 none 1 := ⟨lw_V q1543 q1545 qs35 q128 q1546, ne_J17.1, ne_J17.2, by decide +kernel⟩
theorem lk_J17_86 : LkV RJ17 86 yJ17_node cJ17_node 4 (some (.object "java/util/LinkedList$Node")) 1 := ⟨lw_V q1551 q1481 q1482 q128 q1483, ne_J17.1, ne_J17.2, by decide +kernel⟩
theorem lk_J17_64 : LkV RJ17 64 yJ17_unlink cJ17_unlink 5 (some (.object "java/lang/Object")) 1 := ⟨lw_V q1644 q1645 q1646 q128 q1647, ne_J17.1, ne_J17.2, by decide +kernel⟩
theorem lk_J17_46 : LkV RJ17 46 yJ17_unlinkFirst cJ17_unlinkFirst 4 (some (.object "java/lang/Object")) 1 := ⟨lw_V q1675 q1677 qs37 q128 q1678, ne_J17.1, ne_J17.2, by decide +kernel⟩
theorem lk_J2_42 : LkI RJ2 42 yJ1_init cJ1_init 1 0 := ⟨⟨q244, q109, q242, q243, rfl⟩, ⟨ne_J1.1, ne_J1.2, by decide +kernel⟩⟩
theorem lk_J2_127 : LkS RJ2 127 yJ2_sub cJ2_sub 3 (some .int) 3 := ⟨lw_S q1152 q1153 q110 q1154, ne_J2.1, ne_J2.2, by decide +kernel⟩
theorem lk_J2_103 : LkS RJ2 103 yJ2_elementAt cJ2_elementAt 2 (some (.object "java/lang/Object")) 2 := ⟨lw_S q1194 q1195 q110 q1196, ne_J2.1, ne_J2.2, by decide +kernel⟩
theorem lk_J2_74 : LkS RJ2 74 yJ2_inc cJ2_inc 2 (some .int) 2 := ⟨lw_S q1197 q1198 q110 q1199, ne_J2.1, ne_J2.2, by decide +kernel⟩
theorem lk_J2_93 : LkV RJ2 93 yJ2_pollFirst cJ2_pollFirst 4 (some (.object "java/lang/Object")) 0 := ⟨lw_V q1190 q1191 q1192 q110 q1193, ne_J2.1, ne_J2.2, by decide +kernel⟩
theorem lk_J2_10 : LkV RJ2 10 yJ2_newCapacity cJ2_newCapacity 5 (some .int) 2 := ⟨lw_V q1209 q1211 qs28 q110 q1212, ne_J2.1, ne_J2.2, by decide +kernel⟩
theorem lk_J2_14 : LkS RJ2 14 yJ12_copyOf_3 cJ12_copyOf_3 2 (some (.array (.object "java/lang/Object"))) 2 := ⟨lw_S q1230 q1231 q121 q1232, ne_J12.1, ne_J12.2, by decide +kernel⟩
theorem lkC_J2_27 : LkC RJ2 27 := ⟨q1272, q382, q381, q122⟩
theorem lk_J2_71 : LkV RJ2 71 yJ2_grow cJ2_grow 9 none 1 := ⟨lw_V q1204 q1206 qs27 q110 q1207, ne_J2.1, ne_J2.2, by decide +kernel⟩
theorem lk_J2_68 : LkS RJ2 68 yJ2_dec cJ2_dec 2 (some .int) 2 := ⟨lw_S q2018 q2019 q110 q2020, ne_J2.1, ne_J2.2, by decide +kernel⟩
theorem lk_J2_100 : LkV RJ2 100 yJ2_pollLast cJ2_pollLast 4 (some (.object "java/lang/Object")) 0 := ⟨lw_V q2014 q2015 q2016 q110 q2017, ne_J2.1, ne_J2.2, by decide +kernel⟩
theorem lk_J21_236 : LkS RJ21 236 yJ12_fill cJ12_fill 5 none 4 := ⟨lw_S q626 q627 q121 q628, ne_J12.1, ne_J12.2, by decide +kernel⟩
theorem lk_J5_1059 : LkS RJ5 1059 yJ20_checkIndex cJ20_checkIndex 3 (some .int) 3 := ⟨lw_S q731 q732 q131 q733, ne_J20.1, ne_J20.2, by decide +kernel⟩
theorem lk_J21_9 : LkS RJ21 9 yJ5_checkIndex cJ5_checkIndex 2 none 2 := ⟨lw_S q728 q729 q113 q730, ne_J5.1, ne_J5.2, by decide +kernel⟩
theorem lk_J24_36 : LkV RJ24 36 yJ24_checkForComodification cJ24_checkForComodification 1 none 0 := ⟨lw_V q1622 q1623 q1624 q137 q1625, ne_J24.1, ne_J24.2, by decide +kernel⟩
theorem lk_J24_39 : LkV RJ24 39 yJ24_hasNext cJ24_hasNext 1 (some .boolean) 0 := ⟨lw_V q1626 q1520 q2531 q137 q1522, ne_J24.1, ne_J24.2, by decide +kernel⟩
theorem lk_J24_68 : LkV RJ24 68 yJ17_unlink cJ17_unlink 5 (some (.object "java/lang/Object")) 1 := ⟨lw_V q1669 q1645 q1646 q128 q1647, ne_J17.1, ne_J17.2, by decide +kernel⟩
theorem lk_J27_52 : LkS RJ27 52 yJ27_wordIndex cJ27_wordIndex 1 (some .int) 1 := ⟨lw_S q985 q986 q144 q987, ne_J27.1, ne_J27.2, by decide +kernel⟩
theorem lkO_J27_21 : LkO RJ27 21 := ⟨q980, q157, q158⟩
theorem lk_J27_27 : LkV RJ27 27 yJ27_initWords cJ27_initWords 2 none 1 := ⟨lw_V q981 q983 qs15 q144 q984, ne_J27.1, ne_J27.2, by decide +kernel⟩
theorem lk_J27_59 : LkS RJ27 59 yJ12_copyOf_2 cJ12_copyOf_2 3 (some (.array .long)) 2 := ⟨lw_S q1038 q1039 q121 q1040, ne_J12.1, ne_J12.2, by decide +kernel⟩
theorem lk_J27_139 : LkV RJ27 139 yJ27_ensureCapacity cJ27_ensureCapacity 3 none 1 := ⟨lw_V q1033 q1035 qs17 q144 q1036, ne_J27.1, ne_J27.2, by decide +kernel⟩
theorem lk_J27_155 : LkV RJ27 155 yJ27_expandTo cJ27_expandTo 3 none 1 := ⟨lw_V q1029 q1031 qs16 q144 q1032, ne_J27.1, ne_J27.2, by decide +kernel⟩
theorem lk_J27_56 : LkV RJ27 56 yJ27_checkInvariants cJ27_checkInvariants 1 none 0 := ⟨lw_V q1046 q1048 qs18 q144 q1049, ne_J27.1, ne_J27.2, by decide +kernel⟩
theorem lk_J28_311 : LkS RJ28 311 yJ22_numberOfTrailingZeros cJ22_numberOfTrailingZeros 2 (some .int) 1 := ⟨lw_S q1065 q1066 q134 q1067, ne_J22.1, ne_J22.2, by decide +kernel⟩
theorem lk_J27_182 : LkS RJ27 182 yJ28_numberOfTrailingZeros cJ28_numberOfTrailingZeros 3 (some .int) 1 := ⟨lw_S q1062 q1063 q145 q1064, ne_J28.1, ne_J28.2, by decide +kernel⟩
theorem lk_J3_133 : LkS RJ3 133 yJ21_fillNull cJ21_fillNull 3 none 3 := ⟨lw_S q623 q624 q132 q625, ne_J21.1, ne_J21.2, by decide +kernel⟩
theorem lk_J3_144 : LkS RJ3 144 yJ5_checkIndex cJ5_checkIndex 2 none 2 := ⟨lw_S q750 q729 q113 q730, ne_J5.1, ne_J5.2, by decide +kernel⟩
theorem lk_J3_191 : LkS RJ3 191 yJ21_canEncode cJ21_canEncode 1 (some .boolean) 1 := ⟨lw_S q1956 q1957 q132 q1958, ne_J21.1, ne_J21.2, by decide +kernel⟩
theorem lk_J4_343 : LkSU RJ4 343 yJ3_length cJ3_length 1 (some .int) 0 := ⟨lw_app (fun w hw => by simp only [List.mem_cons, List.not_mem_nil, or_false] at hw; rcases hw with e | e | e | e | e <;> rw [e] <;> first | exact q323 | exact q2518 | exact q289 | exact q324 | exact q111) (lw_meth q325), by decide +kernel, by decide +kernel⟩
theorem lk_J4_333 : LkSU RJ4 333 yJ3_setLength cJ3_setLength 2 none 1 := ⟨lw_app (fun w hw => by simp only [List.mem_cons, List.not_mem_nil, or_false] at hw; rcases hw with e | e | e | e | e <;> rw [e] <;> first | exact q330 | exact q2519 | exact q289 | exact q331 | exact q111) (lw_meth q332), by decide +kernel, by decide +kernel⟩
theorem lk_J4_329 : LkSU RJ4 329 yJ3_charAt cJ3_charAt 5 (some .char) 1 := ⟨lw_app (fun w hw => by simp only [List.mem_cons, List.not_mem_nil, or_false] at hw; rcases hw with e | e | e | e | e <;> rw [e] <;> first | exact q746 | exact q2530 | exact q289 | exact q747 | exact q111) (lw_meth q748), by decide +kernel, by decide +kernel⟩
theorem lk_J4_50 : LkSU RJ4 50 yJ3_append_3 cJ3_append_3 2 (some (.object "java/lang/AbstractStringBuilder")) 1 := ⟨lw_app (fun w hw => by simp only [List.mem_cons, List.not_mem_nil, or_false] at hw; rcases hw with e | e | e | e | e <;> rw [e] <;> first | exact q1953 | exact q2533 | exact q289 | exact q1954 | exact q111) (lw_meth q1955), by decide +kernel, by decide +kernel⟩
theorem lk_J5_1062 : LkS RJ5 1062 yJ20_checkFromToIndex cJ20_checkFromToIndex 4 (some .int) 4 := ⟨lw_S q402 q403 q131 q404, ne_J20.1, ne_J20.2, by decide +kernel⟩
theorem lk_J5_1065 : LkS RJ5 1065 yJ20_checkFromIndexSize cJ20_checkFromIndexSize 4 (some .int) 4 := ⟨lw_S q448 q449 q131 q450, ne_J20.1, ne_J20.2, by decide +kernel⟩
theorem lkO_J7_1 : LkO RJ7 1 := ⟨q536, q157, q158⟩
theorem lk_J8_16 : LkI RJ8 16 yJ7_init_3 cJ7_init_3 5 4 := ⟨⟨q791, q116, q789, q790, rfl⟩, ⟨ne_J7.1, ne_J7.2, by decide +kernel⟩⟩
theorem lkO_X2_17 : LkO RX2 17 := ⟨q171, q157, q158⟩
theorem lk_X2_7 : LkI RX2 7 yX2_init_2 cX2_init_2 5 4 := ⟨⟨q170, q106, q168, q169, rfl⟩, ⟨ne_X2.1, ne_X2.2, by decide +kernel⟩⟩
theorem lkO_X3_3 : LkO RX3 3 := ⟨q200, q157, q158⟩
theorem lk_X3_15 : LkV RX3 15 yX2_size cX2_size 1 (some .int) 0 := ⟨lw_V q201 q202 q203 q106 q204, ne_X2.1, ne_X2.2, by decide +kernel⟩
theorem lk_X3_45 : LkV RX3 45 yX3_distance cX3_distance 3 (some .int) 2 := ⟨lw_V q206 q207 q208 q107 q209, ne_X3.1, ne_X3.2, by decide +kernel⟩
theorem lkO_X1_28 : LkO RX1 28 := ⟨q156, q157, q158⟩
theorem lk_X1_36 : LkI RX1 36 yX2_init cX2_init 3 1 := ⟨⟨q163, q106, q161, q162, rfl⟩, ⟨ne_X2.1, ne_X2.2, by decide +kernel⟩⟩
theorem lk_X1_45 : LkI RX1 45 yX3_init cX3_init 4 1 := ⟨⟨q199, q107, q197, q198, rfl⟩, ⟨ne_X3.1, ne_X3.2, by decide +kernel⟩⟩
theorem lk_X1_54 : LkI RX1 54 yJ2_init cJ2_init 1 0 := ⟨⟨q241, q110, q239, q240, rfl⟩, ⟨ne_J2.1, ne_J2.2, by decide +kernel⟩⟩
theorem lk_X1_61 : LkI RX1 61 yJ4_init cJ4_init 1 0 := ⟨⟨q262, q112, q260, q261, rfl⟩, ⟨ne_J4.1, ne_J4.2, by decide +kernel⟩⟩
theorem lk_X1_307 : LkV RX1 307 yJ4_length cJ4_length 1 (some .int) 0 := ⟨lw_V q319 q320 q321 q112 q322, ne_J4.1, ne_J4.2, by decide +kernel⟩
theorem lk_X1_313 : LkV RX1 313 yJ4_setLength cJ4_setLength 2 none 1 := ⟨lw_V q326 q327 q328 q112 q329, ne_J4.1, ne_J4.2, by decide +kernel⟩
theorem lk_X1_96 : LkV RX1 96 yX2_size cX2_size 1 (some .int) 0 := ⟨lw_V q817 q202 q203 q106 q204, ne_X2.1, ne_X2.2, by decide +kernel⟩
theorem lk_X1_185 : LkV RX1 185 yX3_isConnected cX3_isConnected 3 (some .boolean) 0 := ⟨lw_V q818 q819 q820 q107 q821, ne_X3.1, ne_X3.2, by decide +kernel⟩
theorem lk_X1_7 : LkS RX1 7 yX1_divisor cX1_divisor 4 (some .long) 2 := ⟨lw_S q950 q945 q105 q946, ne_X1.1, ne_X1.2, by decide +kernel⟩
theorem lk_X2_102 : LkV RX2 102 yX6_contains cX6_contains 6 (some .boolean) 3 := ⟨lw_V q1003 q1004 q1005 q140 q1006, ne_X6.1, ne_X6.2, by decide +kernel⟩
theorem lkO_X9_1 : LkO RX9 1 := ⟨q927, q157, q158⟩
theorem lkC_X7_38 : LkC RX7 38 := ⟨q955, q382, q381, q122⟩
theorem lk_X7_19 : LkSN RX7 19 yX1_divisor cX1_divisor 4 (some .long) 2 := ⟨⟨⟨_, q944⟩, q105, q946, ⟨ne_X1.1, ne_X1.2, by decide +kernel⟩⟩, q945⟩
theorem lk_X7_34 : LkS RX7 34 yX7_longer cX7_longer 2 (some (.array .int)) 1 := ⟨lw_S q952 q953 q141 q954, ne_X7.1, ne_X7.2, by decide +kernel⟩
theorem lk_X3_219 : LkV RX3 219 yX7_enter cX7_enter 12 none 3 := ⟨lw_V q940 q941 q942 q141 q943, ne_X7.1, ne_X7.2, by decide +kernel⟩
theorem lk_X3_75 : LkSN RX3 75 yX1_slope cX1_slope 1 (some .int) 1 := ⟨⟨⟨_, q963⟩, q105, q965, ⟨ne_X1.1, ne_X1.2, by decide +kernel⟩⟩, q964⟩
theorem lk_X3_79 : LkSN RX3 79 yX1_atFirst cX1_atFirst 2 (some .int) 1 := ⟨⟨⟨_, q968⟩, q105, q970, ⟨ne_X1.1, ne_X1.2, by decide +kernel⟩⟩, q969⟩
theorem lkO_X8_1 : LkO RX8 1 := ⟨q912, q157, q158⟩
theorem lk_X3_131 : LkI RX3 131 yX8_init cX8_init 3 2 := ⟨⟨q911, q142, q909, q910, rfl⟩, ⟨ne_X8.1, ne_X8.2, by decide +kernel⟩⟩
theorem lk_X3_136 : LkI RX3 136 yX9_init cX9_init 3 2 := ⟨⟨q926, q143, q924, q925, rfl⟩, ⟨ne_X9.1, ne_X9.2, by decide +kernel⟩⟩
theorem lk_X3_140 : LkS RX3 140 yX3_meet cX3_meet 9 none 4 := ⟨lw_S q960 q961 q107 q962, ne_X3.1, ne_X3.2, by decide +kernel⟩
theorem lkO_X7_1 : LkO RX7 1 := ⟨q877, q157, q158⟩
theorem lk_X3_94 : LkIN RX3 94 yX7_init cX7_init 1 0 := ⟨⟨⟨_, q874⟩, q141, q876, ⟨ne_X7.1, ne_X7.2, by decide +kernel⟩⟩, rfl, q875⟩
theorem lk_X3_95 : LkV RX3 95 yX3_layEdge cX3_layEdge 7 none 1 := ⟨lw_V q901 q903 qs13 q107 q904, ne_X3.1, ne_X3.2, by decide +kernel⟩
theorem lk_X3_99 : LkV RX3 99 yX7_turn cX7_turn 1 none 0 := ⟨lw_V q971 q972 q973 q141 q974, ne_X7.1, ne_X7.2, by decide +kernel⟩
theorem lk_X3_104 : LkI RX3 104 yJ27_init cJ27_init 1 0 := ⟨⟨q979, q144, q977, q978, rfl⟩, ⟨ne_J27.1, ne_J27.2, by decide +kernel⟩⟩
theorem lk_X3_120 : LkV RX3 120 yX2_isAllowed cX2_isAllowed 8 (some .boolean) 3 := ⟨lw_V q999 q1000 q1001 q106 q1002, ne_X2.1, ne_X2.2, by decide +kernel⟩
theorem lk_X3_124 : LkV RX3 124 yJ27_set cJ27_set 3 none 1 := ⟨lw_V q1007 q1008 q1009 q144 q1010, ne_J27.1, ne_J27.2, by decide +kernel⟩
theorem lk_X3_61 : LkSN RX3 61 yX1_has cX1_has 2 (some .boolean) 2 := ⟨⟨⟨_, q1073⟩, q105, q1075, ⟨ne_X1.1, ne_X1.2, by decide +kernel⟩⟩, q1074⟩
theorem lk_X3_68 : LkV RX3 68 yX3_distanceTo cX3_distanceTo 8 (some .long) 4 := ⟨lw_V q1076 q1077 q1078 q107 q1079, ne_X3.1, ne_X3.2, by decide +kernel⟩
theorem lk_X3_159 : LkV RX3 159 yX3_height cX3_height 10 (some .long) 4 := ⟨lw_V q1069 q1070 q1071 q107 q1072, ne_X3.1, ne_X3.2, by decide +kernel⟩
theorem lk_X3_216 : LkV RX3 216 yX3_heightAt cX3_heightAt 2 (some .long) 1 := ⟨lw_V q1143 q1145 qs24 q107 q1146, ne_X3.1, ne_X3.2, by decide +kernel⟩
theorem lk_X3_173 : LkV RX3 173 yX3_layPoints cX3_layPoints 2 none 0 := ⟨lw_V q868 q870 qs12 q107 q871, ne_X3.1, ne_X3.2, by decide +kernel⟩
theorem lk_X3_212 : LkV RX3 212 yX3_turns cX3_turns 16 (some .boolean) 1 := ⟨lw_V q1139 q1141 qs23 q107 q1142, ne_X3.1, ne_X3.2, by decide +kernel⟩
theorem lk_X1_248 : LkV RX1 248 yX3_corner cX3_corner 7 (some .int) 2 := ⟨lw_V q1135 q1136 q1137 q107 q1138, ne_X3.1, ne_X3.2, by decide +kernel⟩
theorem lk_X1_263 : LkVN RX1 263 yX3_heightAt cX3_heightAt 2 (some .long) 1 := ⟨⟨⟨_, q1147⟩, q107, q1146, ⟨ne_X3.1, ne_X3.2, by decide +kernel⟩⟩, q1145, qs24⟩
theorem lk_X1_230 : LkS RX1 230 yX1_partOf cX1_partOf 7 (some .int) 3 := ⟨lw_S q1118 q1094 q105 q1095, ne_X1.1, ne_X1.2, by decide +kernel⟩
theorem lk_X3_155 : LkV RX3 155 yJ27_nextSetBit cJ27_nextSetBit 5 (some .int) 1 := ⟨lw_V q1056 q1057 q1058 q144 q1059, ne_J27.1, ne_J27.2, by decide +kernel⟩
theorem lk_X3_194 : LkV RX3 194 yX3_cost cX3_cost 9 (some .long) 3 := ⟨lw_V q1113 q1114 q1115 q107 q1116, ne_X3.1, ne_X3.2, by decide +kernel⟩
theorem lk_X3_162 : LkS RX3 162 yX3_isLess cX3_isLess 8 (some .boolean) 4 := ⟨lw_S q1086 q1087 q107 q1088, ne_X3.1, ne_X3.2, by decide +kernel⟩
theorem lk_X1_288 : LkV RX1 288 yX3_median cX3_median 7 (some .int) 0 := ⟨lw_V q1109 q1110 q1111 q107 q1112, ne_X3.1, ne_X3.2, by decide +kernel⟩
theorem lk_X1_244 : LkV RX1 244 yX3_cost cX3_cost 9 (some .long) 3 := ⟨lw_V q1117 q1114 q1115 q107 q1116, ne_X3.1, ne_X3.2, by decide +kernel⟩
theorem lk_X1_282 : LkV RX1 282 yX1_placeOf cX1_placeOf 3 (some .int) 2 := ⟨lw_V q1097 q1099 qs20 q105 q1100, ne_X1.1, ne_X1.2, by decide +kernel⟩
theorem lk_X3_176 : LkV RX3 176 yX3_layCenters cX3_layCenters 2 none 0 := ⟨lw_V q864 q866 qs11 q107 q867, ne_X3.1, ne_X3.2, by decide +kernel⟩
theorem lk_X3_179 : LkV RX3 179 yX3_layCenter cX3_layCenter 8 none 1 := ⟨lw_V q1052 q1054 qs19 q107 q1055, ne_X3.1, ne_X3.2, by decide +kernel⟩
theorem lk_X3_182 : LkV RX3 182 yX3_center cX3_center 2 (some .int) 1 := ⟨lw_V q860 q861 q862 q107 q863, ne_X3.1, ne_X3.2, by decide +kernel⟩
theorem lk_X3_185 : LkV RX3 185 yX3_above cX3_above 2 (some .long) 1 := ⟨lw_V q856 q857 q858 q107 q859, ne_X3.1, ne_X3.2, by decide +kernel⟩
theorem lk_X3_188 : LkV RX3 188 yX3_below cX3_below 2 (some .long) 1 := ⟨lw_V q1089 q1090 q1091 q107 q1092, ne_X3.1, ne_X3.2, by decide +kernel⟩
theorem lk_X3_198 : LkV RX3 198 yX3_isAtMost cX3_isAtMost 6 (some .boolean) 3 := ⟨lw_V q1127 q1128 q1129 q107 q1130, ne_X3.1, ne_X3.2, by decide +kernel⟩
theorem lk_X3_201 : LkV RX3 201 yX3_isDivided cX3_isDivided 10 (some .boolean) 4 := ⟨lw_V q1123 q1124 q1125 q107 q1126, ne_X3.1, ne_X3.2, by decide +kernel⟩
theorem lk_X3_190 : LkSN RX3 190 yX1_partOf cX1_partOf 7 (some .int) 3 := ⟨⟨⟨_, q1093⟩, q105, q1095, ⟨ne_X1.1, ne_X1.2, by decide +kernel⟩⟩, q1094⟩
theorem lk_X1_274 : LkV RX1 274 yX3_radius cX3_radius 3 (some .int) 2 := ⟨lw_V q852 q853 q854 q107 q855, ne_X3.1, ne_X3.2, by decide +kernel⟩
theorem lk_X1_360 : LkV RX1 360 yX1_mix cX1_mix 2 none 1 := ⟨lw_V q822 q824 qs8 q105 q825, ne_X1.1, ne_X1.2, by decide +kernel⟩
theorem lk_X1_279 : LkV RX1 279 yX3_center cX3_center 2 (some .int) 1 := ⟨lw_V q1096 q861 q862 q107 q863, ne_X3.1, ne_X3.2, by decide +kernel⟩
theorem lk_X1_285 : LkV RX1 285 yX3_critical cX3_critical 6 (some .int) 1 := ⟨lw_V q1101 q1102 q1103 q107 q1104, ne_X3.1, ne_X3.2, by decide +kernel⟩
theorem lk_X1_291 : LkV RX1 291 yX1_medianOf cX1_medianOf 4 (some .int) 1 := ⟨lw_V q1105 q1107 qs21 q105 q1108, ne_X1.1, ne_X1.2, by decide +kernel⟩
theorem lk_X1_294 : LkV RX1 294 yX3_deciding cX3_deciding 5 (some .int) 1 := ⟨lw_V q1119 q1120 q1121 q107 q1122, ne_X3.1, ne_X3.2, by decide +kernel⟩
theorem lk_X1_267 : LkV RX1 267 yX1_cornerOf cX1_cornerOf 6 (some .int) 3 := ⟨lw_V q1131 q1133 qs22 q105 q1134, ne_X1.1, ne_X1.2, by decide +kernel⟩
theorem lk_X1_196 : LkV RX1 196 yX2_degree cX2_degree 4 (some .int) 1 := ⟨lw_V q831 q832 q833 q106 q834, ne_X2.1, ne_X2.2, by decide +kernel⟩
theorem lk_X3_54 : LkV RX3 54 yX3_isConnected cX3_isConnected 3 (some .boolean) 0 := ⟨lw_V q847 q819 q820 q107 q821, ne_X3.1, ne_X3.2, by decide +kernel⟩
theorem lk_X1_189 : LkV RX1 189 yX1_counted cX1_counted 2 (some .int) 1 := ⟨lw_V q813 q815 qs7 q105 q816, ne_X1.1, ne_X1.2, by decide +kernel⟩
theorem lk_X1_199 : LkV RX1 199 yX1_propertyOf cX1_propertyOf 3 (some .int) 2 := ⟨lw_V q827 q829 qs9 q105 q830, ne_X1.1, ne_X1.2, by decide +kernel⟩
theorem lk_X1_193 : LkV RX1 193 yX5_property cX5_property 2 (some .int) 1 := ⟨lw_V q835 q836 q837 q125 q838, ne_X5.1, ne_X5.2, by decide +kernel⟩
theorem lk_X1_271 : LkV RX1 271 yX3_isUsable cX3_isUsable 1 (some .boolean) 0 := ⟨lw_V q843 q844 q845 q107 q846, ne_X3.1, ne_X3.2, by decide +kernel⟩
theorem lk_X1_365 : LkV RX1 365 yX1_mixCenters cX1_mixCenters 5 none 0 := ⟨lw_V q848 q850 qs10 q105 q851, ne_X1.1, ne_X1.2, by decide +kernel⟩
theorem lk_X1_203 : LkV RX1 203 yX6_property cX6_property 2 (some .int) 1 := ⟨lw_V q839 q840 q841 q140 q842, ne_X6.1, ne_X6.2, by decide +kernel⟩
theorem lk_X1_100 : LkV RX1 100 yJ2_size cJ2_size 1 (some .int) 0 := ⟨lw_V q1148 q1149 q1150 q110 q1151, ne_J2.1, ne_J2.2, by decide +kernel⟩
theorem lk_X1_101 : LkV RX1 101 yJ2_removeFirst cJ2_removeFirst 2 (some (.object "java/lang/Object")) 0 := ⟨lw_V q1186 q1187 q1188 q110 q1189, ne_J2.1, ne_J2.2, by decide +kernel⟩
theorem lk_X1_105 : LkV RX1 105 yJ2_addLast cJ2_addLast 3 none 1 := ⟨lw_V q1200 q1201 q1202 q110 q1203, ne_J2.1, ne_J2.2, by decide +kernel⟩
theorem lk_X1_109 : LkV RX1 109 yX1_save cX1_save 1 none 0 := ⟨lw_V q1182 q1184 qs26 q105 q1185, ne_X1.1, ne_X1.2, by decide +kernel⟩
theorem lk_X1_112 : LkV RX1 112 yX1_stand cX1_stand 2 none 1 := ⟨lw_V q1273 q1275 qs29 q105 q1276, ne_X1.1, ne_X1.2, by decide +kernel⟩
theorem lk_X1_87 : LkS RX1 87 yX1_isIn cX1_isIn 3 (some .boolean) 3 := ⟨lw_S q1163 q757 q105 q758, ne_X1.1, ne_X1.2, by decide +kernel⟩
theorem lk_X1_115 : LkS RX1 115 yX1_checkThat cX1_checkThat 1 none 1 := ⟨lw_S q1164 q1165 q105 q1166, ne_X1.1, ne_X1.2, by decide +kernel⟩
theorem lk_X1_118 : LkV RX1 118 yX1_become cX1_become 2 none 1 := ⟨lw_V q1178 q1180 qs25 q105 q1181, ne_X1.1, ne_X1.2, by decide +kernel⟩
theorem lk_X2_33 : LkV RX2 33 yX2_size cX2_size 1 (some .int) 0 := ⟨lw_V q1296 q202 q203 q106 q204, ne_X2.1, ne_X2.2, by decide +kernel⟩
theorem lk_X2_37 : LkSN RX2 37 yX1_isIn cX1_isIn 3 (some .boolean) 3 := ⟨⟨⟨_, q1297⟩, q105, q758, ⟨ne_X1.1, ne_X1.2, by decide +kernel⟩⟩, q757⟩
theorem lk_X1_75 : LkV RX1 75 yX2_isNode cX2_isNode 2 (some .boolean) 1 := ⟨lw_V q1292 q1293 q1294 q106 q1295, ne_X2.1, ne_X2.2, by decide +kernel⟩
theorem lk_X1_79 : LkS RX1 79 yX1_checkIndex cX1_checkIndex 1 none 1 := ⟨lw_S q1298 q1299 q105 q1300, ne_X1.1, ne_X1.2, by decide +kernel⟩
theorem lkO_X5_1 : LkO RX5 1 := ⟨q1335, q157, q158⟩
theorem lk_X2_96 : LkV RX2 96 yX5_joins cX5_joins 3 (some .boolean) 2 := ⟨lw_V q1318 q1319 q1320 q125 q1321, ne_X5.1, ne_X5.2, by decide +kernel⟩
theorem lk_X2_106 : LkV RX2 106 yX2_isJoined cX2_isJoined 5 (some .boolean) 2 := ⟨lw_V q1314 q1315 q1316 q106 q1317, ne_X2.1, ne_X2.2, by decide +kernel⟩
theorem lkC_X2_50 : LkC RX2 50 := ⟨q1359, q382, q381, q122⟩
theorem lk_X1_121 : LkV RX1 121 yX1_checkNode cX1_checkNode 2 none 1 := ⟨lw_V q1288 q1290 qs30 q105 q1291, ne_X1.1, ne_X1.2, by decide +kernel⟩
theorem lk_X1_124 : LkV RX1 124 yX2_mayConnect cX2_mayConnect 4 (some .boolean) 3 := ⟨lw_V q1306 q1307 q1308 q106 q1309, ne_X2.1, ne_X2.2, by decide +kernel⟩
theorem lk_X1_127 : LkV RX1 127 yX2_hasRoomFor cX2_hasRoomFor 3 (some .boolean) 2 := ⟨lw_V q1310 q1311 q1312 q106 q1313, ne_X2.1, ne_X2.2, by decide +kernel⟩
theorem lk_X1_131 : LkS RX1 131 yX1_checkState cX1_checkState 1 none 1 := ⟨lw_S q1322 q1323 q105 q1324, ne_X1.1, ne_X1.2, by decide +kernel⟩
theorem lk_X1_134 : LkI RX1 134 yX5_init cX5_init 4 3 := ⟨⟨q1334, q125, q1332, q1333, rfl⟩, ⟨ne_X5.1, ne_X5.2, by decide +kernel⟩⟩
theorem lk_X1_137 : LkV RX1 137 yX2_withEdge cX2_withEdge 3 (some (.object "NetworkCenters$Network")) 1 := ⟨lw_V q1355 q1356 q1357 q106 q1358, ne_X2.1, ne_X2.2, by decide +kernel⟩
theorem lkO_X6_1 : LkO RX6 1 := ⟨q1683, q157, q158⟩
theorem lk_X2_58 : LkI RX2 58 yJ17_init cJ17_init 1 0 := ⟨⟨q1380, q128, q1378, q1379, rfl⟩, ⟨ne_J17.1, ne_J17.2, by decide +kernel⟩⟩
theorem lk_X2_59 : LkV RX2 59 yJ17_add cJ17_add 2 (some .boolean) 1 := ⟨lw_V q1406 q1407 q1408 q128 q1409, ne_J17.1, ne_J17.2, by decide +kernel⟩
theorem lk_X2_63 : LkU RX2 63 RJ17 "java/util/AbstractSequentialList" ⟨"java/util/LinkedList", "iterator", "()Ljava/util/Iterator;"⟩ yJ16_iterator cJ16_iterator 1 (some (.object "java/util/Iterator")) 0 := ⟨lw_app (fun w hw => by simp only [List.mem_cons, List.not_mem_nil, or_false] at hw; rcases hw with e | e | e | e | e <;> rw [e] <;> first | exact q1435 | exact q1436 | exact q1438 | exact q1439 | exact q127) (lw_meth q1440), (Or.inl rfl), by decide +kernel⟩
theorem lk_X2_67 : LkF RX2 67 RJ24 ⟨"java/util/Iterator", "hasNext", "()Z"⟩ yJ24_hasNext cJ24_hasNext 1 (some .boolean) 0 := ⟨lw_app (fun w hw => by simp only [List.mem_cons, List.not_mem_nil, or_false] at hw; rcases hw with e | e | e | e <;> rw [e] <;> first | exact q1502 | exact q1518 | exact q1520 | exact q137) (lw_meth q1522), by decide, by decide +kernel⟩
theorem lk_X2_73 : LkF RX2 73 RJ24 ⟨"java/util/Iterator", "next", "()Ljava/lang/Object;"⟩ yJ24_next cJ24_next 1 (some (.object "java/lang/Object")) 0 := ⟨lw_app (fun w hw => by simp only [List.mem_cons, List.not_mem_nil, or_false] at hw; rcases hw with e | e | e | e <;> rw [e] <;> first | exact q1524 | exact q1617 | exact q1619 | exact q137) (lw_meth q1621), by decide, by decide +kernel⟩
theorem lk_X2_80 : LkF RX2 80 RJ24 ⟨"java/util/Iterator", "remove", "()V"⟩ yJ24_remove cJ24_remove 2 none 0 := ⟨lw_app (fun w hw => by simp only [List.mem_cons, List.not_mem_nil, or_false] at hw; rcases hw with e | e | e | e <;> rw [e] <;> first | exact q1628 | exact q1662 | exact q1664 | exact q137) (lw_meth q1666), by decide, by decide +kernel⟩
theorem lk_X2_83 : LkV RX2 83 yJ17_size cJ17_size 1 (some .int) 0 := ⟨lw_V q1670 q1515 q2532 q128 q1516, ne_J17.1, ne_J17.2, by decide +kernel⟩
theorem lk_X2_84 : LkV RX2 84 yJ17_removeFirst cJ17_removeFirst 2 (some (.object "java/lang/Object")) 0 := ⟨lw_V q1671 q1672 q1673 q128 q1674, ne_J17.1, ne_J17.2, by decide +kernel⟩
theorem lk_X2_93 : LkI RX2 93 yX6_init cX6_init 4 3 := ⟨⟨q1682, q140, q1680, q1681, rfl⟩, ⟨ne_X6.1, ne_X6.2, by decide +kernel⟩⟩
theorem lk_X1_141 : LkV RX1 141 yX1_checkEdge cX1_checkEdge 2 none 1 := ⟨lw_V q1368 q1370 qs31 q105 q1371, ne_X1.1, ne_X1.2, by decide +kernel⟩
theorem lk_X1_148 : LkV RX1 148 yX2_withoutEdge cX2_withoutEdge 8 (some (.object "NetworkCenters$Network")) 1 := ⟨lw_V q1372 q1373 q1374 q106 q1375, ne_X2.1, ne_X2.2, by decide +kernel⟩
theorem lkCl_X2_41 : LkCl RX2 41 := ⟨q1715, q1716, q374, q375, q1717, q1718⟩
theorem lk_X2_46 : LkS RX2 46 yX2_with cX2_with 4 (some (.array .int)) 3 := ⟨lw_S q1712 q1713 q106 q1714, ne_X2.1, ne_X2.2, by decide +kernel⟩
theorem lk_X1_156 : LkV RX1 156 yX2_withWeight cX2_withWeight 3 (some (.object "NetworkCenters$Network")) 2 := ⟨lw_V q1708 q1709 q1710 q106 q1711, ne_X2.1, ne_X2.2, by decide +kernel⟩
theorem lk_X1_163 : LkV RX1 163 yX2_withTrend cX2_withTrend 3 (some (.object "NetworkCenters$Network")) 2 := ⟨lw_V q1727 q1728 q1729 q106 q1730, ne_X2.1, ne_X2.2, by decide +kernel⟩
theorem lk_X1_166 : LkV RX1 166 yX2_mayForbid cX2_mayForbid 4 (some .boolean) 3 := ⟨lw_V q1738 q1739 q1740 q106 q1741, ne_X2.1, ne_X2.2, by decide +kernel⟩
theorem lk_X1_171 : LkI RX1 171 yX6_init cX6_init 4 3 := ⟨⟨q1682, q140, q1743, q1681, rfl⟩, ⟨ne_X6.1, ne_X6.2, by decide +kernel⟩⟩
theorem lk_X1_172 : LkV RX1 172 yX2_withStretch cX2_withStretch 3 (some (.object "NetworkCenters$Network")) 1 := ⟨lw_V q1744 q1745 q1746 q106 q1747, ne_X2.1, ne_X2.2, by decide +kernel⟩
theorem lk_X1_176 : LkV RX1 176 yX1_checkStretch cX1_checkStretch 2 none 1 := ⟨lw_V q1755 q1757 qs38 q105 q1758, ne_X1.1, ne_X1.2, by decide +kernel⟩
theorem lk_X1_182 : LkV RX1 182 yX2_withoutStretch cX2_withoutStretch 3 (some (.object "NetworkCenters$Network")) 1 := ⟨lw_V q1759 q1760 q1761 q106 q1762, ne_X2.1, ne_X2.2, by decide +kernel⟩
theorem lk_X1_204 : LkV RX1 204 yX3_distance cX3_distance 3 (some .int) 2 := ⟨lw_V q1798 q207 q208 q107 q209, ne_X3.1, ne_X3.2, by decide +kernel⟩
theorem lk_X1_220 : LkV RX1 220 yX1_isPoint cX1_isPoint 4 (some .boolean) 3 := ⟨lw_V q1813 q1815 qs39 q105 q1816, ne_X1.1, ne_X1.2, by decide +kernel⟩
theorem lk_X1_223 : LkS RX1 223 yX1_isPart cX1_isPart 1 (some .boolean) 1 := ⟨lw_S q1817 q1818 q105 q1819, ne_X1.1, ne_X1.2, by decide +kernel⟩
theorem lk_X1_226 : LkV RX1 226 yX3_distanceTo cX3_distanceTo 8 (some .long) 4 := ⟨lw_V q1820 q1077 q1078 q107 q1079, ne_X3.1, ne_X3.2, by decide +kernel⟩
theorem lk_X1_234 : LkV RX1 234 yX2_isAllowed cX2_isAllowed 8 (some .boolean) 3 := ⟨lw_V q1828 q1000 q1001 q106 q1002, ne_X2.1, ne_X2.2, by decide +kernel⟩
theorem lk_X1_238 : LkV RX1 238 yX1_isSet cX1_isSet 2 (some .boolean) 1 := ⟨lw_V q1836 q1838 qs40 q105 q1839, ne_X1.1, ne_X1.2, by decide +kernel⟩
theorem lk_X1_241 : LkV RX1 241 yX3_height cX3_height 10 (some .long) 4 := ⟨lw_V q1840 q1070 q1071 q107 q1072, ne_X3.1, ne_X3.2, by decide +kernel⟩
theorem lk_X3_205 : LkV RX3 205 yX3_deciding cX3_deciding 5 (some .int) 1 := ⟨lw_V q1901 q1120 q1121 q107 q1122, ne_X3.1, ne_X3.2, by decide +kernel⟩
theorem lk_X3_208 : LkV RX3 208 yX3_greatest cX3_greatest 8 (some .int) 4 := ⟨lw_V q1902 q1904 qs41 q107 q1905, ne_X3.1, ne_X3.2, by decide +kernel⟩
theorem lk_X1_297 : LkV RX1 297 yX3_group cX3_group 11 (some .int) 2 := ⟨lw_V q1897 q1898 q1899 q107 q1900, ne_X3.1, ne_X3.2, by decide +kernel⟩
theorem lk_X1_300 : LkV RX1 300 yX3_covering cX3_covering 6 (some .int) 2 := ⟨lw_V q1913 q1914 q1915 q107 q1916, ne_X3.1, ne_X3.2, by decide +kernel⟩
theorem lk_X1_304 : LkV RX1 304 yX2_changed cX2_changed 4 (some (.object "NetworkCenters$Network")) 1 := ⟨lw_V q1931 q1932 q1933 q106 q1934, ne_X2.1, ne_X2.2, by decide +kernel⟩
theorem lk_X1_309 : LkV RX1 309 yJ4_append_3 cJ4_append_3 2 (some (.object "java/lang/StringBuilder")) 1 := ⟨lw_V q1949 q1950 q1951 q112 q1952, ne_J4.1, ne_J4.2, by decide +kernel⟩
theorem lk_X1_348 : LkV RX1 348 yJ2_isEmpty cJ2_isEmpty 1 (some .boolean) 0 := ⟨lw_V q2006 q2007 q2008 q110 q2009, ne_J2.1, ne_J2.2, by decide +kernel⟩
theorem lk_X1_351 : LkV RX1 351 yJ2_removeLast cJ2_removeLast 2 (some (.object "java/lang/Object")) 0 := ⟨lw_V q2010 q2011 q2012 q110 q2013, ne_J2.1, ne_J2.2, by decide +kernel⟩
theorem lkO_X10_3 : LkO RX10 3 := ⟨q672, q157, q158⟩
theorem lk_X10_23 : LkF RX10 23 RJ4 ⟨"java/lang/CharSequence", "length", "()I"⟩ yJ4_length cJ4_length 1 (some .int) 0 := ⟨lw_app (fun w hw => by simp only [List.mem_cons, List.not_mem_nil, or_false] at hw; rcases hw with e | e | e | e <;> rw [e] <;> first | exact q701 | exact q709 | exact q320 | exact q112) (lw_meth q322), by decide, by decide +kernel⟩
theorem lk_X10_29 : LkF RX10 29 RJ4 ⟨"java/lang/CharSequence", "charAt", "(I)C"⟩ yJ4_charAt cJ4_charAt 2 (some .char) 1 := ⟨lw_app (fun w hw => by simp only [List.mem_cons, List.not_mem_nil, or_false] at hw; rcases hw with e | e | e | e <;> rw [e] <;> first | exact q713 | exact q741 | exact q743 | exact q112) (lw_meth q745), by decide, by decide +kernel⟩
theorem lk_X10_33 : LkV RX10 33 yX10_next cX10_next 1 (some .int) 0 := ⟨lw_V q696 q698 qs2 q147 q699, ne_X10.1, ne_X10.2, by decide +kernel⟩
theorem lk_X10_36 : LkV RX10 36 yX10_token cX10_token 1 (some .int) 0 := ⟨lw_V q692 q694 qs1 q147 q695, ne_X10.1, ne_X10.2, by decide +kernel⟩
theorem lk_X11_3 : LkI RX11 3 yJ8_init_2 cJ8_init_2 5 4 := ⟨⟨q788, q117, q786, q787, rfl⟩, ⟨ne_J8.1, ne_J8.2, by decide +kernel⟩⟩
theorem lk_X10_41 : LkI RX10 41 yX11_init cX11_init 2 1 := ⟨⟨q784, q150, q782, q783, rfl⟩, ⟨ne_X11.1, ne_X11.2, by decide +kernel⟩⟩
theorem lk_X10_44 : LkV RX10 44 yX10_require cX10_require 2 none 1 := ⟨lw_V q769 q771 qs5 q147 q772, ne_X10.1, ne_X10.2, by decide +kernel⟩
theorem lk_X10_48 : LkSN RX10 48 yX1_isIn cX1_isIn 3 (some .boolean) 3 := ⟨⟨⟨_, q756⟩, q105, q758, ⟨ne_X1.1, ne_X1.2, by decide +kernel⟩⟩, q757⟩
theorem lk_X10_52 : LkV RX10 52 yX10_number cX10_number 2 (some .int) 0 := ⟨lw_V q765 q767 qs4 q147 q768, ne_X10.1, ne_X10.2, by decide +kernel⟩
theorem lk_X10_55 : LkV RX10 55 yX10_expect cX10_expect 2 none 1 := ⟨lw_V q798 q800 qs6 q147 q801, ne_X10.1, ne_X10.2, by decide +kernel⟩
theorem lk_X10_68 : LkV RX10 68 yX10_two cX10_two 3 none 2 := ⟨lw_V q761 q763 qs3 q147 q764, ne_X10.1, ne_X10.2, by decide +kernel⟩
theorem lk_X12_15 : LkV RX12 15 yX2_mayForbid cX2_mayForbid 4 (some .boolean) 3 := ⟨lw_V q1995 q1739 q1740 q106 q1741, ne_X2.1, ne_X2.2, by decide +kernel⟩
theorem lk_X12_25 : LkI RX12 25 yX6_init cX6_init 4 3 := ⟨⟨q1682, q140, q1997, q1681, rfl⟩, ⟨ne_X6.1, ne_X6.2, by decide +kernel⟩⟩
theorem lk_X12_28 : LkV RX12 28 yX2_withStretch cX2_withStretch 3 (some (.object "NetworkCenters$Network")) 1 := ⟨lw_V q1998 q1745 q1746 q106 q1747, ne_X2.1, ne_X2.2, by decide +kernel⟩
theorem lk_X13_7 : LkV RX13 7 yX2_isNode cX2_isNode 2 (some .boolean) 1 := ⟨lw_V q1976 q1293 q1294 q106 q1295, ne_X2.1, ne_X2.2, by decide +kernel⟩
theorem lk_X13_13 : LkV RX13 13 yX2_mayConnect cX2_mayConnect 4 (some .boolean) 3 := ⟨lw_V q1977 q1307 q1308 q106 q1309, ne_X2.1, ne_X2.2, by decide +kernel⟩
theorem lk_X13_17 : LkV RX13 17 yX2_hasRoomFor cX2_hasRoomFor 3 (some .boolean) 2 := ⟨lw_V q1978 q1311 q1312 q106 q1313, ne_X2.1, ne_X2.2, by decide +kernel⟩
theorem lk_X13_23 : LkI RX13 23 yX5_init cX5_init 4 3 := ⟨⟨q1334, q125, q1980, q1333, rfl⟩, ⟨ne_X5.1, ne_X5.2, by decide +kernel⟩⟩
theorem lk_X13_26 : LkV RX13 26 yX2_withEdge cX2_withEdge 3 (some (.object "NetworkCenters$Network")) 1 := ⟨lw_V q1981 q1356 q1357 q106 q1358, ne_X2.1, ne_X2.2, by decide +kernel⟩
theorem lk_X14_9 : LkV RX14 9 yX2_isNode cX2_isNode 2 (some .boolean) 1 := ⟨lw_V q1985 q1293 q1294 q106 q1295, ne_X2.1, ne_X2.2, by decide +kernel⟩
theorem lk_X14_15 : LkV RX14 15 yX2_withWeight cX2_withWeight 3 (some (.object "NetworkCenters$Network")) 2 := ⟨lw_V q1986 q1709 q1710 q106 q1711, ne_X2.1, ne_X2.2, by decide +kernel⟩
theorem lk_X15_9 : LkV RX15 9 yX2_isNode cX2_isNode 2 (some .boolean) 1 := ⟨lw_V q1990 q1293 q1294 q106 q1295, ne_X2.1, ne_X2.2, by decide +kernel⟩
theorem lk_X15_15 : LkV RX15 15 yX2_withTrend cX2_withTrend 3 (some (.object "NetworkCenters$Network")) 2 := ⟨lw_V q1991 q1728 q1729 q106 q1730, ne_X2.1, ne_X2.2, by decide +kernel⟩
theorem met_J1_init {P : GP} {l : Launch} (hO : okG P) (S : St) (x0 : Nat) {r : Unit} (h : C_J1_init x0 = some r) : FM l (OG P) yJ1_init (ws_ yJ1_init cJ1_init 1 none) 1 34 [.ref x0] S ((f_rv S) r) := by
  refine FM.ofI (own := RJ1) (lv := [(0, .ref x0)]) hO pl_J1 rfl rfl (Nat.le_of_ble_eq_true rfl) rfl h LE.rf (fun X C hm hin2 => ?_)
  unfold C_J1_init
  refine v_aload_n C dJ1_init_0 0 rfl ?_
  refine g_objInit C dJ1_init_1 lkO_J1_1 (Nat.le_of_ble_eq_true rfl) (Nat.le_of_ble_eq_true rfl) ?_
  exact v_vreturn C hm dJ1_init_4 rfl
theorem mono_J12_copyOf {S : St} {x0 : Nat} {x1 : Int32} {r : Nat × St} (h : C_J12_copyOf S x0 x1 = some r) : leG S r.2 := by
  have q : MF mf_p (C_J12_copyOf S x0 x1) S := by
    unfold C_J12_copyOf
    refine mf_bind (fun y1 hy1 => ?_)
    refine mf_ite ?_ ?_
    · exact mf_none
    · refine mf_nI_ (fun r2 hr2 => ?_)
      refine mf_bind (fun y3 hy3 => ?_)
      refine mf_cB (fun S4 hS4 => ?_)
      exact mf_ret leG.rf
  exact q r h
theorem met_J12_copyOf {P : GP} {l : Launch} (hO : okG P) (S : St) (x0 : Nat) (x1 : Int32) {r : Nat × St} (h : C_J12_copyOf S x0 x1 = some r) : FM l (OG P) yJ12_copyOf (ws_ yJ12_copyOf cJ12_copyOf 3 (some (.array .byte))) 1 34 [.ref x0, .int x1] S (f_ma r) := by
  refine FM.of (own := RJ12) (lv := [(0, .ref x0), (1, .int x1)]) (OG_ok P hO) pl_J12 rfl (Nat.le_of_ble_eq_true rfl) rfl h (mono_J12_copyOf h).LE (fun X C hm => ?_)
  unfold C_J12_copyOf
  refine v_iload_n C dJ12_copyOf_0 1 rfl ?_
  refine v_aload_n C dJ12_copyOf_1 0 rfl ?_
  refine g_alen (kd := 2) (fun _ => rfl) C dJ12_copyOf_2 (fun y1 hy1 => ?_)
  refine v_icmp_ne C (tgt := 14) dJ12_copyOf_3 rfl (fun _ => ?_) (fun _ => ?_)
  · refine v_aload_n C dJ12_copyOf_6 0 rfl ?_
    exact VF.none
  · refine v_iload_n C dJ12_copyOf_14 1 rfl ?_
    refine g_naB C dJ12_copyOf_15 q290 (fun r2 hr2 => ?_)
    refine v_astore_n C (lv' := [(2, .ref (r2.1)), (0, .ref x0), (1, .int x1)]) dJ12_copyOf_17 (Nat.le_of_ble_eq_true rfl) rfl ?_
    refine v_aload_n C dJ12_copyOf_18 1 rfl ?_
    refine v_iconst C dJ12_copyOf_19 ci_0 ?_
    refine v_aload_n C dJ12_copyOf_20 0 rfl ?_
    refine v_iconst C dJ12_copyOf_21 ci_0 ?_
    refine v_aload_n C dJ12_copyOf_22 1 rfl ?_
    refine g_alen (kd := 2) (fun _ => rfl) C dJ12_copyOf_23 (fun y3 hy3 => ?_)
    refine v_iload_n C dJ12_copyOf_24 2 rfl ?_
    refine g_mmin C dJ12_copyOf_25 q379 q211 q108 q212 (Nat.le_of_ble_eq_true rfl) (Nat.le_of_ble_eq_true rfl) ?_
    refine g_cpB C dJ12_copyOf_28 lkC_J12_150 (Nat.le_of_ble_eq_true rfl) (Nat.le_of_ble_eq_true rfl) (fun S4 hS4 => ?_)
    refine v_aload_n C dJ12_copyOf_31 0 rfl ?_
    exact v_areturn C hm dJ12_copyOf_32 (Or.inr ⟨_, rfl⟩) (Or.inr ⟨_, rfl⟩) rfl
theorem mono_J3_init {S : St} {x0 : Nat} {x1 : Int32} {r : St} (h : C_J3_init S x0 x1 = some r) : leG S r := by
  have q : MF mf_s (C_J3_init S x0 x1) S := by
    unfold C_J3_init
    refine mf_ite ?_ ?_
    · exact mf_none
    · refine mf_nI_ (fun r1 hr1 => ?_)
      refine mf_put (fun S2 hS2 => ?_)
      refine mf_put (fun S3 hS3 => ?_)
      exact mf_ret leG.rf
  exact q r h
theorem met_J3_init {P : GP} {l : Launch} (hO : okG P) (S : St) (x0 : Nat) (x1 : Int32) {r : St} (h : C_J3_init S x0 x1 = some r) : FM l (OG P) yJ3_init (ws_ yJ3_init cJ3_init 2 none) 1 34 [.ref x0, .int x1] S (f_mv r) := by
  refine FM.ofI (own := RJ3) (lv := [(0, .ref x0), (1, .int x1)]) hO pl_J3 rfl rfl (Nat.le_of_ble_eq_true rfl) rfl h (mono_J3_init h).LE (fun X C hm hin2 => ?_)
  unfold C_J3_init
  refine v_aload_n C dJ3_init_0 0 rfl ?_
  refine g_objInit C dJ3_init_1 lkO_J3_3 (Nat.le_of_ble_eq_true rfl) (Nat.le_of_ble_eq_true rfl) ?_
  refine g_gets C dJ3_init_4 (zG_0 P) q267 ?_
  refine v_if_eq C (tgt := 25) dJ3_init_7 rfl (fun _ => ?_) (fun _ => ?_)
  · refine v_aload_n C dJ3_init_25 0 rfl ?_
    refine v_iload_n C dJ3_init_26 1 rfl ?_
    exact VF.none
  · refine v_aload_n C dJ3_init_10 0 rfl ?_
    refine v_iload_n C dJ3_init_11 1 rfl ?_
    refine g_naB C dJ3_init_12 q290 (fun r1 hr1 => ?_)
    refine g_putV C dJ3_init_14 cls_12 (Nat.le_of_ble_eq_true rfl) fl_J3_15 fs_J3_15 rfl rfl rfl (fun S2 hS2 => ?_)
    refine v_aload_n C dJ3_init_17 0 rfl ?_
    refine v_iconst C dJ3_init_18 ci_0 ?_
    refine g_putV C dJ3_init_19 cls_12 (Nat.le_of_ble_eq_true rfl) fl_J3_22 fs_J3_22 rfl rfl rfl (fun S3 hS3 => ?_)
    refine v_goto C (tgt := 38) dJ3_init_22 rfl ?_
    exact v_vreturn C hm dJ3_init_38 rfl
theorem mono_J4_init {S : St} {x0 : Nat} {r : St} (h : C_J4_init S x0 = some r) : leG S r := by
  have q : MF mf_s (C_J4_init S x0) S := by
    unfold C_J4_init
    refine mf_callv (fun _ z => mono_J3_init z) (fun r1 hr1 => ?_)
    exact mf_ret leG.rf
  exact q r h
theorem met_J4_init {P : GP} {l : Launch} (hO : okG P) (S : St) (x0 : Nat) {r : St} (h : C_J4_init S x0 = some r) : FM l (OG P) yJ4_init (ws_ yJ4_init cJ4_init 1 none) 2 55 [.ref x0] S (f_mv r) := by
  refine FM.ofI (own := RJ4) (lv := [(0, .ref x0)]) hO pl_J4 rfl rfl (Nat.le_of_ble_eq_true rfl) rfl h (mono_J4_init h).LE (fun X C hm hin2 => ?_)
  unfold C_J4_init
  refine v_aload_n C dJ4_init_0 0 rfl ?_
  refine v_bipush C dJ4_init_1 cb_16 ?_
  refine v_callI_mv C (As := [.int 16]) (st := []) lk_J4_1 dJ4_init_3 rfl (Nat.le_of_ble_eq_true rfl) (Nat.le_of_ble_eq_true rfl) (Nat.le_of_ble_eq_true rfl) (fun _ z => met_J3_init hO S x0 16 z) (fun r1 hr1 => ?_)
  exact v_vreturn C hm dJ4_init_6 rfl
theorem met_J19_hugeLength {P : GP} {l : Launch} (hO : okG P) (S : St) (x0 : Int32) (x1 : Int32) {r : Int32} (h : C_J19_hugeLength x0 x1 = some r) : FM l (OG P) yJ19_hugeLength (ws_ yJ19_hugeLength cJ19_hugeLength 3 (some .int)) 0 0 [.int x0, .int x1] S ((f_ri S) r) := by
  refine FM.of (own := RJ19) (lv := [(0, .int x0), (1, .int x1)]) (OG_ok P hO) pl_J19 rfl (Nat.le_of_ble_eq_true rfl) rfl h LE.rf (fun X C hm => ?_)
  unfold C_J19_hugeLength
  refine v_iload_n C dJ19_hugeLength_0 0 rfl ?_
  refine v_iload_n C dJ19_hugeLength_1 1 rfl ?_
  refine v_iadd C dJ19_hugeLength_2 ?_
  refine v_leti (fun y1 hy1 => ?_)
  refine v_istore_n C (lv' := [(2, .int y1), (0, .int x0), (1, .int x1)]) dJ19_hugeLength_3 (Nat.le_of_ble_eq_true rfl) rfl ?_
  refine v_iload_n C dJ19_hugeLength_4 0 rfl ?_
  refine v_if_ge C (tgt := 49) dJ19_hugeLength_5 rfl (fun _ => ?_) (fun _ => ?_)
  · refine v_iload_n C dJ19_hugeLength_49 0 rfl ?_
    refine v_ldc C dJ19_hugeLength_50 q364 ?_
    refine v_icmp_gt C (tgt := 58) dJ19_hugeLength_52 rfl (fun _ => ?_) (fun _ => ?_)
    · refine v_iload_n C dJ19_hugeLength_58 0 rfl ?_
      exact v_ireturn C hm dJ19_hugeLength_59 rfl
    · refine v_ldc C dJ19_hugeLength_55 q364 ?_
      exact v_ireturn C hm dJ19_hugeLength_57 rfl
  · exact VF.none
theorem w_J19_newLength_21 {P : GP} {X : Ctx} {l : Launch} {S : St} (hO : okG P) (C : CX (OG P) X l cJ19_newLength 4 RJ19 (some .int)) (hm : X.2.2.2.2.2.2.2.2.2 = none) {x0 : Int32} {x1 : Int32}   : VF (OG P) X 4 1 34 S (f_ri S) (C_J19_newLength_21 x0 x1) S 21 [(0, .int x0), (1, .int x1)] [] := by
  unfold C_J19_newLength_21
  refine v_iload_n C dJ19_newLength_21 0 rfl ?_
  refine v_iload_n C dJ19_newLength_22 1 rfl ?_
  refine v_callS_ri C (As := [.int x0, .int x1]) (st := []) lk_J19_201 dJ19_newLength_23 rfl (Nat.le_of_ble_eq_true rfl) (Nat.le_of_ble_eq_true rfl) (Nat.le_of_ble_eq_true rfl) (fun _ z => met_J19_hugeLength hO S x0 x1 z) (fun r2 hr2 => ?_)
  exact v_ireturn C hm dJ19_newLength_26 rfl
theorem met_J19_newLength {P : GP} {l : Launch} (hO : okG P) (S : St) (x0 : Int32) (x1 : Int32) (x2 : Int32) {r : Int32} (h : C_J19_newLength x0 x1 x2 = some r) : FM l (OG P) yJ19_newLength (ws_ yJ19_newLength cJ19_newLength 4 (some .int)) 1 34 [.int x0, .int x1, .int x2] S ((f_ri S) r) := by
  refine FM.of (own := RJ19) (lv := [(0, .int x0), (1, .int x1), (2, .int x2)]) (OG_ok P hO) pl_J19 rfl (Nat.le_of_ble_eq_true rfl) rfl h LE.rf (fun X C hm => ?_)
  unfold C_J19_newLength
  refine v_iload_n C dJ19_newLength_0 0 rfl ?_
  refine v_iload_n C dJ19_newLength_1 1 rfl ?_
  refine v_iload_n C dJ19_newLength_2 2 rfl ?_
  refine g_mmax C dJ19_newLength_3 q363 q312 q108 q313 (Nat.le_of_ble_eq_true rfl) (Nat.le_of_ble_eq_true rfl) ?_
  refine v_iadd C dJ19_newLength_6 ?_
  refine v_leti (fun y1 hy1 => ?_)
  refine v_istore_n C (lv' := [(3, .int y1), (0, .int x0), (1, .int x1), (2, .int x2)]) dJ19_newLength_7 (Nat.le_of_ble_eq_true rfl) rfl ?_
  refine v_iconst C dJ19_newLength_8 ci_0 ?_
  refine v_iload_n C dJ19_newLength_9 0 rfl ?_
  refine v_icmp_ge C (tgt := 21) dJ19_newLength_10 rfl (fun _ => ?_) (fun _ => ?_)
  · exact v_sub [1, 2] rfl (w_J19_newLength_21 hO C hm)
  · refine v_iload_n C dJ19_newLength_13 0 rfl ?_
    refine v_ldc C dJ19_newLength_14 q364 ?_
    refine v_icmp_gt C (tgt := 21) dJ19_newLength_16 rfl (fun _ => ?_) (fun _ => ?_)
    · exact v_sub [1, 2] rfl (w_J19_newLength_21 hO C hm)
    · refine v_iload_n C dJ19_newLength_19 0 rfl ?_
      exact v_ireturn C hm dJ19_newLength_20 rfl
theorem met_J3_newCapacity {P : GP} {l : Launch} (hO : okG P) (S : St) (x0 : Nat) (x1 : Int32) {r : Int32} (h : C_J3_newCapacity S x0 x1 = some r) : FM l (OG P) yJ3_newCapacity (ws_ yJ3_newCapacity cJ3_newCapacity 6 (some .int)) 2 57 [.ref x0, .int x1] S ((f_ri S) r) := by
  refine FM.of (own := RJ3) (lv := [(0, .ref x0), (1, .int x1)]) (OG_ok P hO) pl_J3 rfl (Nat.le_of_ble_eq_true rfl) rfl h LE.rf (fun X C hm => ?_)
  unfold C_J3_newCapacity
  refine VF.bind (fun _ _ => ?_)
  refine v_aload_n C dJ3_newCapacity_0 0 rfl ?_
  refine g_getA C dJ3_newCapacity_1 cls_12 (Nat.le_of_ble_eq_true rfl) fl_J3_15 fs_J3_15 (fun y1 hy1 => ?_)
  refine g_alen (kd := 2) (fun _ => rfl) C dJ3_newCapacity_4 (fun y2 hy2 => ?_)
  refine v_istore_n C (lv' := [(2, .int y2), (0, .ref x0), (1, .int x1)]) dJ3_newCapacity_5 (Nat.le_of_ble_eq_true rfl) rfl ?_
  refine v_iload_n C dJ3_newCapacity_6 2 rfl ?_
  refine v_aload_n C dJ3_newCapacity_7 1 rfl ?_
  refine g_getI C dJ3_newCapacity_8 cls_12 (Nat.le_of_ble_eq_true rfl) fl_J3_22 fs_J3_22 (fun y3 hy3 => ?_)
  refine v_ishl C dJ3_newCapacity_11 ?_
  refine v_leti (fun y4 hy4 => ?_)
  refine v_istore_n C (lv' := [(3, .int y4), (2, .int y2), (0, .ref x0), (1, .int x1)]) dJ3_newCapacity_12 (Nat.le_of_ble_eq_true rfl) rfl ?_
  refine v_iload_n C dJ3_newCapacity_13 0 rfl ?_
  refine v_iload_n C dJ3_newCapacity_14 1 rfl ?_
  refine v_isub C dJ3_newCapacity_15 ?_
  refine v_leti (fun y5 hy5 => ?_)
  refine v_istore C (lv' := [(4, .int y5), (3, .int y4), (2, .int y2), (0, .ref x0), (1, .int x1)]) dJ3_newCapacity_16 (Nat.le_of_ble_eq_true rfl) rfl ?_
  refine v_iload_n C dJ3_newCapacity_18 2 rfl ?_
  refine v_iload C dJ3_newCapacity_19 0 rfl ?_
  refine v_iload_n C dJ3_newCapacity_21 2 rfl ?_
  refine v_iconst C dJ3_newCapacity_22 ci_2 ?_
  refine v_aload_n C dJ3_newCapacity_23 3 rfl ?_
  refine g_getI C dJ3_newCapacity_24 cls_12 (Nat.le_of_ble_eq_true rfl) fl_J3_22 fs_J3_22 (fun y6 hy6 => ?_)
  refine v_ishl C dJ3_newCapacity_27 ?_
  refine v_iadd C dJ3_newCapacity_28 ?_
  refine v_callS_ri C (As := [.int y2, .int y5, .int (y2 + (2 <<< (y6 &&& 31)))]) (st := []) lk_J3_114 dJ3_newCapacity_29 rfl (Nat.le_of_ble_eq_true rfl) (Nat.le_of_ble_eq_true rfl) (Nat.le_of_ble_eq_true rfl) (fun _ z => met_J19_newLength hO S y2 y5 (y2 + (2 <<< (y6 &&& 31))) z) (fun r7 hr7 => ?_)
  refine v_istore C (lv' := [(5, .int r7), (4, .int y5), (3, .int y4), (2, .int y2), (0, .ref x0), (1, .int x1)]) dJ3_newCapacity_32 (Nat.le_of_ble_eq_true rfl) rfl ?_
  refine v_iload C dJ3_newCapacity_34 0 rfl ?_
  refine v_ldc C dJ3_newCapacity_36 q368 ?_
  refine v_icmp_ne C (tgt := 51) dJ3_newCapacity_38 rfl (fun _ => ?_) (fun _ => ?_)
  · exact VF.none
  · refine v_iload C dJ3_newCapacity_51 0 rfl ?_
    refine v_aload_n C dJ3_newCapacity_53 4 rfl ?_
    refine g_getI C dJ3_newCapacity_54 cls_12 (Nat.le_of_ble_eq_true rfl) fl_J3_22 fs_J3_22 (fun y8 hy8 => ?_)
    refine v_ishr C dJ3_newCapacity_57 ?_
    exact v_ireturn C hm dJ3_newCapacity_58 rfl
theorem mono_J3_ensureCapacityInternal {S : St} {x0 : Nat} {x1 : Int32} {r : St} (h : C_J3_ensureCapacityInternal S x0 x1 = some r) : leG S r := by
  have q : MF mf_s (C_J3_ensureCapacityInternal S x0 x1) S := by
    unfold C_J3_ensureCapacityInternal
    refine mf_bind (fun _ _ => ?_)
    refine mf_bind (fun y1 hy1 => ?_)
    refine mf_bind (fun y2 hy2 => ?_)
    refine mf_bind (fun y3 hy3 => ?_)
    refine mf_bind (fun y4 hy4 => ?_)
    refine mf_ite ?_ ?_
    · exact mf_ret leG.rf
    · refine mf_bind (fun y5 hy5 => ?_)
      refine mf_bind (fun r6 hr6 => ?_)
      refine mf_bind (fun y7 hy7 => ?_)
      refine mf_call (fun _ z => mono_J12_copyOf z) (fun r8 hr8 => ?_)
      refine mf_put (fun S9 hS9 => ?_)
      exact mf_ret leG.rf
  exact q r h
theorem met_J3_ensureCapacityInternal {P : GP} {l : Launch} (hO : okG P) (S : St) (x0 : Nat) (x1 : Int32) {r : St} (h : C_J3_ensureCapacityInternal S x0 x1 = some r) : FM l (OG P) yJ3_ensureCapacityInternal (ws_ yJ3_ensureCapacityInternal cJ3_ensureCapacityInternal 3 none) 3 82 [.ref x0, .int x1] S (f_mv r) := by
  refine FM.of (own := RJ3) (lv := [(0, .ref x0), (1, .int x1)]) (OG_ok P hO) pl_J3 rfl (Nat.le_of_ble_eq_true rfl) rfl h (mono_J3_ensureCapacityInternal h).LE (fun X C hm => ?_)
  unfold C_J3_ensureCapacityInternal
  refine VF.bind (fun _ _ => ?_)
  refine v_aload_n C dJ3_ensureCapacityInternal_0 0 rfl ?_
  refine g_getA C dJ3_ensureCapacityInternal_1 cls_12 (Nat.le_of_ble_eq_true rfl) fl_J3_15 fs_J3_15 (fun y1 hy1 => ?_)
  refine g_alen (kd := 2) (fun _ => rfl) C dJ3_ensureCapacityInternal_4 (fun y2 hy2 => ?_)
  refine v_aload_n C dJ3_ensureCapacityInternal_5 0 rfl ?_
  refine g_getI C dJ3_ensureCapacityInternal_6 cls_12 (Nat.le_of_ble_eq_true rfl) fl_J3_22 fs_J3_22 (fun y3 hy3 => ?_)
  refine v_ishr C dJ3_ensureCapacityInternal_9 ?_
  refine v_leti (fun y4 hy4 => ?_)
  refine v_istore_n C (lv' := [(2, .int y4), (0, .ref x0), (1, .int x1)]) dJ3_ensureCapacityInternal_10 (Nat.le_of_ble_eq_true rfl) rfl ?_
  refine v_iload_n C dJ3_ensureCapacityInternal_11 2 rfl ?_
  refine v_iload_n C dJ3_ensureCapacityInternal_12 0 rfl ?_
  refine v_isub C dJ3_ensureCapacityInternal_13 ?_
  refine v_if_le C (tgt := 38) dJ3_ensureCapacityInternal_14 rfl (fun _ => ?_) (fun _ => ?_)
  · exact v_vreturn C hm dJ3_ensureCapacityInternal_38 rfl
  · refine v_aload_n C dJ3_ensureCapacityInternal_17 1 rfl ?_
    refine v_aload_n C dJ3_ensureCapacityInternal_18 1 rfl ?_
    refine g_getA C dJ3_ensureCapacityInternal_19 cls_12 (Nat.le_of_ble_eq_true rfl) fl_J3_15 fs_J3_15 (fun y5 hy5 => ?_)
    refine v_aload_n C dJ3_ensureCapacityInternal_22 1 rfl ?_
    refine v_iload_n C dJ3_ensureCapacityInternal_23 2 rfl ?_
    refine g_callUP_ri C (As := [.int x1]) (st := [.ref y5, .ref x0]) lk_J3_104 dJ3_ensureCapacityInternal_24 rfl (Nat.le_of_ble_eq_true rfl) (Nat.le_of_ble_eq_true rfl) (Nat.le_of_ble_eq_true rfl) cls_12.1 (fun _ z => rc_J3_newCapacity z) (fun _ z => met_J3_newCapacity hO S x0 x1 z) (fun r6 hr6 => ?_)
    refine v_aload_n C dJ3_ensureCapacityInternal_27 1 rfl ?_
    refine g_getI C dJ3_ensureCapacityInternal_28 cls_12 (Nat.le_of_ble_eq_true rfl) fl_J3_22 fs_J3_22 (fun y7 hy7 => ?_)
    refine v_ishl C dJ3_ensureCapacityInternal_31 ?_
    refine v_callS_ma C (As := [.ref y5, .int (r6 <<< (y7 &&& 31))]) (st := [.ref x0]) lk_J3_108 dJ3_ensureCapacityInternal_32 rfl (Nat.le_of_ble_eq_true rfl) (Nat.le_of_ble_eq_true rfl) (Nat.le_of_ble_eq_true rfl) (fun _ z => met_J12_copyOf hO S y5 (r6 <<< (y7 &&& 31)) z) (fun r8 hr8 => ?_)
    refine g_putV C dJ3_ensureCapacityInternal_35 cls_12 (Nat.le_of_ble_eq_true rfl) fl_J3_15 fs_J3_15 rfl rfl rfl (fun S9 hS9 => ?_)
    exact v_vreturn C hm dJ3_ensureCapacityInternal_38 rfl
theorem met_J3_isLatin1 {P : GP} {l : Launch} (hO : okG P) (S : St) (x0 : Nat) {r : Int32} (h : C_J3_isLatin1 S x0 = some r) : FM l (OG P) yJ3_isLatin1 (ws_ yJ3_isLatin1 cJ3_isLatin1 1 (some .boolean)) 0 0 [.ref x0] S ((f_ri S) r) := by
  refine FM.of (own := RJ3) (lv := [(0, .ref x0)]) (OG_ok P hO) pl_J3 rfl (Nat.le_of_ble_eq_true rfl) rfl h LE.rf (fun X C hm => ?_)
  unfold C_J3_isLatin1
  refine VF.bind (fun _ _ => ?_)
  refine g_gets C dJ3_isLatin1_0 (zG_0 P) q267 ?_
  refine v_if_eq C (tgt := 17) dJ3_isLatin1_3 rfl (fun _ => ?_) (fun _ => ?_)
  · refine v_iconst C dJ3_isLatin1_17 ci_0 ?_
    exact v_zreturn C hm dJ3_isLatin1_18 (Or.inl rfl) rfl
  · refine v_aload_n C dJ3_isLatin1_6 0 rfl ?_
    refine g_getI C dJ3_isLatin1_7 cls_12 (Nat.le_of_ble_eq_true rfl) fl_J3_22 fs_J3_22 (fun y1 hy1 => ?_)
    refine v_if_ne C (tgt := 17) dJ3_isLatin1_10 rfl (fun _ => ?_) (fun _ => ?_)
    · refine v_iconst C dJ3_isLatin1_13 ci_1 ?_
      refine v_goto C (tgt := 18) dJ3_isLatin1_14 rfl ?_
      exact v_zreturn C hm dJ3_isLatin1_18 (Or.inr rfl) rfl
    · refine v_iconst C dJ3_isLatin1_17 ci_0 ?_
      exact v_zreturn C hm dJ3_isLatin1_18 (Or.inl rfl) rfl
theorem o_J22_getChars_72 {F : Nat} {x0 : Int32} {x2 : Nat} {x5 : Int32} {x6 : Int32}  (S : St) : MF mf_p (C_J22_getChars_72 F x0 x2 x5 x6 S) S := by
  unfold C_J22_getChars_72
  refine mf_bind (fun y5 hy5 => ?_)
  exact mf_none
theorem o_J22_getChars_22 {F : Nat} {x2 : Nat} {x6 : Int32}  : ∀ (n : Nat) (x0 : Int32) (x5 : Int32) (S : St), MF mf_p (C_J22_getChars_22 F x2 x6 n x0 x5 S) S := by
  intro n
  induction n with
  | zero => intro x0 x5 S; exact mf_none
  | succ n ih =>
    intro x0 x5 S
    unfold C_J22_getChars_22
    refine mf_ite ?_ ?_
    · exact (o_J22_getChars_72 S)
    · refine mf_ite mf_none ?_
      refine mf_bind (fun y2 hy2 => ?_)
      refine mf_bind (fun y3 hy3 => ?_)
      refine mf_bind (fun y4 hy4 => ?_)
      exact mf_none
theorem o_J22_getChars_12 {F : Nat} {x0 : Int32} {x2 : Nat} {x5 : Int32}  (s0 : Int32) (S : St) : MF mf_p (C_J22_getChars_12 F x0 x2 x5 s0 S) S := by
  unfold C_J22_getChars_12
  refine mf_ite ?_ ?_
  · refine mf_bind (fun y1 hy1 => ?_)
    exact (o_J22_getChars_22 F y1 x5 S)
  · exact (o_J22_getChars_22 F x0 x5 S)
theorem mono_J22_getChars {F : Nat} {S : St} {x0 : Int32} {x1 : Int32} {x2 : Nat} {r : Int32 × St} (h : C_J22_getChars F S x0 x1 x2 = some r) : leG S r.2 := by
  have q : MF mf_p (C_J22_getChars F S x0 x1 x2) S := by
    unfold C_J22_getChars
    refine mf_ite ?_ ?_
    · exact (o_J22_getChars_12 0 S)
    · exact (o_J22_getChars_12 1 S)
  exact q r h
theorem w_J22_getChars_72 {P : GP} {X : Ctx} {l : Launch} {S0 : St} {F : Nat} (hO : okG P) (C : CX (OG P) X l cJ22_getChars 7 RJ22 (some .int)) (hm : X.2.2.2.2.2.2.2.2.2 = none) {x0 : Int32} {x2 : Nat} {x5 : Int32} {x6 : Int32}  (S : St) : VF (OG P) X 7 0 0 S0 f_mi (C_J22_getChars_72 F x0 x2 x5 x6 S) S 72 [(0, .int x0), (2, .ref x2), (5, .int x5), (6, .int x6)] [] := by
  unfold C_J22_getChars_72
  refine v_aload_n C dJ22_getChars_72 1 rfl ?_
  refine v_iincN C (lv' := fun y5 => [(5, .int y5), (0, .int x0), (2, .ref x2), (6, .int x6)]) dJ22_getChars_73 2 rfl ci_m1 (Nat.le_of_ble_eq_true rfl) (fun _ => rfl) (fun y5 hy5 => ?_)
  refine v_iload C dJ22_getChars_76 0 rfl ?_
  exact VF.none
theorem w_J22_getChars_22 {P : GP} {X : Ctx} {l : Launch} {S0 : St} {F : Nat} (hO : okG P) (C : CX (OG P) X l cJ22_getChars 7 RJ22 (some .int)) (hm : X.2.2.2.2.2.2.2.2.2 = none) {x2 : Nat} {x6 : Int32}  : ∀ (n : Nat) (x0 : Int32) (x5 : Int32) (S : St), VF (OG P) X 7 0 0 S0 f_mi (C_J22_getChars_22 F x2 x6 n x0 x5 S) S 22 [(0, .int x0), (2, .ref x2), (5, .int x5), (6, .int x6)] [] := by
  intro n
  induction n with
  | zero => intro x0 x5 S; exact VF.none
  | succ n ih =>
    intro x0 x5 S
    unfold C_J22_getChars_22
    refine v_iload_n C dJ22_getChars_22 0 rfl ?_
    refine v_bipush C dJ22_getChars_23 cb_m100 ?_
    refine v_icmp_gt C (tgt := 72) dJ22_getChars_25 rfl (fun _ => ?_) (fun _ => ?_)
    · exact v_sub [0, 1, 2, 3] rfl (w_J22_getChars_72 hO C hm S)
    · refine v_iload_n C dJ22_getChars_28 0 rfl ?_
      refine v_bipush C dJ22_getChars_29 cb_100 ?_
      refine v_idiv C dJ22_getChars_31 (fun _ => ?_)
      refine v_leti (fun y2 hy2 => ?_)
      refine v_istore_n C (lv' := [(3, .int y2), (0, .int x0), (2, .ref x2), (5, .int x5), (6, .int x6)]) dJ22_getChars_32 (Nat.le_of_ble_eq_true rfl) rfl ?_
      refine v_iload_n C dJ22_getChars_33 0 rfl ?_
      refine v_bipush C dJ22_getChars_34 cb_100 ?_
      refine v_imul C dJ22_getChars_36 ?_
      refine v_iload_n C dJ22_getChars_37 1 rfl ?_
      refine v_isub C dJ22_getChars_38 ?_
      refine v_leti (fun y3 hy3 => ?_)
      refine v_istore C (lv' := [(4, .int y3), (3, .int y2), (0, .int x0), (2, .ref x2), (5, .int x5), (6, .int x6)]) dJ22_getChars_39 (Nat.le_of_ble_eq_true rfl) rfl ?_
      refine v_iload_n C dJ22_getChars_41 1 rfl ?_
      refine v_istore_n C (lv' := [(0, .int y2), (4, .int y3), (3, .int y2), (2, .ref x2), (5, .int x5), (6, .int x6)]) dJ22_getChars_42 (Nat.le_of_ble_eq_true rfl) rfl ?_
      refine v_aload_n C dJ22_getChars_43 3 rfl ?_
      refine v_iincN C (lv' := fun y4 => [(5, .int y4), (0, .int y2), (4, .int y3), (3, .int y2), (2, .ref x2), (6, .int x6)]) dJ22_getChars_44 4 rfl ci_m1 (Nat.le_of_ble_eq_true rfl) (fun _ => rfl) (fun y4 hy4 => ?_)
      refine v_iload C dJ22_getChars_47 0 rfl ?_
      exact VF.none
theorem w_J22_getChars_12 {P : GP} {X : Ctx} {l : Launch} {S0 : St} {F : Nat} (hO : okG P) (C : CX (OG P) X l cJ22_getChars 7 RJ22 (some .int)) (hm : X.2.2.2.2.2.2.2.2.2 = none) {x0 : Int32} {x2 : Nat} {x5 : Int32}  (s0 : Int32) (S : St) : VF (OG P) X 7 0 0 S0 f_mi (C_J22_getChars_12 F x0 x2 x5 s0 S) S 12 [(0, .int x0), (2, .ref x2), (5, .int x5)] [.int s0] := by
  unfold C_J22_getChars_12
  refine v_istore C (lv' := [(6, .int s0), (0, .int x0), (2, .ref x2), (5, .int x5)]) dJ22_getChars_12 (Nat.le_of_ble_eq_true rfl) rfl ?_
  refine v_iload C dJ22_getChars_14 0 rfl ?_
  refine v_if_ne C (tgt := 22) dJ22_getChars_16 rfl (fun _ => ?_) (fun _ => ?_)
  · refine v_iload_n C dJ22_getChars_19 1 rfl ?_
    refine v_ineg C dJ22_getChars_20 ?_
    refine v_leti (fun y1 hy1 => ?_)
    refine v_istore_n C (lv' := [(0, .int y1), (6, .int s0), (2, .ref x2), (5, .int x5)]) dJ22_getChars_21 (Nat.le_of_ble_eq_true rfl) rfl ?_
    exact v_sub [0, 2, 3, 1] rfl (w_J22_getChars_22 hO C hm F y1 x5 S)
  · exact v_sub [1, 2, 3, 0] rfl (w_J22_getChars_22 hO C hm F x0 x5 S)
theorem met_J22_getChars {P : GP} {l : Launch} (hO : okG P) (F : Nat) (S : St) (x0 : Int32) (x1 : Int32) (x2 : Nat) {r : Int32 × St} (h : C_J22_getChars F S x0 x1 x2 = some r) : FM l (OG P) yJ22_getChars (ws_ yJ22_getChars cJ22_getChars 7 (some .int)) 0 0 [.int x0, .int x1, .ref x2] S (f_mi r) := by
  refine FM.of (own := RJ22) (lv := [(0, .int x0), (1, .int x1), (2, .ref x2)]) (OG_ok P hO) pl_J22 rfl (Nat.le_of_ble_eq_true rfl) rfl h (mono_J22_getChars h).LE (fun X C hm => ?_)
  unfold C_J22_getChars
  refine v_iload_n C dJ22_getChars_0 1 rfl ?_
  refine v_istore C (lv' := [(5, .int x1), (0, .int x0), (1, .int x1), (2, .ref x2)]) dJ22_getChars_1 (Nat.le_of_ble_eq_true rfl) rfl ?_
  refine v_iload_n C dJ22_getChars_3 1 rfl ?_
  refine v_if_ge C (tgt := 11) dJ22_getChars_4 rfl (fun _ => ?_) (fun _ => ?_)
  · refine v_iconst C dJ22_getChars_11 ci_0 ?_
    exact v_sub [1, 3, 0] rfl (w_J22_getChars_12 hO C hm 0 S)
  · refine v_iconst C dJ22_getChars_7 ci_1 ?_
    refine v_goto C (tgt := 12) dJ22_getChars_8 rfl ?_
    exact v_sub [1, 3, 0] rfl (w_J22_getChars_12 hO C hm 1 S)
theorem w_J22_stringSize_27 {P : GP} {X : Ctx} {l : Launch} {F : Nat} {S : St} (hO : okG P) (C : CX (OG P) X l cJ22_stringSize 4 RJ22 (some .int)) (hm : X.2.2.2.2.2.2.2.2.2 = none) {x1 : Int32} {x3 : Int32}   : VF (OG P) X 4 0 0 S (f_ri S) (C_J22_stringSize_27 F x1 x3) S 27 [(1, .int x1), (3, .int x3)] [] := by
  unfold C_J22_stringSize_27
  refine v_iload_n C dJ22_stringSize_27 1 rfl ?_
  refine v_iload_n C dJ22_stringSize_28 0 rfl ?_
  refine v_iadd C dJ22_stringSize_29 ?_
  exact v_ireturn C hm dJ22_stringSize_30 rfl
theorem w_J22_stringSize_42 {P : GP} {X : Ctx} {l : Launch} {F : Nat} {S : St} (hO : okG P) (C : CX (OG P) X l cJ22_stringSize 4 RJ22 (some .int)) (hm : X.2.2.2.2.2.2.2.2.2 = none) {x1 : Int32}   : VF (OG P) X 4 0 0 S (f_ri S) (C_J22_stringSize_42 F x1) S 42 [(1, .int x1)] [] := by
  unfold C_J22_stringSize_42
  refine v_bipush C dJ22_stringSize_42 cb_10 ?_
  refine v_iload_n C dJ22_stringSize_44 0 rfl ?_
  refine v_iadd C dJ22_stringSize_45 ?_
  exact v_ireturn C hm dJ22_stringSize_46 rfl
theorem w_J22_stringSize_16 {P : GP} {X : Ctx} {l : Launch} {F : Nat} {S : St} (hO : okG P) (C : CX (OG P) X l cJ22_stringSize 4 RJ22 (some .int)) (hm : X.2.2.2.2.2.2.2.2.2 = none) {x0 : Int32} {x1 : Int32}  : ∀ (n : Nat) (x2 : Int32) (x3 : Int32), VF (OG P) X 4 0 0 S (f_ri S) (C_J22_stringSize_16 F x0 x1 n x2 x3) S 16 [(0, .int x0), (1, .int x1), (2, .int x2), (3, .int x3)] [] := by
  intro n
  induction n with
  | zero => intro x2 x3; exact VF.none
  | succ n ih =>
    intro x2 x3
    unfold C_J22_stringSize_16
    refine v_iload_n C dJ22_stringSize_16 3 rfl ?_
    refine v_bipush C dJ22_stringSize_17 cb_10 ?_
    refine v_icmp_ge C (tgt := 42) dJ22_stringSize_19 rfl (fun _ => ?_) (fun _ => ?_)
    · exact v_sub [1] rfl (w_J22_stringSize_42 hO C hm)
    · refine v_iload_n C dJ22_stringSize_22 0 rfl ?_
      refine v_iload_n C dJ22_stringSize_23 2 rfl ?_
      refine v_icmp_le C (tgt := 31) dJ22_stringSize_24 rfl (fun _ => ?_) (fun _ => ?_)
      · refine v_bipush C dJ22_stringSize_31 cb_10 ?_
        refine v_iload_n C dJ22_stringSize_33 2 rfl ?_
        refine v_imul C dJ22_stringSize_34 ?_
        refine v_leti (fun y2 hy2 => ?_)
        refine v_istore_n C (lv' := [(2, .int y2), (0, .int x0), (1, .int x1), (3, .int x3)]) dJ22_stringSize_35 (Nat.le_of_ble_eq_true rfl) rfl ?_
        refine v_iincN C (lv' := fun y3 => [(3, .int y3), (2, .int y2), (0, .int x0), (1, .int x1)]) dJ22_stringSize_36 3 rfl ci_1 (Nat.le_of_ble_eq_true rfl) (fun _ => rfl) (fun y3 hy3 => ?_)
        refine v_goto C (tgt := 16) dJ22_stringSize_39 rfl ?_
        exact v_sub [2, 3, 1, 0] rfl (ih y2 y3)
      · exact v_sub [1, 3] rfl (w_J22_stringSize_27 hO C hm)
theorem w_J22_stringSize_11 {P : GP} {X : Ctx} {l : Launch} {F : Nat} {S : St} (hO : okG P) (C : CX (OG P) X l cJ22_stringSize 4 RJ22 (some .int)) (hm : X.2.2.2.2.2.2.2.2.2 = none) {x0 : Int32} {x1 : Int32}   : VF (OG P) X 4 0 0 S (f_ri S) (C_J22_stringSize_11 F x0 x1) S 11 [(0, .int x0), (1, .int x1)] [] := by
  unfold C_J22_stringSize_11
  refine v_bipush C dJ22_stringSize_11 cb_m10 ?_
  refine v_istore_n C (lv' := [(2, .int (-10)), (0, .int x0), (1, .int x1)]) dJ22_stringSize_13 (Nat.le_of_ble_eq_true rfl) rfl ?_
  refine v_iconst C dJ22_stringSize_14 ci_1 ?_
  refine v_istore_n C (lv' := [(3, .int 1), (2, .int (-10)), (0, .int x0), (1, .int x1)]) dJ22_stringSize_15 (Nat.le_of_ble_eq_true rfl) rfl ?_
  exact v_sub [2, 3, 1, 0] rfl (w_J22_stringSize_16 hO C hm F (-10) 1)
theorem met_J22_stringSize {P : GP} {l : Launch} (hO : okG P) (F : Nat) (S : St) (x0 : Int32) {r : Int32} (h : C_J22_stringSize F x0 = some r) : FM l (OG P) yJ22_stringSize (ws_ yJ22_stringSize cJ22_stringSize 4 (some .int)) 0 0 [.int x0] S ((f_ri S) r) := by
  refine FM.of (own := RJ22) (lv := [(0, .int x0)]) (OG_ok P hO) pl_J22 rfl (Nat.le_of_ble_eq_true rfl) rfl h LE.rf (fun X C hm => ?_)
  unfold C_J22_stringSize
  refine v_iconst C dJ22_stringSize_0 ci_1 ?_
  refine v_istore_n C (lv' := [(1, .int 1), (0, .int x0)]) dJ22_stringSize_1 (Nat.le_of_ble_eq_true rfl) rfl ?_
  refine v_iload_n C dJ22_stringSize_2 1 rfl ?_
  refine v_if_lt C (tgt := 11) dJ22_stringSize_3 rfl (fun _ => ?_) (fun _ => ?_)
  · exact v_sub [1, 0] rfl (w_J22_stringSize_11 hO C hm)
  · refine v_iconst C dJ22_stringSize_6 ci_0 ?_
    refine v_istore_n C (lv' := [(1, .int 0), (0, .int x0)]) dJ22_stringSize_7 (Nat.le_of_ble_eq_true rfl) rfl ?_
    refine v_iload_n C dJ22_stringSize_8 1 rfl ?_
    refine v_ineg C dJ22_stringSize_9 ?_
    refine v_leti (fun y1 hy1 => ?_)
    refine v_istore_n C (lv' := [(0, .int y1), (1, .int 0)]) dJ22_stringSize_10 (Nat.le_of_ble_eq_true rfl) rfl ?_
    exact v_sub [0, 1] rfl (w_J22_stringSize_11 hO C hm)
theorem o_J3_append_2_48 {F : Nat} {x0 : Nat} {x3 : Int32}  (S : St) : MF mf_p (C_J3_append_2_48 F x0 x3 S) S := by
  unfold C_J3_append_2_48
  refine mf_put (fun S9 hS9 => ?_)
  exact mf_ret leG.rf
theorem mono_J3_append_2 {F : Nat} {S : St} {x0 : Nat} {x1 : Int32} {r : Nat × St} (h : C_J3_append_2 F S x0 x1 = some r) : leG S r.2 := by
  have q : MF mf_p (C_J3_append_2 F S x0 x1) S := by
    unfold C_J3_append_2
    refine mf_bind (fun _ _ => ?_)
    refine mf_bind (fun y1 hy1 => ?_)
    refine mf_bind (fun r2 hr2 => ?_)
    refine mf_bind (fun y3 hy3 => ?_)
    refine mf_callv (fun _ z => mono_J3_ensureCapacityInternal z) (fun r4 hr4 => ?_)
    refine mf_bind (fun r5 hr5 => ?_)
    refine mf_ite ?_ ?_
    · refine mf_bind (fun y6 hy6 => ?_)
      exact mf_none
    · refine mf_bind (fun y7 hy7 => ?_)
      refine mf_call (fun _ z => mono_J22_getChars z) (fun r8 hr8 => ?_)
      exact (o_J3_append_2_48 r8.2)
  exact q r h
theorem w_J3_append_2_48 {P : GP} {X : Ctx} {l : Launch} {S0 : St} {F : Nat} (hO : okG P) (C : CX (OG P) X l cJ3_append_2 4 RJ3 (some (.object "java/lang/AbstractStringBuilder"))) (hm : X.2.2.2.2.2.2.2.2.2 = none) {x0 : Nat} {x3 : Int32}  (S : St) : VF (OG P) X 4 4 104 S0 f_ma (C_J3_append_2_48 F x0 x3 S) S 48 [(0, .ref x0), (3, .int x3)] [] := by
  unfold C_J3_append_2_48
  refine v_aload_n C dJ3_append_2_48 0 rfl ?_
  refine v_iload_n C dJ3_append_2_49 1 rfl ?_
  refine g_putV C dJ3_append_2_50 cls_12 (Nat.le_of_ble_eq_true rfl) fl_J3_79 fs_J3_79 rfl rfl rfl (fun S9 hS9 => ?_)
  refine v_aload_n C dJ3_append_2_53 0 rfl ?_
  exact v_areturn C hm dJ3_append_2_54 (Or.inl ⟨_, rfl⟩) (Or.inr ⟨_, rfl⟩) rfl
theorem met_J3_append_2 {P : GP} {l : Launch} (hO : okG P) (F : Nat) (S : St) (x0 : Nat) (x1 : Int32) {r : Nat × St} (h : C_J3_append_2 F S x0 x1 = some r) : FM l (OG P) yJ3_append_2 (ws_ yJ3_append_2 cJ3_append_2 4 (some (.object "java/lang/AbstractStringBuilder"))) 4 104 [.ref x0, .int x1] S (f_ma r) := by
  refine FM.of (own := RJ3) (lv := [(0, .ref x0), (1, .int x1)]) (OG_ok P hO) pl_J3 rfl (Nat.le_of_ble_eq_true rfl) rfl h (mono_J3_append_2 h).LE (fun X C hm => ?_)
  unfold C_J3_append_2
  refine VF.bind (fun _ _ => ?_)
  refine v_aload_n C dJ3_append_2_0 0 rfl ?_
  refine g_getI C dJ3_append_2_1 cls_12 (Nat.le_of_ble_eq_true rfl) fl_J3_79 fs_J3_79 (fun y1 hy1 => ?_)
  refine v_istore_n C (lv' := [(2, .int y1), (0, .ref x0), (1, .int x1)]) dJ3_append_2_4 (Nat.le_of_ble_eq_true rfl) rfl ?_
  refine v_iload_n C dJ3_append_2_5 0 rfl ?_
  refine v_iload_n C dJ3_append_2_6 2 rfl ?_
  refine v_callS_ri C (As := [.int x1]) (st := [.int y1]) lk_J3_245 dJ3_append_2_7 rfl (Nat.le_of_ble_eq_true rfl) (Nat.le_of_ble_eq_true rfl) (Nat.le_of_ble_eq_true rfl) (fun _ z => met_J22_stringSize hO F S x1 z) (fun r2 hr2 => ?_)
  refine v_iadd C dJ3_append_2_10 ?_
  refine v_leti (fun y3 hy3 => ?_)
  refine v_istore_n C (lv' := [(3, .int y3), (2, .int y1), (0, .ref x0), (1, .int x1)]) dJ3_append_2_11 (Nat.le_of_ble_eq_true rfl) rfl ?_
  refine v_aload_n C dJ3_append_2_12 2 rfl ?_
  refine v_iload_n C dJ3_append_2_13 0 rfl ?_
  refine g_callUP_mv C (As := [.int y3]) (st := []) lk_J3_100 dJ3_append_2_14 rfl (Nat.le_of_ble_eq_true rfl) (Nat.le_of_ble_eq_true rfl) (Nat.le_of_ble_eq_true rfl) cls_12.1 (fun _ z => rc_J3_ensureCapacityInternal z) (fun _ z => met_J3_ensureCapacityInternal hO S x0 y3 z) (fun r4 hr4 => ?_)
  refine v_aload_n C dJ3_append_2_17 2 rfl ?_
  refine g_callU_ri C (As := []) (st := []) lk_J3_83 dJ3_append_2_18 rfl (Nat.le_of_ble_eq_true rfl) (Nat.le_of_ble_eq_true rfl) (Nat.le_of_ble_eq_true rfl) cls_12.1 (fun _ z => rc_J3_isLatin1 z) (fun _ z => met_J3_isLatin1 hO r4 x0 z) (fun r5 hr5 => ?_)
  refine v_if_eq C (tgt := 37) dJ3_append_2_21 rfl (fun _ => ?_) (fun _ => ?_)
  · refine v_iload_n C dJ3_append_2_37 3 rfl ?_
    refine v_iload_n C dJ3_append_2_38 1 rfl ?_
    refine v_iload_n C dJ3_append_2_39 0 rfl ?_
    refine v_aload_n C dJ3_append_2_40 2 rfl ?_
    refine g_getA C dJ3_append_2_41 cls_12 (Nat.le_of_ble_eq_true rfl) fl_J3_15 fs_J3_15 (fun y6 hy6 => ?_)
    exact VF.none
  · refine v_iload_n C dJ3_append_2_24 3 rfl ?_
    refine v_iload_n C dJ3_append_2_25 0 rfl ?_
    refine v_aload_n C dJ3_append_2_26 2 rfl ?_
    refine g_getA C dJ3_append_2_27 cls_12 (Nat.le_of_ble_eq_true rfl) fl_J3_15 fs_J3_15 (fun y7 hy7 => ?_)
    refine v_callS_mi C (As := [.int x1, .int y3, .ref y7]) (st := []) lk_J3_248 dJ3_append_2_30 rfl (Nat.le_of_ble_eq_true rfl) (Nat.le_of_ble_eq_true rfl) (Nat.le_of_ble_eq_true rfl) (fun _ z => met_J22_getChars hO F r4 x1 y3 y7 z) (fun r8 hr8 => ?_)
    refine v_pop C dJ3_append_2_33 rfl ?_
    refine v_goto C (tgt := 48) dJ3_append_2_34 rfl ?_
    exact v_sub [2, 0] rfl (w_J3_append_2_48 hO C hm r8.2)
theorem mono_J4_append_2 {F : Nat} {S : St} {x0 : Nat} {x1 : Int32} {r : Nat × St} (h : C_J4_append_2 F S x0 x1 = some r) : leG S r.2 := by
  have q : MF mf_p (C_J4_append_2 F S x0 x1) S := by
    unfold C_J4_append_2
    refine mf_bind (fun _ _ => ?_)
    refine mf_call (fun _ z => mono_J3_append_2 z) (fun r1 hr1 => ?_)
    exact mf_ret leG.rf
  exact q r h
theorem met_J4_append_2 {P : GP} {l : Launch} (hO : okG P) (F : Nat) (S : St) (x0 : Nat) (x1 : Int32) {r : Nat × St} (h : C_J4_append_2 F S x0 x1 = some r) : FM l (OG P) yJ4_append_2 (ws_ yJ4_append_2 cJ4_append_2 2 (some (.object "java/lang/StringBuilder"))) 5 127 [.ref x0, .int x1] S (f_ma r) := by
  refine FM.of (own := RJ4) (lv := [(0, .ref x0), (1, .int x1)]) (OG_ok P hO) pl_J4 rfl (Nat.le_of_ble_eq_true rfl) rfl h (mono_J4_append_2 h).LE (fun X C hm => ?_)
  unfold C_J4_append_2
  refine VF.bind (fun _ _ => ?_)
  refine v_aload_n C dJ4_append_2_0 0 rfl ?_
  refine v_iload_n C dJ4_append_2_1 1 rfl ?_
  refine g_callSU_ma C (As := [.int x1]) (st := []) lk_J4_53 dJ4_append_2_2 rfl (Nat.le_of_ble_eq_true rfl) (Nat.le_of_ble_eq_true rfl) (Nat.le_of_ble_eq_true rfl) cls_12.1 (fun _ z => rc_J3_append_2 z) (fun _ z => met_J3_append_2 hO F S x0 x1 z) (fun r1 hr1 => ?_)
  refine v_pop C dJ4_append_2_5 rfl ?_
  refine v_aload_n C dJ4_append_2_6 0 rfl ?_
  exact v_areturn C hm dJ4_append_2_7 (Or.inl ⟨_, rfl⟩) (Or.inr ⟨_, rfl⟩) rfl
theorem o_J3_appendNull_76 {x0 : Nat} {x1 : Int32}  (S : St) : MF mf_p (C_J3_appendNull_76 x0 x1 S) S := by
  unfold C_J3_appendNull_76
  refine mf_put (fun S14 hS14 => ?_)
  exact mf_ret leG.rf
theorem mono_J3_appendNull {S : St} {x0 : Nat} {r : Nat × St} (h : C_J3_appendNull S x0 = some r) : leG S r.2 := by
  have q : MF mf_p (C_J3_appendNull S x0) S := by
    unfold C_J3_appendNull
    refine mf_bind (fun _ _ => ?_)
    refine mf_bind (fun y1 hy1 => ?_)
    refine mf_callv (fun _ z => mono_J3_ensureCapacityInternal z) (fun r2 hr2 => ?_)
    refine mf_bind (fun y3 hy3 => ?_)
    refine mf_bind (fun y4 hy4 => ?_)
    refine mf_bind (fun r5 hr5 => ?_)
    refine mf_ite ?_ ?_
    · exact mf_none
    · refine mf_bind (fun y6 hy6 => ?_)
      refine mf_tI (fun S7 hS7 => ?_)
      refine mf_bind (fun y8 hy8 => ?_)
      refine mf_tI (fun S9 hS9 => ?_)
      refine mf_bind (fun y10 hy10 => ?_)
      refine mf_tI (fun S11 hS11 => ?_)
      refine mf_bind (fun y12 hy12 => ?_)
      refine mf_tI (fun S13 hS13 => ?_)
      exact (o_J3_appendNull_76 S13)
  exact q r h
theorem w_J3_appendNull_76 {P : GP} {X : Ctx} {l : Launch} {S0 : St} (hO : okG P) (C : CX (OG P) X l cJ3_appendNull 3 RJ3 (some (.object "java/lang/AbstractStringBuilder"))) (hm : X.2.2.2.2.2.2.2.2.2 = none) {x0 : Nat} {x1 : Int32}  (S : St) : VF (OG P) X 3 4 104 S0 f_ma (C_J3_appendNull_76 x0 x1 S) S 76 [(0, .ref x0), (1, .int x1)] [] := by
  unfold C_J3_appendNull_76
  refine v_aload_n C dJ3_appendNull_76 0 rfl ?_
  refine v_iload_n C dJ3_appendNull_77 1 rfl ?_
  refine g_putV C dJ3_appendNull_78 cls_12 (Nat.le_of_ble_eq_true rfl) fl_J3_79 fs_J3_79 rfl rfl rfl (fun S14 hS14 => ?_)
  refine v_aload_n C dJ3_appendNull_81 0 rfl ?_
  exact v_areturn C hm dJ3_appendNull_82 (Or.inl ⟨_, rfl⟩) (Or.inr ⟨_, rfl⟩) rfl
theorem met_J3_appendNull {P : GP} {l : Launch} (hO : okG P) (S : St) (x0 : Nat) {r : Nat × St} (h : C_J3_appendNull S x0 = some r) : FM l (OG P) yJ3_appendNull (ws_ yJ3_appendNull cJ3_appendNull 3 (some (.object "java/lang/AbstractStringBuilder"))) 4 104 [.ref x0] S (f_ma r) := by
  refine FM.of (own := RJ3) (lv := [(0, .ref x0)]) (OG_ok P hO) pl_J3 rfl (Nat.le_of_ble_eq_true rfl) rfl h (mono_J3_appendNull h).LE (fun X C hm => ?_)
  unfold C_J3_appendNull
  refine VF.bind (fun _ _ => ?_)
  refine v_aload_n C dJ3_appendNull_0 0 rfl ?_
  refine v_aload_n C dJ3_appendNull_1 0 rfl ?_
  refine g_getI C dJ3_appendNull_2 cls_12 (Nat.le_of_ble_eq_true rfl) fl_J3_79 fs_J3_79 (fun y1 hy1 => ?_)
  refine v_iconst C dJ3_appendNull_5 ci_4 ?_
  refine v_iadd C dJ3_appendNull_6 ?_
  refine g_callUP_mv C (As := [.int (y1 + 4)]) (st := []) lk_J3_100 dJ3_appendNull_7 rfl (Nat.le_of_ble_eq_true rfl) (Nat.le_of_ble_eq_true rfl) (Nat.le_of_ble_eq_true rfl) cls_12.1 (fun _ z => rc_J3_ensureCapacityInternal z) (fun _ z => met_J3_ensureCapacityInternal hO S x0 (y1 + 4) z) (fun r2 hr2 => ?_)
  refine v_aload_n C dJ3_appendNull_10 0 rfl ?_
  refine g_getI C dJ3_appendNull_11 cls_12 (Nat.le_of_ble_eq_true rfl) fl_J3_79 fs_J3_79 (fun y3 hy3 => ?_)
  refine v_istore_n C (lv' := [(1, .int y3), (0, .ref x0)]) dJ3_appendNull_14 (Nat.le_of_ble_eq_true rfl) rfl ?_
  refine v_aload_n C dJ3_appendNull_15 1 rfl ?_
  refine g_getA C dJ3_appendNull_16 cls_12 (Nat.le_of_ble_eq_true rfl) fl_J3_15 fs_J3_15 (fun y4 hy4 => ?_)
  refine v_astore_n C (lv' := [(2, .ref y4), (1, .int y3), (0, .ref x0)]) dJ3_appendNull_19 (Nat.le_of_ble_eq_true rfl) rfl ?_
  refine v_aload_n C dJ3_appendNull_20 2 rfl ?_
  refine g_callU_ri C (As := []) (st := []) lk_J3_83 dJ3_appendNull_21 rfl (Nat.le_of_ble_eq_true rfl) (Nat.le_of_ble_eq_true rfl) (Nat.le_of_ble_eq_true rfl) cls_12.1 (fun _ z => rc_J3_isLatin1 z) (fun _ z => met_J3_isLatin1 hO r2 x0 z) (fun r5 hr5 => ?_)
  refine v_if_eq C (tgt := 62) dJ3_appendNull_24 rfl (fun _ => ?_) (fun _ => ?_)
  · refine v_aload_n C dJ3_appendNull_62 0 rfl ?_
    refine v_iload_n C dJ3_appendNull_63 1 rfl ?_
    refine v_bipush C dJ3_appendNull_64 cb_110 ?_
    refine v_bipush C dJ3_appendNull_66 cb_117 ?_
    refine v_bipush C dJ3_appendNull_68 cb_108 ?_
    refine v_bipush C dJ3_appendNull_70 cb_108 ?_
    exact VF.none
  · refine v_aload_n C dJ3_appendNull_27 0 rfl ?_
    refine v_iload_n C dJ3_appendNull_28 1 rfl ?_
    refine v_iincN C (lv' := fun y6 => [(1, .int y6), (2, .ref y4), (0, .ref x0)]) dJ3_appendNull_29 1 rfl ci_1 (Nat.le_of_ble_eq_true rfl) (fun _ => rfl) (fun y6 hy6 => ?_)
    refine v_bipush C dJ3_appendNull_32 cb_110 ?_
    refine g_bas C dJ3_appendNull_34 (fun S7 hS7 => ?_)
    refine v_aload_n C dJ3_appendNull_35 1 rfl ?_
    refine v_iload_n C dJ3_appendNull_36 0 rfl ?_
    refine v_iincN C (lv' := fun y8 => [(1, .int y8), (2, .ref y4), (0, .ref x0)]) dJ3_appendNull_37 0 rfl ci_1 (Nat.le_of_ble_eq_true rfl) (fun _ => rfl) (fun y8 hy8 => ?_)
    refine v_bipush C dJ3_appendNull_40 cb_117 ?_
    refine g_bas C dJ3_appendNull_42 (fun S9 hS9 => ?_)
    refine v_aload_n C dJ3_appendNull_43 1 rfl ?_
    refine v_iload_n C dJ3_appendNull_44 0 rfl ?_
    refine v_iincN C (lv' := fun y10 => [(1, .int y10), (2, .ref y4), (0, .ref x0)]) dJ3_appendNull_45 0 rfl ci_1 (Nat.le_of_ble_eq_true rfl) (fun _ => rfl) (fun y10 hy10 => ?_)
    refine v_bipush C dJ3_appendNull_48 cb_108 ?_
    refine g_bas C dJ3_appendNull_50 (fun S11 hS11 => ?_)
    refine v_aload_n C dJ3_appendNull_51 1 rfl ?_
    refine v_iload_n C dJ3_appendNull_52 0 rfl ?_
    refine v_iincN C (lv' := fun y12 => [(1, .int y12), (2, .ref y4), (0, .ref x0)]) dJ3_appendNull_53 0 rfl ci_1 (Nat.le_of_ble_eq_true rfl) (fun _ => rfl) (fun y12 hy12 => ?_)
    refine v_bipush C dJ3_appendNull_56 cb_108 ?_
    refine g_bas C dJ3_appendNull_58 (fun S13 hS13 => ?_)
    refine v_goto C (tgt := 76) dJ3_appendNull_59 rfl ?_
    exact v_sub [2, 0] rfl (w_J3_appendNull_76 hO C hm S13)
theorem met_J21_inflate {P : GP} {l : Launch} (hO : okG P) (S : St) (x0 : Nat) (x1 : Int32) (x2 : Nat) (x3 : Int32) (x4 : Int32) {r : Unit} (h : C_J21_inflate x0 x1 x2 x3 x4 = some r) : FM l (OG P) yJ21_inflate (ws_ yJ21_inflate cJ21_inflate 5 none) 0 0 [.ref x0, .int x1, .ref x2, .int x3, .int x4] S ((f_rv S) r) := by
  refine FM.of (own := RJ21) (lv := [(0, .ref x0), (1, .int x1), (2, .ref x2), (3, .int x3), (4, .int x4)]) (OG_ok P hO) pl_J21 rfl (Nat.le_of_ble_eq_true rfl) rfl h LE.rf (fun X C hm => ?_)
  unfold C_J21_inflate
  refine v_aload_n C dJ21_inflate_0 0 rfl ?_
  refine v_iload_n C dJ21_inflate_1 1 rfl ?_
  refine v_aload_n C dJ21_inflate_2 2 rfl ?_
  refine v_iload_n C dJ21_inflate_3 3 rfl ?_
  refine v_iload C dJ21_inflate_4 4 rfl ?_
  exact VF.none
theorem mono_J3_inflate {S : St} {x0 : Nat} {r : St} (h : C_J3_inflate S x0 = some r) : leG S r := by
  have q : MF mf_s (C_J3_inflate S x0) S := by
    unfold C_J3_inflate
    refine mf_bind (fun _ _ => ?_)
    refine mf_bind (fun r1 hr1 => ?_)
    refine mf_ite ?_ ?_
    · exact mf_ret leG.rf
    · refine mf_bind (fun y2 hy2 => ?_)
      refine mf_bind (fun y3 hy3 => ?_)
      exact mf_none
  exact q r h
theorem met_J3_inflate {P : GP} {l : Launch} (hO : okG P) (S : St) (x0 : Nat) {r : St} (h : C_J3_inflate S x0 = some r) : FM l (OG P) yJ3_inflate (ws_ yJ3_inflate cJ3_inflate 2 none) 1 24 [.ref x0] S (f_mv r) := by
  refine FM.of (own := RJ3) (lv := [(0, .ref x0)]) (OG_ok P hO) pl_J3 rfl (Nat.le_of_ble_eq_true rfl) rfl h (mono_J3_inflate h).LE (fun X C hm => ?_)
  unfold C_J3_inflate
  refine VF.bind (fun _ _ => ?_)
  refine v_aload_n C dJ3_inflate_0 0 rfl ?_
  refine g_callU_ri C (As := []) (st := []) lk_J3_83 dJ3_inflate_1 rfl (Nat.le_of_ble_eq_true rfl) (Nat.le_of_ble_eq_true rfl) (Nat.le_of_ble_eq_true rfl) cls_12.1 (fun _ z => rc_J3_isLatin1 z) (fun _ z => met_J3_isLatin1 hO S x0 z) (fun r1 hr1 => ?_)
  refine v_if_ne C (tgt := 8) dJ3_inflate_4 rfl (fun _ => ?_) (fun _ => ?_)
  · exact v_vreturn C hm dJ3_inflate_7 rfl
  · refine v_aload_n C dJ3_inflate_8 0 rfl ?_
    refine g_getA C dJ3_inflate_9 cls_12 (Nat.le_of_ble_eq_true rfl) fl_J3_15 fs_J3_15 (fun y2 hy2 => ?_)
    refine g_alen (kd := 2) (fun _ => rfl) C dJ3_inflate_12 (fun y3 hy3 => ?_)
    exact VF.none
theorem mono_J3_inflateIfNeededFor {S : St} {x0 : Nat} {x1 : Nat} {r : St} (h : C_J3_inflateIfNeededFor S x0 x1 = some r) : leG S r := by
  have q : MF mf_s (C_J3_inflateIfNeededFor S x0 x1) S := by
    unfold C_J3_inflateIfNeededFor
    refine mf_bind (fun _ _ => ?_)
    refine mf_ite ?_ ?_
    · exact mf_ret leG.rf
    · refine mf_bind (fun y1 hy1 => ?_)
      exact mf_none
  exact q r h
theorem met_J3_inflateIfNeededFor {P : GP} {l : Launch} (hO : okG P) (S : St) (x0 : Nat) (x1 : Nat) {r : St} (h : C_J3_inflateIfNeededFor S x0 x1 = some r) : FM l (OG P) yJ3_inflateIfNeededFor (ws_ yJ3_inflateIfNeededFor cJ3_inflateIfNeededFor 2 none) 2 45 [.ref x0, .ref x1] S (f_mv r) := by
  refine FM.of (own := RJ3) (lv := [(0, .ref x0), (1, .ref x1)]) (OG_ok P hO) pl_J3 rfl (Nat.le_of_ble_eq_true rfl) rfl h (mono_J3_inflateIfNeededFor h).LE (fun X C hm => ?_)
  unfold C_J3_inflateIfNeededFor
  refine VF.bind (fun _ _ => ?_)
  refine g_gets C dJ3_inflateIfNeededFor_0 (zG_0 P) q267 ?_
  refine v_if_eq C (tgt := 21) dJ3_inflateIfNeededFor_3 rfl (fun _ => ?_) (fun _ => ?_)
  · exact v_vreturn C hm dJ3_inflateIfNeededFor_21 rfl
  · refine v_aload_n C dJ3_inflateIfNeededFor_6 0 rfl ?_
    refine g_getI C dJ3_inflateIfNeededFor_7 cls_12 (Nat.le_of_ble_eq_true rfl) fl_J3_22 fs_J3_22 (fun y1 hy1 => ?_)
    refine v_aload_n C dJ3_inflateIfNeededFor_10 1 rfl ?_
    exact VF.none
theorem mono_J3_putStringAt {S : St} {x0 : Nat} {x1 : Int32} {x2 : Nat} {r : St} (h : C_J3_putStringAt S x0 x1 x2 = some r) : leG S r := by
  have q : MF mf_s (C_J3_putStringAt S x0 x1 x2) S := by
    unfold C_J3_putStringAt
    refine mf_bind (fun _ _ => ?_)
    exact mf_none
  exact q r h
theorem met_J3_putStringAt {P : GP} {l : Launch} (hO : okG P) (S : St) (x0 : Nat) (x1 : Int32) (x2 : Nat) {r : St} (h : C_J3_putStringAt S x0 x1 x2 = some r) : FM l (OG P) yJ3_putStringAt (ws_ yJ3_putStringAt cJ3_putStringAt 3 none) 3 66 [.ref x0, .int x1, .ref x2] S (f_mv r) := by
  refine FM.of (own := RJ3) (lv := [(0, .ref x0), (1, .int x1), (2, .ref x2)]) (OG_ok P hO) pl_J3 rfl (Nat.le_of_ble_eq_true rfl) rfl h (mono_J3_putStringAt h).LE (fun X C hm => ?_)
  unfold C_J3_putStringAt
  refine VF.bind (fun _ _ => ?_)
  refine v_aload_n C dJ3_putStringAt_0 0 rfl ?_
  refine v_aload_n C dJ3_putStringAt_1 2 rfl ?_
  exact VF.none
theorem mono_J3_append {S : St} {x0 : Nat} {x1 : Nat} {r : Nat × St} (h : C_J3_append S x0 x1 = some r) : leG S r.2 := by
  have q : MF mf_p (C_J3_append S x0 x1) S := by
    unfold C_J3_append
    refine mf_bind (fun _ _ => ?_)
    exact mf_none
  exact q r h
theorem met_J3_append {P : GP} {l : Launch} (hO : okG P) (S : St) (x0 : Nat) (x1 : Nat) {r : Nat × St} (h : C_J3_append S x0 x1 = some r) : FM l (OG P) yJ3_append (ws_ yJ3_append cJ3_append 3 (some (.object "java/lang/AbstractStringBuilder"))) 5 126 [.ref x0, .ref x1] S (f_ma r) := by
  refine FM.of (own := RJ3) (lv := [(0, .ref x0), (1, .ref x1)]) (OG_ok P hO) pl_J3 rfl (Nat.le_of_ble_eq_true rfl) rfl h (mono_J3_append h).LE (fun X C hm => ?_)
  unfold C_J3_append
  refine VF.bind (fun _ _ => ?_)
  refine v_aload_n C dJ3_append_0 1 rfl ?_
  refine g_ifnA C (tgt := 9) dJ3_append_1 rfl ?_
  refine v_aload_n C dJ3_append_9 1 rfl ?_
  exact VF.none
theorem mono_J4_append {S : St} {x0 : Nat} {x1 : Nat} {r : Nat × St} (h : C_J4_append S x0 x1 = some r) : leG S r.2 := by
  have q : MF mf_p (C_J4_append S x0 x1) S := by
    unfold C_J4_append
    refine mf_bind (fun _ _ => ?_)
    refine mf_call (fun _ z => mono_J3_append z) (fun r1 hr1 => ?_)
    exact mf_ret leG.rf
  exact q r h
theorem met_J4_append {P : GP} {l : Launch} (hO : okG P) (S : St) (x0 : Nat) (x1 : Nat) {r : Nat × St} (h : C_J4_append S x0 x1 = some r) : FM l (OG P) yJ4_append (ws_ yJ4_append cJ4_append 2 (some (.object "java/lang/StringBuilder"))) 6 148 [.ref x0, .ref x1] S (f_ma r) := by
  refine FM.of (own := RJ4) (lv := [(0, .ref x0), (1, .ref x1)]) (OG_ok P hO) pl_J4 rfl (Nat.le_of_ble_eq_true rfl) rfl h (mono_J4_append h).LE (fun X C hm => ?_)
  unfold C_J4_append
  refine VF.bind (fun _ _ => ?_)
  refine v_aload_n C dJ4_append_0 0 rfl ?_
  refine v_aload_n C dJ4_append_1 1 rfl ?_
  refine g_callSU_ma C (As := [.ref x1]) (st := []) lk_J4_29 dJ4_append_2 rfl (Nat.le_of_ble_eq_true rfl) (Nat.le_of_ble_eq_true rfl) (Nat.le_of_ble_eq_true rfl) cls_12.1 (fun _ z => rc_J3_append z) (fun _ z => met_J3_append hO S x0 x1 z) (fun r1 hr1 => ?_)
  refine v_pop C dJ4_append_5 rfl ?_
  refine v_aload_n C dJ4_append_6 0 rfl ?_
  exact v_areturn C hm dJ4_append_7 (Or.inl ⟨_, rfl⟩) (Or.inr ⟨_, rfl⟩) rfl
theorem met_J3_getValue {P : GP} {l : Launch} (hO : okG P) (S : St) (x0 : Nat) {r : Nat} (h : C_J3_getValue S x0 = some r) : FM l (OG P) yJ3_getValue (ws_ yJ3_getValue cJ3_getValue 1 (some (.array .byte))) 0 0 [.ref x0] S ((f_ra S) r) := by
  refine FM.of (own := RJ3) (lv := [(0, .ref x0)]) (OG_ok P hO) pl_J3 rfl (Nat.le_of_ble_eq_true rfl) rfl h LE.rf (fun X C hm => ?_)
  unfold C_J3_getValue
  refine VF.bind (fun _ _ => ?_)
  refine v_aload_n C dJ3_getValue_0 0 rfl ?_
  refine g_getA C dJ3_getValue_1 cls_12 (Nat.le_of_ble_eq_true rfl) fl_J3_15 fs_J3_15 (fun y1 hy1 => ?_)
  exact v_areturn C hm dJ3_getValue_4 (Or.inr ⟨_, rfl⟩) (Or.inr ⟨_, rfl⟩) rfl
theorem met_J3_length {P : GP} {l : Launch} (hO : okG P) (S : St) (x0 : Nat) {r : Int32} (h : C_J3_length S x0 = some r) : FM l (OG P) yJ3_length (ws_ yJ3_length cJ3_length 1 (some .int)) 0 0 [.ref x0] S ((f_ri S) r) := by
  refine FM.of (own := RJ3) (lv := [(0, .ref x0)]) (OG_ok P hO) pl_J3 rfl (Nat.le_of_ble_eq_true rfl) rfl h LE.rf (fun X C hm => ?_)
  unfold C_J3_length
  refine VF.bind (fun _ _ => ?_)
  refine v_aload_n C dJ3_length_0 0 rfl ?_
  refine g_getI C dJ3_length_1 cls_12 (Nat.le_of_ble_eq_true rfl) fl_J3_79 fs_J3_79 (fun y1 hy1 => ?_)
  exact v_ireturn C hm dJ3_length_4 rfl
theorem mono_J5_init_2 {F : Nat} {S : St} {x0 : Nat} {x1 : Nat} {x2 : Nat} {r : St} (h : C_J5_init_2 F S x0 x1 x2 = some r) : leG S r := by
  have q : MF mf_s (C_J5_init_2 F S x0 x1 x2) S := by
    unfold C_J5_init_2
    refine mf_bind (fun r1 hr1 => ?_)
    exact mf_none
  exact q r h
theorem met_J5_init_2 {P : GP} {l : Launch} (hO : okG P) (F : Nat) (S : St) (x0 : Nat) (x1 : Nat) (x2 : Nat) {r : St} (h : C_J5_init_2 F S x0 x1 x2 = some r) : FM l (OG P) yJ5_init_2 (ws_ yJ5_init_2 cJ5_init_2 5 none) 1 34 [.ref x0, .ref x1, .ref x2] S (f_mv r) := by
  refine FM.ofI (own := RJ5) (lv := [(0, .ref x0), (1, .ref x1), (2, .ref x2)]) hO pl_J5 rfl rfl (Nat.le_of_ble_eq_true rfl) rfl h (mono_J5_init_2 h).LE (fun X C hm hin2 => ?_)
  unfold C_J5_init_2
  refine v_aload_n C dJ5_init_2_0 0 rfl ?_
  refine g_objInit C dJ5_init_2_1 lkO_J5_1 (Nat.le_of_ble_eq_true rfl) (Nat.le_of_ble_eq_true rfl) ?_
  refine v_aload_n C dJ5_init_2_4 1 rfl ?_
  refine g_callU_ra C (As := []) (st := []) lk_J5_552 dJ5_init_2_5 rfl (Nat.le_of_ble_eq_true rfl) (Nat.le_of_ble_eq_true rfl) (Nat.le_of_ble_eq_true rfl) cls_12.1 (fun _ z => rc_J3_getValue z) (fun _ z => met_J3_getValue hO S x1 z) (fun r1 hr1 => ?_)
  refine v_astore_n C (lv' := [(3, .ref r1), (0, .ref x0), (1, .ref x1), (2, .ref x2)]) dJ5_init_2_8 (Nat.le_of_ble_eq_true rfl) rfl ?_
  refine v_aload_n C dJ5_init_2_9 2 rfl ?_
  exact VF.none
theorem mono_J5_init {F : Nat} {S : St} {x0 : Nat} {x1 : Nat} {r : St} (h : C_J5_init F S x0 x1 = some r) : leG S r := by
  have q : MF mf_s (C_J5_init F S x0 x1) S := by
    unfold C_J5_init
    exact mf_none
  exact q r h
theorem met_J5_init {P : GP} {l : Launch} (hO : okG P) (F : Nat) (S : St) (x0 : Nat) (x1 : Nat) {r : St} (h : C_J5_init F S x0 x1 = some r) : FM l (OG P) yJ5_init (ws_ yJ5_init cJ5_init 2 none) 2 58 [.ref x0, .ref x1] S (f_mv r) := by
  refine FM.ofI (own := RJ5) (lv := [(0, .ref x0), (1, .ref x1)]) hO pl_J5 rfl rfl (Nat.le_of_ble_eq_true rfl) rfl h (mono_J5_init h).LE (fun X C hm hin2 => ?_)
  unfold C_J5_init
  refine v_aload_n C dJ5_init_0 0 rfl ?_
  refine v_aload_n C dJ5_init_1 1 rfl ?_
  refine g_null C dJ5_init_2 ?_
  exact VF.none
theorem mono_J4_toString {F : Nat} {S : St} {x0 : Nat} {r : Nat × St} (h : C_J4_toString F S x0 = some r) : leG S r.2 := by
  have q : MF mf_p (C_J4_toString F S x0) S := by
    unfold C_J4_toString
    refine mf_bind (fun _ _ => ?_)
    exact mf_none
  exact q r h
theorem met_J4_toString {P : GP} {l : Launch} (hO : okG P) (F : Nat) (S : St) (x0 : Nat) {r : Nat × St} (h : C_J4_toString F S x0 = some r) : FM l (OG P) yJ4_toString (ws_ yJ4_toString cJ4_toString 1 (some (.object "java/lang/String"))) 3 79 [.ref x0] S (f_ma r) := by
  refine FM.of (own := RJ4) (lv := [(0, .ref x0)]) (OG_ok P hO) pl_J4 rfl (Nat.le_of_ble_eq_true rfl) rfl h (mono_J4_toString h).LE (fun X C hm => ?_)
  unfold C_J4_toString
  refine VF.bind (fun _ _ => ?_)
  exact VF.none
theorem mono_J12_checkLength {F : Nat} {S : St} {x0 : Int32} {x1 : Int32} {r : St} (h : C_J12_checkLength F S x0 x1 = some r) : leG S r := by
  have q : MF mf_s (C_J12_checkLength F S x0 x1) S := by
    unfold C_J12_checkLength
    refine mf_ite ?_ ?_
    · exact mf_ret leG.rf
    · exact mf_none
  exact q r h
theorem met_J12_checkLength {P : GP} {l : Launch} (hO : okG P) (F : Nat) (S : St) (x0 : Int32) (x1 : Int32) {r : St} (h : C_J12_checkLength F S x0 x1 = some r) : FM l (OG P) yJ12_checkLength (ws_ yJ12_checkLength cJ12_checkLength 2 none) 7 169 [.int x0, .int x1] S (f_mv r) := by
  refine FM.of (own := RJ12) (lv := [(0, .int x0), (1, .int x1)]) (OG_ok P hO) pl_J12 rfl (Nat.le_of_ble_eq_true rfl) rfl h (mono_J12_checkLength h).LE (fun X C hm => ?_)
  unfold C_J12_checkLength
  refine v_iload_n C dJ12_checkLength_0 1 rfl ?_
  refine v_iload_n C dJ12_checkLength_1 0 rfl ?_
  refine v_icmp_ge C (tgt := 37) dJ12_checkLength_2 rfl (fun _ => ?_) (fun _ => ?_)
  · exact v_vreturn C hm dJ12_checkLength_37 rfl
  · exact VF.none
theorem mono_J12_copyOfRangeByte {F : Nat} {S : St} {x0 : Nat} {x1 : Int32} {x2 : Int32} {r : Nat × St} (h : C_J12_copyOfRangeByte F S x0 x1 x2 = some r) : leG S r.2 := by
  have q : MF mf_p (C_J12_copyOfRangeByte F S x0 x1 x2) S := by
    unfold C_J12_copyOfRangeByte
    refine mf_callv (fun _ z => mono_J12_checkLength z) (fun r1 hr1 => ?_)
    refine mf_bind (fun y2 hy2 => ?_)
    refine mf_nI_ (fun r3 hr3 => ?_)
    refine mf_bind (fun y4 hy4 => ?_)
    refine mf_cB (fun S5 hS5 => ?_)
    exact mf_ret leG.rf
  exact q r h
theorem met_J12_copyOfRangeByte {P : GP} {l : Launch} (hO : okG P) (F : Nat) (S : St) (x0 : Nat) (x1 : Int32) (x2 : Int32) {r : Nat × St} (h : C_J12_copyOfRangeByte F S x0 x1 x2 = some r) : FM l (OG P) yJ12_copyOfRangeByte (ws_ yJ12_copyOfRangeByte cJ12_copyOfRangeByte 5 (some (.array .byte))) 8 190 [.ref x0, .int x1, .int x2] S (f_ma r) := by
  refine FM.of (own := RJ12) (lv := [(0, .ref x0), (1, .int x1), (2, .int x2)]) (OG_ok P hO) pl_J12 rfl (Nat.le_of_ble_eq_true rfl) rfl h (mono_J12_copyOfRangeByte h).LE (fun X C hm => ?_)
  unfold C_J12_copyOfRangeByte
  refine v_iload_n C dJ12_copyOfRangeByte_0 1 rfl ?_
  refine v_iload_n C dJ12_copyOfRangeByte_1 2 rfl ?_
  refine v_callS_mv C (As := [.int x1, .int x2]) (st := []) lk_J12_343 dJ12_copyOfRangeByte_2 rfl (Nat.le_of_ble_eq_true rfl) (Nat.le_of_ble_eq_true rfl) (Nat.le_of_ble_eq_true rfl) (fun _ z => met_J12_checkLength hO F S x1 x2 z) (fun r1 hr1 => ?_)
  refine v_iload_n C dJ12_copyOfRangeByte_5 2 rfl ?_
  refine v_iload_n C dJ12_copyOfRangeByte_6 1 rfl ?_
  refine v_isub C dJ12_copyOfRangeByte_7 ?_
  refine v_leti (fun y2 hy2 => ?_)
  refine v_istore_n C (lv' := [(3, .int y2), (0, .ref x0), (1, .int x1), (2, .int x2)]) dJ12_copyOfRangeByte_8 (Nat.le_of_ble_eq_true rfl) rfl ?_
  refine v_iload_n C dJ12_copyOfRangeByte_9 0 rfl ?_
  refine g_naB C dJ12_copyOfRangeByte_10 q290 (fun r3 hr3 => ?_)
  refine v_astore C (lv' := [(4, .ref (r3.1)), (3, .int y2), (0, .ref x0), (1, .int x1), (2, .int x2)]) dJ12_copyOfRangeByte_12 (Nat.le_of_ble_eq_true rfl) rfl ?_
  refine v_aload_n C dJ12_copyOfRangeByte_14 2 rfl ?_
  refine v_iload_n C dJ12_copyOfRangeByte_15 3 rfl ?_
  refine v_aload C dJ12_copyOfRangeByte_16 0 rfl ?_
  refine v_iconst C dJ12_copyOfRangeByte_18 ci_0 ?_
  refine v_aload_n C dJ12_copyOfRangeByte_19 2 rfl ?_
  refine g_alen (kd := 2) (fun _ => rfl) C dJ12_copyOfRangeByte_20 (fun y4 hy4 => ?_)
  refine v_iload_n C dJ12_copyOfRangeByte_21 3 rfl ?_
  refine v_isub C dJ12_copyOfRangeByte_22 ?_
  refine v_iload_n C dJ12_copyOfRangeByte_23 1 rfl ?_
  refine g_mmin C dJ12_copyOfRangeByte_24 q379 q211 q108 q212 (Nat.le_of_ble_eq_true rfl) (Nat.le_of_ble_eq_true rfl) ?_
  refine g_cpB C dJ12_copyOfRangeByte_27 lkC_J12_150 (Nat.le_of_ble_eq_true rfl) (Nat.le_of_ble_eq_true rfl) (fun S5 hS5 => ?_)
  refine v_aload C dJ12_copyOfRangeByte_30 0 rfl ?_
  exact v_areturn C hm dJ12_copyOfRangeByte_32 (Or.inr ⟨_, rfl⟩) (Or.inr ⟨_, rfl⟩) rfl
theorem o_J12_copyOfRange_10 {F : Nat} {x0 : Nat} {x1 : Int32} {x2 : Int32}  (S : St) : MF mf_p (C_J12_copyOfRange_10 F x0 x1 x2 S) S := by
  unfold C_J12_copyOfRange_10
  refine mf_call (fun _ z => mono_J12_copyOfRangeByte z) (fun r2 hr2 => ?_)
  exact mf_ret leG.rf
theorem mono_J12_copyOfRange {F : Nat} {S : St} {x0 : Nat} {x1 : Int32} {x2 : Int32} {r : Nat × St} (h : C_J12_copyOfRange F S x0 x1 x2 = some r) : leG S r.2 := by
  have q : MF mf_p (C_J12_copyOfRange F S x0 x1 x2) S := by
    unfold C_J12_copyOfRange
    refine mf_ite ?_ ?_
    · refine mf_bind (fun y1 hy1 => ?_)
      refine mf_ite ?_ ?_
      · exact mf_none
      · exact (o_J12_copyOfRange_10 S)
    · exact (o_J12_copyOfRange_10 S)
  exact q r h
theorem w_J12_copyOfRange_10 {P : GP} {X : Ctx} {l : Launch} {S0 : St} {F : Nat} (hO : okG P) (C : CX (OG P) X l cJ12_copyOfRange 3 RJ12 (some (.array .byte))) (hm : X.2.2.2.2.2.2.2.2.2 = none) {x0 : Nat} {x1 : Int32} {x2 : Int32}  (S : St) : VF (OG P) X 3 9 214 S0 f_ma (C_J12_copyOfRange_10 F x0 x1 x2 S) S 10 [(0, .ref x0), (1, .int x1), (2, .int x2)] [] := by
  unfold C_J12_copyOfRange_10
  refine v_aload_n C dJ12_copyOfRange_10 0 rfl ?_
  refine v_iload_n C dJ12_copyOfRange_11 1 rfl ?_
  refine v_iload_n C dJ12_copyOfRange_12 2 rfl ?_
  refine v_callS_ma C (As := [.ref x0, .int x1, .int x2]) (st := []) lk_J12_339 dJ12_copyOfRange_13 rfl (Nat.le_of_ble_eq_true rfl) (Nat.le_of_ble_eq_true rfl) (Nat.le_of_ble_eq_true rfl) (fun _ z => met_J12_copyOfRangeByte hO F S x0 x1 x2 z) (fun r2 hr2 => ?_)
  exact v_areturn C hm dJ12_copyOfRange_16 (Or.inr ⟨_, rfl⟩) (Or.inr ⟨_, rfl⟩) rfl
theorem met_J12_copyOfRange {P : GP} {l : Launch} (hO : okG P) (F : Nat) (S : St) (x0 : Nat) (x1 : Int32) (x2 : Int32) {r : Nat × St} (h : C_J12_copyOfRange F S x0 x1 x2 = some r) : FM l (OG P) yJ12_copyOfRange (ws_ yJ12_copyOfRange cJ12_copyOfRange 3 (some (.array .byte))) 9 214 [.ref x0, .int x1, .int x2] S (f_ma r) := by
  refine FM.of (own := RJ12) (lv := [(0, .ref x0), (1, .int x1), (2, .int x2)]) (OG_ok P hO) pl_J12 rfl (Nat.le_of_ble_eq_true rfl) rfl h (mono_J12_copyOfRange h).LE (fun X C hm => ?_)
  unfold C_J12_copyOfRange
  refine v_iload_n C dJ12_copyOfRange_0 1 rfl ?_
  refine v_if_ne C (tgt := 10) dJ12_copyOfRange_1 rfl (fun _ => ?_) (fun _ => ?_)
  · refine v_iload_n C dJ12_copyOfRange_4 2 rfl ?_
    refine v_aload_n C dJ12_copyOfRange_5 0 rfl ?_
    refine g_alen (kd := 2) (fun _ => rfl) C dJ12_copyOfRange_6 (fun y1 hy1 => ?_)
    refine v_icmp_eq C (tgt := 17) dJ12_copyOfRange_7 rfl (fun _ => ?_) (fun _ => ?_)
    · refine v_aload_n C dJ12_copyOfRange_17 0 rfl ?_
      exact VF.none
    · exact v_sub [0, 1, 2] rfl (w_J12_copyOfRange_10 hO C hm S)
  · exact v_sub [0, 1, 2] rfl (w_J12_copyOfRange_10 hO C hm S)
theorem mono_J12_rangeCheck {F : Nat} {S : St} {x0 : Int32} {x1 : Int32} {x2 : Int32} {r : St} (h : C_J12_rangeCheck F S x0 x1 x2 = some r) : leG S r := by
  have q : MF mf_s (C_J12_rangeCheck F S x0 x1 x2) S := by
    unfold C_J12_rangeCheck
    refine mf_ite ?_ ?_
    · refine mf_ite ?_ ?_
      · refine mf_ite ?_ ?_
        · exact mf_ret leG.rf
        · exact mf_none
      · exact mf_none
    · exact mf_none
  exact q r h
theorem met_J12_rangeCheck {P : GP} {l : Launch} (hO : okG P) (F : Nat) (S : St) (x0 : Int32) (x1 : Int32) (x2 : Int32) {r : St} (h : C_J12_rangeCheck F S x0 x1 x2 = some r) : FM l (OG P) yJ12_rangeCheck (ws_ yJ12_rangeCheck cJ12_rangeCheck 3 none) 7 169 [.int x0, .int x1, .int x2] S (f_mv r) := by
  refine FM.of (own := RJ12) (lv := [(0, .int x0), (1, .int x1), (2, .int x2)]) (OG_ok P hO) pl_J12 rfl (Nat.le_of_ble_eq_true rfl) rfl h (mono_J12_rangeCheck h).LE (fun X C hm => ?_)
  unfold C_J12_rangeCheck
  refine v_iload_n C dJ12_rangeCheck_0 1 rfl ?_
  refine v_iload_n C dJ12_rangeCheck_1 2 rfl ?_
  refine v_icmp_le C (tgt := 46) dJ12_rangeCheck_2 rfl (fun _ => ?_) (fun _ => ?_)
  · refine v_iload_n C dJ12_rangeCheck_46 1 rfl ?_
    refine v_if_ge C (tgt := 59) dJ12_rangeCheck_47 rfl (fun _ => ?_) (fun _ => ?_)
    · refine v_iload_n C dJ12_rangeCheck_59 2 rfl ?_
      refine v_iload_n C dJ12_rangeCheck_60 0 rfl ?_
      refine v_icmp_le C (tgt := 73) dJ12_rangeCheck_61 rfl (fun _ => ?_) (fun _ => ?_)
      · exact v_vreturn C hm dJ12_rangeCheck_73 rfl
      · exact VF.none
    · exact VF.none
  · exact VF.none
theorem o_J12_fill_10 {F : Nat} {x0 : Nat} {x2 : Int32} {x3 : Int32}  : ∀ (n : Nat) (x4 : Int32) (S : St), MF mf_s (C_J12_fill_10 F x0 x2 x3 n x4 S) S := by
  intro n
  induction n with
  | zero => intro x4 S; exact mf_none
  | succ n ih =>
    intro x4 S
    unfold C_J12_fill_10
    refine mf_ite ?_ ?_
    · exact mf_ret leG.rf
    · refine mf_tI (fun S3 hS3 => ?_)
      refine mf_bind (fun y4 hy4 => ?_)
      exact (ih y4 S3)
theorem mono_J12_fill {F : Nat} {S : St} {x0 : Nat} {x1 : Int32} {x2 : Int32} {x3 : Int32} {r : St} (h : C_J12_fill F S x0 x1 x2 x3 = some r) : leG S r := by
  have q : MF mf_s (C_J12_fill F S x0 x1 x2 x3) S := by
    unfold C_J12_fill
    refine mf_bind (fun y1 hy1 => ?_)
    refine mf_callv (fun _ z => mono_J12_rangeCheck z) (fun r2 hr2 => ?_)
    exact (o_J12_fill_10 F x1 r2)
  exact q r h
theorem w_J12_fill_10 {P : GP} {X : Ctx} {l : Launch} {S0 : St} {F : Nat} (hO : okG P) (C : CX (OG P) X l cJ12_fill 5 RJ12 none) (hm : X.2.2.2.2.2.2.2.2.2 = none) {x0 : Nat} {x2 : Int32} {x3 : Int32}  : ∀ (n : Nat) (x4 : Int32) (S : St), VF (OG P) X 5 8 191 S0 f_mv (C_J12_fill_10 F x0 x2 x3 n x4 S) S 10 [(0, .ref x0), (2, .int x2), (3, .int x3), (4, .int x4)] [] := by
  intro n
  induction n with
  | zero => intro x4 S; exact VF.none
  | succ n ih =>
    intro x4 S
    unfold C_J12_fill_10
    refine v_iload C dJ12_fill_10 3 rfl ?_
    refine v_iload_n C dJ12_fill_12 1 rfl ?_
    refine v_icmp_ge C (tgt := 27) dJ12_fill_13 rfl (fun _ => ?_) (fun _ => ?_)
    · exact v_vreturn C hm dJ12_fill_27 rfl
    · refine v_aload_n C dJ12_fill_16 0 rfl ?_
      refine v_iload C dJ12_fill_17 3 rfl ?_
      refine v_iload_n C dJ12_fill_19 2 rfl ?_
      refine g_bas C dJ12_fill_20 (fun S3 hS3 => ?_)
      refine v_iincN C (lv' := fun y4 => [(4, .int y4), (0, .ref x0), (2, .int x2), (3, .int x3)]) dJ12_fill_21 3 rfl ci_1 (Nat.le_of_ble_eq_true rfl) (fun _ => rfl) (fun y4 hy4 => ?_)
      refine v_goto C (tgt := 10) dJ12_fill_24 rfl ?_
      exact v_sub [1, 2, 3, 0] rfl (ih y4 S3)
theorem met_J12_fill {P : GP} {l : Launch} (hO : okG P) (F : Nat) (S : St) (x0 : Nat) (x1 : Int32) (x2 : Int32) (x3 : Int32) {r : St} (h : C_J12_fill F S x0 x1 x2 x3 = some r) : FM l (OG P) yJ12_fill (ws_ yJ12_fill cJ12_fill 5 none) 8 191 [.ref x0, .int x1, .int x2, .int x3] S (f_mv r) := by
  refine FM.of (own := RJ12) (lv := [(0, .ref x0), (1, .int x1), (2, .int x2), (3, .int x3)]) (OG_ok P hO) pl_J12 rfl (Nat.le_of_ble_eq_true rfl) rfl h (mono_J12_fill h).LE (fun X C hm => ?_)
  unfold C_J12_fill
  refine v_aload_n C dJ12_fill_0 0 rfl ?_
  refine g_alen (kd := 2) (fun _ => rfl) C dJ12_fill_1 (fun y1 hy1 => ?_)
  refine v_iload_n C dJ12_fill_2 1 rfl ?_
  refine v_iload_n C dJ12_fill_3 2 rfl ?_
  refine v_callS_mv C (As := [.int y1, .int x1, .int x2]) (st := []) lk_J12_13 dJ12_fill_4 rfl (Nat.le_of_ble_eq_true rfl) (Nat.le_of_ble_eq_true rfl) (Nat.le_of_ble_eq_true rfl) (fun _ z => met_J12_rangeCheck hO F S y1 x1 x2 z) (fun r2 hr2 => ?_)
  refine v_iload_n C dJ12_fill_7 1 rfl ?_
  refine v_istore C (lv' := [(4, .int x1), (0, .ref x0), (1, .int x1), (2, .int x2), (3, .int x3)]) dJ12_fill_8 (Nat.le_of_ble_eq_true rfl) rfl ?_
  exact v_sub [1, 3, 4, 0] rfl (w_J12_fill_10 hO C hm F x1 r2)
theorem mono_J12_copyOf_2 {S : St} {x0 : Nat} {x1 : Int32} {r : Nat × St} (h : C_J12_copyOf_2 S x0 x1 = some r) : leG S r.2 := by
  have q : MF mf_p (C_J12_copyOf_2 S x0 x1) S := by
    unfold C_J12_copyOf_2
    refine mf_bind (fun y1 hy1 => ?_)
    refine mf_ite ?_ ?_
    · exact mf_none
    · refine mf_nJ_ (fun r2 hr2 => ?_)
      refine mf_bind (fun y3 hy3 => ?_)
      refine mf_cJ (fun S4 hS4 => ?_)
      exact mf_ret leG.rf
  exact q r h
theorem met_J12_copyOf_2 {P : GP} {l : Launch} (hO : okG P) (S : St) (x0 : Nat) (x1 : Int32) {r : Nat × St} (h : C_J12_copyOf_2 S x0 x1 = some r) : FM l (OG P) yJ12_copyOf_2 (ws_ yJ12_copyOf_2 cJ12_copyOf_2 3 (some (.array .long))) 1 34 [.ref x0, .int x1] S (f_ma r) := by
  refine FM.of (own := RJ12) (lv := [(0, .ref x0), (1, .int x1)]) (OG_ok P hO) pl_J12 rfl (Nat.le_of_ble_eq_true rfl) rfl h (mono_J12_copyOf_2 h).LE (fun X C hm => ?_)
  unfold C_J12_copyOf_2
  refine v_iload_n C dJ12_copyOf_2_0 1 rfl ?_
  refine v_aload_n C dJ12_copyOf_2_1 0 rfl ?_
  refine g_alen (kd := 1) (fun _ => rfl) C dJ12_copyOf_2_2 (fun y1 hy1 => ?_)
  refine v_icmp_ne C (tgt := 14) dJ12_copyOf_2_3 rfl (fun _ => ?_) (fun _ => ?_)
  · refine v_aload_n C dJ12_copyOf_2_6 0 rfl ?_
    exact VF.none
  · refine v_iload_n C dJ12_copyOf_2_14 1 rfl ?_
    refine g_naJ C dJ12_copyOf_2_15 q998 (fun r2 hr2 => ?_)
    refine v_astore_n C (lv' := [(2, .ref (r2.1)), (0, .ref x0), (1, .int x1)]) dJ12_copyOf_2_17 (Nat.le_of_ble_eq_true rfl) rfl ?_
    refine v_aload_n C dJ12_copyOf_2_18 1 rfl ?_
    refine v_iconst C dJ12_copyOf_2_19 ci_0 ?_
    refine v_aload_n C dJ12_copyOf_2_20 0 rfl ?_
    refine v_iconst C dJ12_copyOf_2_21 ci_0 ?_
    refine v_aload_n C dJ12_copyOf_2_22 1 rfl ?_
    refine g_alen (kd := 1) (fun _ => rfl) C dJ12_copyOf_2_23 (fun y3 hy3 => ?_)
    refine v_iload_n C dJ12_copyOf_2_24 2 rfl ?_
    refine g_mmin C dJ12_copyOf_2_25 q379 q211 q108 q212 (Nat.le_of_ble_eq_true rfl) (Nat.le_of_ble_eq_true rfl) ?_
    refine g_cpJ C dJ12_copyOf_2_28 lkC_J12_150 (Nat.le_of_ble_eq_true rfl) (Nat.le_of_ble_eq_true rfl) (fun S4 hS4 => ?_)
    refine v_aload_n C dJ12_copyOf_2_31 0 rfl ?_
    exact v_areturn C hm dJ12_copyOf_2_32 (Or.inr ⟨_, rfl⟩) (Or.inr ⟨_, rfl⟩) rfl
theorem mono_J12_copyOf_4 {S : St} {x0 : Nat} {x1 : Int32} {x2 : Nat} {r : Nat × St} (h : C_J12_copyOf_4 S x0 x1 x2 = some r) : leG S r.2 := by
  have q : MF mf_p (C_J12_copyOf_4 S x0 x1 x2) S := by
    unfold C_J12_copyOf_4
    exact mf_none
  exact q r h
theorem met_J12_copyOf_4 {P : GP} {l : Launch} (hO : okG P) (S : St) (x0 : Nat) (x1 : Int32) (x2 : Nat) {r : Nat × St} (h : C_J12_copyOf_4 S x0 x1 x2 = some r) : FM l (OG P) yJ12_copyOf_4 (ws_ yJ12_copyOf_4 cJ12_copyOf_4 4 (some (.array (.object "java/lang/Object")))) 1 34 [.ref x0, .int x1, .ref x2] S (f_ma r) := by
  refine FM.of (own := RJ12) (lv := [(0, .ref x0), (1, .int x1), (2, .ref x2)]) (OG_ok P hO) pl_J12 rfl (Nat.le_of_ble_eq_true rfl) rfl h (mono_J12_copyOf_4 h).LE (fun X C hm => ?_)
  unfold C_J12_copyOf_4
  refine v_aload_n C dJ12_copyOf_4_0 2 rfl ?_
  exact VF.none
theorem mono_J12_copyOf_3 {S : St} {x0 : Nat} {x1 : Int32} {r : Nat × St} (h : C_J12_copyOf_3 S x0 x1 = some r) : leG S r.2 := by
  have q : MF mf_p (C_J12_copyOf_3 S x0 x1) S := by
    unfold C_J12_copyOf_3
    exact mf_none
  exact q r h
theorem met_J12_copyOf_3 {P : GP} {l : Launch} (hO : okG P) (S : St) (x0 : Nat) (x1 : Int32) {r : Nat × St} (h : C_J12_copyOf_3 S x0 x1 = some r) : FM l (OG P) yJ12_copyOf_3 (ws_ yJ12_copyOf_3 cJ12_copyOf_3 2 (some (.array (.object "java/lang/Object")))) 2 57 [.ref x0, .int x1] S (f_ma r) := by
  refine FM.of (own := RJ12) (lv := [(0, .ref x0), (1, .int x1)]) (OG_ok P hO) pl_J12 rfl (Nat.le_of_ble_eq_true rfl) rfl h (mono_J12_copyOf_3 h).LE (fun X C hm => ?_)
  unfold C_J12_copyOf_3
  refine v_aload_n C dJ12_copyOf_3_0 0 rfl ?_
  refine v_iload_n C dJ12_copyOf_3_1 1 rfl ?_
  refine v_aload_n C dJ12_copyOf_3_2 0 rfl ?_
  exact VF.none
theorem mono_J15_init {S : St} {x0 : Nat} {r : St} (h : C_J15_init S x0 = some r) : leG S r := by
  have q : MF mf_s (C_J15_init S x0) S := by
    unfold C_J15_init
    refine mf_bind (fun r1 hr1 => ?_)
    refine mf_put (fun S2 hS2 => ?_)
    exact mf_ret leG.rf
  exact q r h
theorem met_J15_init {P : GP} {l : Launch} (hO : okG P) (S : St) (x0 : Nat) {r : St} (h : C_J15_init S x0 = some r) : FM l (OG P) yJ15_init (ws_ yJ15_init cJ15_init 1 none) 2 54 [.ref x0] S (f_mv r) := by
  refine FM.ofI (own := RJ15) (lv := [(0, .ref x0)]) hO pl_J15 rfl rfl (Nat.le_of_ble_eq_true rfl) rfl h (mono_J15_init h).LE (fun X C hm hin2 => ?_)
  unfold C_J15_init
  refine v_aload_n C dJ15_init_0 0 rfl ?_
  refine v_callI_rv C (As := []) (st := []) lk_J15_1 dJ15_init_1 rfl (Nat.le_of_ble_eq_true rfl) (Nat.le_of_ble_eq_true rfl) (Nat.le_of_ble_eq_true rfl) (fun _ z => met_J1_init hO S x0 z) (fun r1 hr1 => ?_)
  refine v_aload_n C dJ15_init_4 0 rfl ?_
  refine v_iconst C dJ15_init_5 ci_0 ?_
  refine g_putV C dJ15_init_6 cls_13 (Nat.le_of_ble_eq_true rfl) fl_J15_7 fs_J15_7 rfl rfl rfl (fun S2 hS2 => ?_)
  exact v_vreturn C hm dJ15_init_9 rfl
theorem met_J17_isPositionIndex {P : GP} {l : Launch} (hO : okG P) (S : St) (x0 : Nat) (x1 : Int32) {r : Int32} (h : C_J17_isPositionIndex S x0 x1 = some r) : FM l (OG P) yJ17_isPositionIndex (ws_ yJ17_isPositionIndex cJ17_isPositionIndex 2 (some .boolean)) 0 0 [.ref x0, .int x1] S ((f_ri S) r) := by
  refine FM.of (own := RJ17) (lv := [(0, .ref x0), (1, .int x1)]) (OG_ok P hO) pl_J17 rfl (Nat.le_of_ble_eq_true rfl) rfl h LE.rf (fun X C hm => ?_)
  unfold C_J17_isPositionIndex
  refine VF.bind (fun _ _ => ?_)
  refine v_iload_n C dJ17_isPositionIndex_0 1 rfl ?_
  refine v_if_lt C (tgt := 16) dJ17_isPositionIndex_1 rfl (fun _ => ?_) (fun _ => ?_)
  · refine v_iconst C dJ17_isPositionIndex_16 ci_0 ?_
    exact v_zreturn C hm dJ17_isPositionIndex_17 (Or.inl rfl) rfl
  · refine v_iload_n C dJ17_isPositionIndex_4 1 rfl ?_
    refine v_aload_n C dJ17_isPositionIndex_5 0 rfl ?_
    refine g_getI C dJ17_isPositionIndex_6 cls_13 (Nat.le_of_ble_eq_true rfl) fl_J17_7 fs_J17_7 (fun y1 hy1 => ?_)
    refine v_icmp_gt C (tgt := 16) dJ17_isPositionIndex_9 rfl (fun _ => ?_) (fun _ => ?_)
    · refine v_iconst C dJ17_isPositionIndex_16 ci_0 ?_
      exact v_zreturn C hm dJ17_isPositionIndex_17 (Or.inl rfl) rfl
    · refine v_iconst C dJ17_isPositionIndex_12 ci_1 ?_
      refine v_goto C (tgt := 17) dJ17_isPositionIndex_13 rfl ?_
      exact v_zreturn C hm dJ17_isPositionIndex_17 (Or.inr rfl) rfl
theorem mono_J17_outOfBoundsMsg {F : Nat} {S : St} {x0 : Nat} {x1 : Int32} {r : Nat × St} (h : C_J17_outOfBoundsMsg F S x0 x1 = some r) : leG S r.2 := by
  have q : MF mf_p (C_J17_outOfBoundsMsg F S x0 x1) S := by
    unfold C_J17_outOfBoundsMsg
    refine mf_bind (fun _ _ => ?_)
    refine mf_new (fun r1 hr1 => ?_)
    refine mf_callv (fun _ z => mono_J4_init z) (fun r2 hr2 => ?_)
    exact mf_none
  exact q r h
theorem met_J17_outOfBoundsMsg {P : GP} {l : Launch} (hO : okG P) (F : Nat) (S : St) (x0 : Nat) (x1 : Int32) {r : Nat × St} (h : C_J17_outOfBoundsMsg F S x0 x1 = some r) : FM l (OG P) yJ17_outOfBoundsMsg (ws_ yJ17_outOfBoundsMsg cJ17_outOfBoundsMsg 2 (some (.object "java/lang/String"))) 7 169 [.ref x0, .int x1] S (f_ma r) := by
  refine FM.of (own := RJ17) (lv := [(0, .ref x0), (1, .int x1)]) (OG_ok P hO) pl_J17 rfl (Nat.le_of_ble_eq_true rfl) rfl h (mono_J17_outOfBoundsMsg h).LE (fun X C hm => ?_)
  unfold C_J17_outOfBoundsMsg
  refine VF.bind (fun _ _ => ?_)
  refine g_new C dJ17_outOfBoundsMsg_0 cls_12 q1466 q259 q112 dfok_12 (fun r1 hr1 => ?_)
  refine v_dup C dJ17_outOfBoundsMsg_3 rfl ?_
  refine v_callI_mv C (As := []) (st := [.ref (r1.1)]) lk_J17_99 dJ17_outOfBoundsMsg_4 rfl (Nat.le_of_ble_eq_true rfl) (Nat.le_of_ble_eq_true rfl) (Nat.le_of_ble_eq_true rfl) (fun _ z => met_J4_init hO r1.2 (r1.1) z) (fun r2 hr2 => ?_)
  exact VF.none
theorem mono_J17_checkPositionIndex {F : Nat} {S : St} {x0 : Nat} {x1 : Int32} {r : St} (h : C_J17_checkPositionIndex F S x0 x1 = some r) : leG S r := by
  have q : MF mf_s (C_J17_checkPositionIndex F S x0 x1) S := by
    unfold C_J17_checkPositionIndex
    refine mf_bind (fun _ _ => ?_)
    refine mf_bind (fun r1 hr1 => ?_)
    refine mf_ite ?_ ?_
    · exact mf_none
    · exact mf_ret leG.rf
  exact q r h
theorem met_J17_checkPositionIndex {P : GP} {l : Launch} (hO : okG P) (F : Nat) (S : St) (x0 : Nat) (x1 : Int32) {r : St} (h : C_J17_checkPositionIndex F S x0 x1 = some r) : FM l (OG P) yJ17_checkPositionIndex (ws_ yJ17_checkPositionIndex cJ17_checkPositionIndex 2 none) 8 190 [.ref x0, .int x1] S (f_mv r) := by
  refine FM.of (own := RJ17) (lv := [(0, .ref x0), (1, .int x1)]) (OG_ok P hO) pl_J17 rfl (Nat.le_of_ble_eq_true rfl) rfl h (mono_J17_checkPositionIndex h).LE (fun X C hm => ?_)
  unfold C_J17_checkPositionIndex
  refine VF.bind (fun _ _ => ?_)
  refine v_aload_n C dJ17_checkPositionIndex_0 0 rfl ?_
  refine v_iload_n C dJ17_checkPositionIndex_1 1 rfl ?_
  refine g_callV_ri C (As := [.int x1]) (st := []) lk_J17_128 dJ17_checkPositionIndex_2 rfl (Nat.le_of_ble_eq_true rfl) (Nat.le_of_ble_eq_true rfl) (Nat.le_of_ble_eq_true rfl) cls_13.1 rfl (fun _ z => rc_J17_isPositionIndex z) (fun _ z => met_J17_isPositionIndex hO S x0 x1 z) (fun r1 hr1 => ?_)
  refine v_if_ne C (tgt := 21) dJ17_checkPositionIndex_5 rfl (fun _ => ?_) (fun _ => ?_)
  · exact VF.none
  · exact v_vreturn C hm dJ17_checkPositionIndex_21 rfl
theorem w_J17_node_17 {P : GP} {X : Ctx} {l : Launch} {F : Nat} {S : St} (hO : okG P) (C : CX (OG P) X l cJ17_node 4 RJ17 (some (.object "java/util/LinkedList$Node"))) (hm : X.2.2.2.2.2.2.2.2.2 = none) {x1 : Int32}  : ∀ (n : Nat) (x2 : (Option Nat)) (x3 : Int32), VF (OG P) X 4 0 0 S (f_ra S) (C_J17_node_17 F S x1 n x2 x3) S 17 [(1, .int x1), (2, va_rf x2), (3, .int x3)] [] := by
  intro n
  induction n with
  | zero => intro x2 x3; exact VF.none
  | succ n ih =>
    intro x2 x3
    unfold C_J17_node_17
    refine v_iload_n C dJ17_node_17 2 rfl ?_
    refine v_iload_n C dJ17_node_18 0 rfl ?_
    refine v_icmp_ge C (tgt := 33) dJ17_node_19 rfl (fun _ => ?_) (fun _ => ?_)
    · refine g_aload_nQ C dJ17_node_33 1 rfl ?_
      refine VF.bind (fun a10 ha10 => ?_)
      subst ha10
      exact v_areturn C hm dJ17_node_34 (Or.inl ⟨_, rfl⟩) (Or.inr ⟨_, rfl⟩) rfl
    · refine g_aload_nQ C dJ17_node_22 1 rfl ?_
      refine VF.bind (fun a11 ha11 => ?_)
      subst ha11
      refine g_getQ C dJ17_node_23 cls_14 (Nat.le_of_ble_eq_true rfl) fl_J17_36 fs_J17_36 (fun y12 hy12 => ?_)
      refine g_astore_nQ C (lv' := [(2, va_rf y12), (1, .int x1), (3, .int x3)]) dJ17_node_26 (Nat.le_of_ble_eq_true rfl) rfl ?_
      refine v_iincN C (lv' := fun y13 => [(3, .int y13), (2, va_rf y12), (1, .int x1)]) dJ17_node_27 2 rfl ci_1 (Nat.le_of_ble_eq_true rfl) (fun _ => (by cases y12 <;> rfl)) (fun y13 hy13 => ?_)
      refine v_goto C (tgt := 17) dJ17_node_30 rfl ?_
      exact v_sub [2, 1, 0] rfl (ih y12 y13)
theorem w_J17_node_47 {P : GP} {X : Ctx} {l : Launch} {F : Nat} {S : St} (hO : okG P) (C : CX (OG P) X l cJ17_node 4 RJ17 (some (.object "java/util/LinkedList$Node"))) (hm : X.2.2.2.2.2.2.2.2.2 = none) {x1 : Int32}  : ∀ (n : Nat) (x2 : (Option Nat)) (x3 : Int32), VF (OG P) X 4 0 0 S (f_ra S) (C_J17_node_47 F S x1 n x2 x3) S 47 [(1, .int x1), (2, va_rf x2), (3, .int x3)] [] := by
  intro n
  induction n with
  | zero => intro x2 x3; exact VF.none
  | succ n ih =>
    intro x2 x3
    unfold C_J17_node_47
    refine v_iload_n C dJ17_node_47 2 rfl ?_
    refine v_iload_n C dJ17_node_48 0 rfl ?_
    refine v_icmp_le C (tgt := 63) dJ17_node_49 rfl (fun _ => ?_) (fun _ => ?_)
    · refine g_aload_nQ C dJ17_node_63 1 rfl ?_
      refine VF.bind (fun a6 ha6 => ?_)
      subst ha6
      exact v_areturn C hm dJ17_node_64 (Or.inl ⟨_, rfl⟩) (Or.inr ⟨_, rfl⟩) rfl
    · refine g_aload_nQ C dJ17_node_52 1 rfl ?_
      refine VF.bind (fun a7 ha7 => ?_)
      subst ha7
      refine g_getQ C dJ17_node_53 cls_14 (Nat.le_of_ble_eq_true rfl) fl_J17_30 fs_J17_30 (fun y8 hy8 => ?_)
      refine g_astore_nQ C (lv' := [(2, va_rf y8), (1, .int x1), (3, .int x3)]) dJ17_node_56 (Nat.le_of_ble_eq_true rfl) rfl ?_
      refine v_iincN C (lv' := fun y9 => [(3, .int y9), (2, va_rf y8), (1, .int x1)]) dJ17_node_57 2 rfl ci_m1 (Nat.le_of_ble_eq_true rfl) (fun _ => (by cases y8 <;> rfl)) (fun y9 hy9 => ?_)
      refine v_goto C (tgt := 47) dJ17_node_60 rfl ?_
      exact v_sub [2, 1, 0] rfl (ih y8 y9)
theorem met_J17_node {P : GP} {l : Launch} (hO : okG P) (F : Nat) (S : St) (x0 : Nat) (x1 : Int32) {r : Nat} (h : C_J17_node F S x0 x1 = some r) : FM l (OG P) yJ17_node (ws_ yJ17_node cJ17_node 4 (some (.object "java/util/LinkedList$Node"))) 0 0 [.ref x0, .int x1] S ((f_ra S) r) := by
  refine FM.of (own := RJ17) (lv := [(0, .ref x0), (1, .int x1)]) (OG_ok P hO) pl_J17 rfl (Nat.le_of_ble_eq_true rfl) rfl h LE.rf (fun X C hm => ?_)
  unfold C_J17_node
  refine VF.bind (fun _ _ => ?_)
  refine v_iload_n C dJ17_node_0 1 rfl ?_
  refine v_aload_n C dJ17_node_1 0 rfl ?_
  refine g_getI C dJ17_node_2 cls_13 (Nat.le_of_ble_eq_true rfl) fl_J17_7 fs_J17_7 (fun y1 hy1 => ?_)
  refine v_iconst C dJ17_node_5 ci_1 ?_
  refine v_ishr C dJ17_node_6 ?_
  refine v_icmp_ge C (tgt := 35) dJ17_node_7 rfl (fun _ => ?_) (fun _ => ?_)
  · refine v_aload_n C dJ17_node_35 0 rfl ?_
    refine g_getQ C dJ17_node_36 cls_13 (Nat.le_of_ble_eq_true rfl) fl_J17_27 fs_J17_27 (fun y2 hy2 => ?_)
    refine g_astore_nQ C (lv' := [(2, va_rf y2), (0, .ref x0), (1, .int x1)]) dJ17_node_39 (Nat.le_of_ble_eq_true rfl) rfl ?_
    refine v_aload_n C dJ17_node_40 1 rfl ?_
    refine g_getI C dJ17_node_41 cls_13 (Nat.le_of_ble_eq_true rfl) fl_J17_7 fs_J17_7 (fun y3 hy3 => ?_)
    refine v_iconst C dJ17_node_44 ci_1 ?_
    refine v_isub C dJ17_node_45 ?_
    refine v_leti (fun y4 hy4 => ?_)
    refine v_istore_n C (lv' := [(3, .int y4), (2, va_rf y2), (0, .ref x0), (1, .int x1)]) dJ17_node_46 (Nat.le_of_ble_eq_true rfl) (by cases y2 <;> rfl) ?_
    exact v_sub [3, 1, 0] rfl (w_J17_node_47 hO C hm F y2 y4)
  · refine v_aload_n C dJ17_node_10 0 rfl ?_
    refine g_getQ C dJ17_node_11 cls_13 (Nat.le_of_ble_eq_true rfl) fl_J17_18 fs_J17_18 (fun y5 hy5 => ?_)
    refine g_astore_nQ C (lv' := [(2, va_rf y5), (0, .ref x0), (1, .int x1)]) dJ17_node_14 (Nat.le_of_ble_eq_true rfl) rfl ?_
    refine v_iconst C dJ17_node_15 ci_0 ?_
    refine v_istore_n C (lv' := [(3, .int 0), (2, va_rf y5), (0, .ref x0), (1, .int x1)]) dJ17_node_16 (Nat.le_of_ble_eq_true rfl) (by cases y5 <;> rfl) ?_
    exact v_sub [3, 1, 0] rfl (w_J17_node_17 hO C hm F y5 0)
theorem o_J24_init_38 {F : Nat} {x0 : Nat} {x2 : Int32}  (s0 : Nat) (s1 : (Option Nat)) (S : St) : MF mf_s (C_J24_init_38 F x0 x2 s0 s1 S) S := by
  unfold C_J24_init_38
  refine mf_put (fun S7 hS7 => ?_)
  refine mf_put (fun S8 hS8 => ?_)
  exact mf_ret leG.rf
theorem mono_J24_init {F : Nat} {S : St} {x0 : Nat} {x1 : Nat} {x2 : Int32} {r : St} (h : C_J24_init F S x0 x1 x2 = some r) : leG S r := by
  have q : MF mf_s (C_J24_init F S x0 x1 x2) S := by
    unfold C_J24_init
    refine mf_put (fun S1 hS1 => ?_)
    refine mf_bind (fun y2 hy2 => ?_)
    refine mf_bind (fun y3 hy3 => ?_)
    refine mf_put (fun S4 hS4 => ?_)
    refine mf_bind (fun y5 hy5 => ?_)
    refine mf_ite ?_ ?_
    · exact (o_J24_init_38 x0 none S4)
    · refine mf_bind (fun r6 hr6 => ?_)
      exact (o_J24_init_38 x0 (some r6) S4)
  exact q r h
theorem w_J24_init_38 {P : GP} {X : Ctx} {l : Launch} {S0 : St} {F : Nat} (hO : okG P) (C : CX (OG P) X l cJ24_init 3 RJ24 none) (hm : X.2.2.2.2.2.2.2.2.2 = none) (hin2 : X.2.2.2.2.2.2.2.1.name = "<init>") {x0 : Nat} {x2 : Int32}  (s0 : Nat) (s1 : (Option Nat)) (S : St) : VF (OG P) X 3 1 34 S0 f_mv (C_J24_init_38 F x0 x2 s0 s1 S) S 38 [(0, .ref x0), (2, .int x2)] [va_rf s1, .ref s0] := by
  unfold C_J24_init_38
  refine g_putV C dJ24_init_38 cls_15 (Nat.le_of_ble_eq_true rfl) fl_J24_29 fs_J24_29 rfl (by cases s1 <;> rfl) (by cases s1 <;> rfl) (fun S7 hS7 => ?_)
  refine v_aload_n C dJ24_init_41 0 rfl ?_
  refine v_iload_n C dJ24_init_42 1 rfl ?_
  refine g_putV C dJ24_init_43 cls_15 (Nat.le_of_ble_eq_true rfl) fl_J24_33 fs_J24_33 rfl rfl rfl (fun S8 hS8 => ?_)
  exact v_vreturn C hm dJ24_init_46 rfl
theorem met_J24_init {P : GP} {l : Launch} (hO : okG P) (F : Nat) (S : St) (x0 : Nat) (x1 : Nat) (x2 : Int32) {r : St} (h : C_J24_init F S x0 x1 x2 = some r) : FM l (OG P) yJ24_init (ws_ yJ24_init cJ24_init 3 none) 1 34 [.ref x0, .ref x1, .int x2] S (f_mv r) := by
  refine FM.ofI (own := RJ24) (lv := [(0, .ref x0), (1, .ref x1), (2, .int x2)]) hO pl_J24 rfl rfl (Nat.le_of_ble_eq_true rfl) rfl h (mono_J24_init h).LE (fun X C hm hin2 => ?_)
  unfold C_J24_init
  refine v_aload_n C dJ24_init_0 0 rfl ?_
  refine v_aload_n C dJ24_init_1 1 rfl ?_
  refine g_putFV C hin2 dJ24_init_2 cls_15 (Nat.le_of_ble_eq_true rfl) q1488 rfl rfl rfl rfl (fun S1 hS1 => ?_)
  refine v_aload_n C dJ24_init_5 0 rfl ?_
  refine g_objInit C dJ24_init_6 lkO_J24_7 (Nat.le_of_ble_eq_true rfl) (Nat.le_of_ble_eq_true rfl) ?_
  refine v_aload_n C dJ24_init_9 0 rfl ?_
  refine v_aload_n C dJ24_init_10 0 rfl ?_
  refine g_getA C dJ24_init_11 cls_15 (Nat.le_of_ble_eq_true rfl) fl_J24_1 fs_J24_1 (fun y2 hy2 => ?_)
  refine g_getI C dJ24_init_14 cls_13 (Nat.le_of_ble_eq_true rfl) fl_J24_13 fs_J24_13 (fun y3 hy3 => ?_)
  refine g_putV C dJ24_init_17 cls_15 (Nat.le_of_ble_eq_true rfl) fl_J24_19 fs_J24_19 rfl rfl rfl (fun S4 hS4 => ?_)
  refine v_aload_n C dJ24_init_20 0 rfl ?_
  refine v_iload_n C dJ24_init_21 2 rfl ?_
  refine v_aload_n C dJ24_init_22 1 rfl ?_
  refine g_getI C dJ24_init_23 cls_13 (Nat.le_of_ble_eq_true rfl) fl_J24_22 fs_J24_22 (fun y5 hy5 => ?_)
  refine v_icmp_ne C (tgt := 33) dJ24_init_26 rfl (fun _ => ?_) (fun _ => ?_)
  · refine g_null C dJ24_init_29 ?_
    refine v_goto C (tgt := 38) dJ24_init_30 rfl ?_
    exact v_sub [0, 2] rfl (w_J24_init_38 hO C hm hin2 x0 none S4)
  · refine v_aload_n C dJ24_init_33 1 rfl ?_
    refine v_iload_n C dJ24_init_34 2 rfl ?_
    refine g_callV_ra C (As := [.int x2]) (st := [.ref x0]) lk_J24_25 dJ24_init_35 rfl (Nat.le_of_ble_eq_true rfl) (Nat.le_of_ble_eq_true rfl) (Nat.le_of_ble_eq_true rfl) cls_13.1 rfl (fun _ z => rc_J17_node z) (fun _ z => met_J17_node hO F S4 x1 x2 z) (fun r6 hr6 => ?_)
    exact v_sub [0, 2] rfl (w_J24_init_38 hO C hm hin2 x0 (some r6) S4)
theorem mono_J17_listIterator {F : Nat} {S : St} {x0 : Nat} {x1 : Int32} {r : Nat × St} (h : C_J17_listIterator F S x0 x1 = some r) : leG S r.2 := by
  have q : MF mf_p (C_J17_listIterator F S x0 x1) S := by
    unfold C_J17_listIterator
    refine mf_bind (fun _ _ => ?_)
    refine mf_callv (fun _ z => mono_J17_checkPositionIndex z) (fun r1 hr1 => ?_)
    refine mf_new (fun r2 hr2 => ?_)
    refine mf_callv (fun _ z => mono_J24_init z) (fun r3 hr3 => ?_)
    exact mf_ret leG.rf
  exact q r h
theorem met_J17_listIterator {P : GP} {l : Launch} (hO : okG P) (F : Nat) (S : St) (x0 : Nat) (x1 : Int32) {r : Nat × St} (h : C_J17_listIterator F S x0 x1 = some r) : FM l (OG P) yJ17_listIterator (ws_ yJ17_listIterator cJ17_listIterator 2 (some (.object "java/util/ListIterator"))) 9 211 [.ref x0, .int x1] S (f_ma r) := by
  refine FM.of (own := RJ17) (lv := [(0, .ref x0), (1, .int x1)]) (OG_ok P hO) pl_J17 rfl (Nat.le_of_ble_eq_true rfl) rfl h (mono_J17_listIterator h).LE (fun X C hm => ?_)
  unfold C_J17_listIterator
  refine VF.bind (fun _ _ => ?_)
  refine v_aload_n C dJ17_listIterator_0 0 rfl ?_
  refine v_iload_n C dJ17_listIterator_1 1 rfl ?_
  refine g_callV_mv C (As := [.int x1]) (st := []) lk_J17_76 dJ17_listIterator_2 rfl (Nat.le_of_ble_eq_true rfl) (Nat.le_of_ble_eq_true rfl) (Nat.le_of_ble_eq_true rfl) cls_13.1 rfl (fun _ z => rc_J17_checkPositionIndex z) (fun _ z => met_J17_checkPositionIndex hO F S x0 x1 z) (fun r1 hr1 => ?_)
  refine g_new C dJ17_listIterator_5 cls_15 q1474 q1475 q137 dfok_15 (fun r2 hr2 => ?_)
  refine v_dup C dJ17_listIterator_8 rfl ?_
  refine v_aload_n C dJ17_listIterator_9 0 rfl ?_
  refine v_iload_n C dJ17_listIterator_10 1 rfl ?_
  refine v_callI_mv C (As := [.ref x0, .int x1]) (st := [.ref (r2.1)]) lk_J17_152 dJ17_listIterator_11 rfl (Nat.le_of_ble_eq_true rfl) (Nat.le_of_ble_eq_true rfl) (Nat.le_of_ble_eq_true rfl) (fun _ z => met_J24_init hO F r2.2 (r2.1) x0 x1 z) (fun r3 hr3 => ?_)
  exact v_areturn C hm dJ17_listIterator_14 (Or.inl ⟨_, rfl⟩) (Or.inr ⟨_, rfl⟩) rfl
theorem mono_J15_listIterator {F : Nat} {S : St} {x0 : Nat} {r : Nat × St} (h : C_J15_listIterator F S x0 = some r) : leG S r.2 := by
  have q : MF mf_p (C_J15_listIterator F S x0) S := by
    unfold C_J15_listIterator
    refine mf_bind (fun _ _ => ?_)
    refine mf_call (fun _ z => mono_J17_listIterator z) (fun r1 hr1 => ?_)
    exact mf_ret leG.rf
  exact q r h
theorem met_J15_listIterator {P : GP} {l : Launch} (hO : okG P) (F : Nat) (S : St) (x0 : Nat) {r : Nat × St} (h : C_J15_listIterator F S x0 = some r) : FM l (OG P) yJ15_listIterator (ws_ yJ15_listIterator cJ15_listIterator 1 (some (.object "java/util/ListIterator"))) 10 232 [.ref x0] S (f_ma r) := by
  refine FM.of (own := RJ15) (lv := [(0, .ref x0)]) (OG_ok P hO) pl_J15 rfl (Nat.le_of_ble_eq_true rfl) rfl h (mono_J15_listIterator h).LE (fun X C hm => ?_)
  unfold C_J15_listIterator
  refine VF.bind (fun _ _ => ?_)
  refine v_aload_n C dJ15_listIterator_0 0 rfl ?_
  refine v_iconst C dJ15_listIterator_1 ci_0 ?_
  refine g_callU_ma C (As := [.int 0]) (st := []) lk_J15_47 dJ15_listIterator_2 rfl (Nat.le_of_ble_eq_true rfl) (Nat.le_of_ble_eq_true rfl) (Nat.le_of_ble_eq_true rfl) cls_13.1 (fun _ z => rc_J17_listIterator z) (fun _ z => met_J17_listIterator hO F S x0 0 z) (fun r1 hr1 => ?_)
  exact v_areturn C hm dJ15_listIterator_5 (Or.inl ⟨_, rfl⟩) (Or.inr ⟨_, rfl⟩) rfl
theorem mono_J16_init {S : St} {x0 : Nat} {r : St} (h : C_J16_init S x0 = some r) : leG S r := by
  have q : MF mf_s (C_J16_init S x0) S := by
    unfold C_J16_init
    refine mf_callv (fun _ z => mono_J15_init z) (fun r1 hr1 => ?_)
    exact mf_ret leG.rf
  exact q r h
theorem met_J16_init {P : GP} {l : Launch} (hO : okG P) (S : St) (x0 : Nat) {r : St} (h : C_J16_init S x0 = some r) : FM l (OG P) yJ16_init (ws_ yJ16_init cJ16_init 1 none) 3 74 [.ref x0] S (f_mv r) := by
  refine FM.ofI (own := RJ16) (lv := [(0, .ref x0)]) hO pl_J16 rfl rfl (Nat.le_of_ble_eq_true rfl) rfl h (mono_J16_init h).LE (fun X C hm hin2 => ?_)
  unfold C_J16_init
  refine v_aload_n C dJ16_init_0 0 rfl ?_
  refine v_callI_mv C (As := []) (st := []) lk_J16_1 dJ16_init_1 rfl (Nat.le_of_ble_eq_true rfl) (Nat.le_of_ble_eq_true rfl) (Nat.le_of_ble_eq_true rfl) (fun _ z => met_J15_init hO S x0 z) (fun r1 hr1 => ?_)
  exact v_vreturn C hm dJ16_init_4 rfl
theorem mono_J16_iterator {F : Nat} {S : St} {x0 : Nat} {r : Nat × St} (h : C_J16_iterator F S x0 = some r) : leG S r.2 := by
  have q : MF mf_p (C_J16_iterator F S x0) S := by
    unfold C_J16_iterator
    refine mf_bind (fun _ _ => ?_)
    refine mf_call (fun _ z => mono_J15_listIterator z) (fun r1 hr1 => ?_)
    exact mf_ret leG.rf
  exact q r h
theorem met_J16_iterator {P : GP} {l : Launch} (hO : okG P) (F : Nat) (S : St) (x0 : Nat) {r : Nat × St} (h : C_J16_iterator F S x0 = some r) : FM l (OG P) yJ16_iterator (ws_ yJ16_iterator cJ16_iterator 1 (some (.object "java/util/Iterator"))) 11 252 [.ref x0] S (f_ma r) := by
  refine FM.of (own := RJ16) (lv := [(0, .ref x0)]) (OG_ok P hO) pl_J16 rfl (Nat.le_of_ble_eq_true rfl) rfl h (mono_J16_iterator h).LE (fun X C hm => ?_)
  unfold C_J16_iterator
  refine VF.bind (fun _ _ => ?_)
  refine v_aload_n C dJ16_iterator_0 0 rfl ?_
  refine g_callU_ma C (As := []) (st := []) lk_J16_65 dJ16_iterator_1 rfl (Nat.le_of_ble_eq_true rfl) (Nat.le_of_ble_eq_true rfl) (Nat.le_of_ble_eq_true rfl) cls_13.1 (fun _ z => rc_J15_listIterator z) (fun _ z => met_J15_listIterator hO F S x0 z) (fun r1 hr1 => ?_)
  exact v_areturn C hm dJ16_iterator_4 (Or.inl ⟨_, rfl⟩) (Or.inr ⟨_, rfl⟩) rfl
theorem mono_J17_init {S : St} {x0 : Nat} {r : St} (h : C_J17_init S x0 = some r) : leG S r := by
  have q : MF mf_s (C_J17_init S x0) S := by
    unfold C_J17_init
    refine mf_callv (fun _ z => mono_J16_init z) (fun r1 hr1 => ?_)
    refine mf_put (fun S2 hS2 => ?_)
    exact mf_ret leG.rf
  exact q r h
theorem met_J17_init {P : GP} {l : Launch} (hO : okG P) (S : St) (x0 : Nat) {r : St} (h : C_J17_init S x0 = some r) : FM l (OG P) yJ17_init (ws_ yJ17_init cJ17_init 1 none) 4 94 [.ref x0] S (f_mv r) := by
  refine FM.ofI (own := RJ17) (lv := [(0, .ref x0)]) hO pl_J17 rfl rfl (Nat.le_of_ble_eq_true rfl) rfl h (mono_J17_init h).LE (fun X C hm hin2 => ?_)
  unfold C_J17_init
  refine v_aload_n C dJ17_init_0 0 rfl ?_
  refine v_callI_mv C (As := []) (st := []) lk_J17_1 dJ17_init_1 rfl (Nat.le_of_ble_eq_true rfl) (Nat.le_of_ble_eq_true rfl) (Nat.le_of_ble_eq_true rfl) (fun _ z => met_J16_init hO S x0 z) (fun r1 hr1 => ?_)
  refine v_aload_n C dJ17_init_4 0 rfl ?_
  refine v_iconst C dJ17_init_5 ci_0 ?_
  refine g_putV C dJ17_init_6 cls_13 (Nat.le_of_ble_eq_true rfl) fl_J17_7 fs_J17_7 rfl rfl rfl (fun S2 hS2 => ?_)
  exact v_vreturn C hm dJ17_init_9 rfl
theorem mono_J18_init {S : St} {x0 : Nat} {x1 : Option Nat} {x2 : Nat} {x3 : Option Nat} {r : St} (h : C_J18_init S x0 x1 x2 x3 = some r) : leG S r := by
  have q : MF mf_s (C_J18_init S x0 x1 x2 x3) S := by
    unfold C_J18_init
    refine mf_put (fun S1 hS1 => ?_)
    refine mf_put (fun S2 hS2 => ?_)
    refine mf_put (fun S3 hS3 => ?_)
    exact mf_ret leG.rf
  exact q r h
theorem met_J18_init {P : GP} {l : Launch} (hO : okG P) (S : St) (x0 : Nat) (x1 : Option Nat) (x2 : Nat) (x3 : Option Nat) {r : St} (h : C_J18_init S x0 x1 x2 x3 = some r) : FM l (OG P) yJ18_init (ws_ yJ18_init cJ18_init 4 none) 1 34 [.ref x0, va_rf x1, .ref x2, va_rf x3] S (f_mv r) := by
  refine FM.ofI (own := RJ18) (lv := [(0, .ref x0), (1, va_rf x1), (2, .ref x2), (3, va_rf x3)]) hO pl_J18 rfl rfl (by cases x1 <;> cases x3 <;> exact Nat.le_of_ble_eq_true rfl) (by cases x1 <;> cases x3 <;> rfl) h (mono_J18_init h).LE (fun X C hm hin2 => ?_)
  unfold C_J18_init
  refine v_aload_n C dJ18_init_0 0 rfl ?_
  refine g_objInit C dJ18_init_1 lkO_J18_1 (Nat.le_of_ble_eq_true rfl) (Nat.le_of_ble_eq_true rfl) ?_
  refine v_aload_n C dJ18_init_4 0 rfl ?_
  refine v_aload_n C dJ18_init_5 2 rfl ?_
  refine g_putV C dJ18_init_6 cls_14 (Nat.le_of_ble_eq_true rfl) fl_J18_7 fs_J18_7 rfl rfl rfl (fun S1 hS1 => ?_)
  refine v_aload_n C dJ18_init_9 0 rfl ?_
  refine g_aload_nQ C dJ18_init_10 3 rfl ?_
  refine g_putV C dJ18_init_11 cls_14 (Nat.le_of_ble_eq_true rfl) fl_J18_13 fs_J18_13 rfl (by cases x3 <;> rfl) (by cases x3 <;> rfl) (fun S2 hS2 => ?_)
  refine v_aload_n C dJ18_init_14 0 rfl ?_
  refine g_aload_nQ C dJ18_init_15 1 rfl ?_
  refine g_putV C dJ18_init_16 cls_14 (Nat.le_of_ble_eq_true rfl) fl_J18_17 fs_J18_17 rfl (by cases x1 <;> rfl) (by cases x1 <;> rfl) (fun S3 hS3 => ?_)
  exact v_vreturn C hm dJ18_init_19 rfl
theorem o_J17_linkLast_38 {x0 : Nat}  (S : St) : MF mf_s (C_J17_linkLast_38 x0 S) S := by
  unfold C_J17_linkLast_38
  refine mf_bind (fun y8 hy8 => ?_)
  refine mf_put (fun S9 hS9 => ?_)
  refine mf_bind (fun y10 hy10 => ?_)
  refine mf_put (fun S11 hS11 => ?_)
  exact mf_ret leG.rf
theorem mono_J17_linkLast {S : St} {x0 : Nat} {x1 : Nat} {r : St} (h : C_J17_linkLast S x0 x1 = some r) : leG S r := by
  have q : MF mf_s (C_J17_linkLast S x0 x1) S := by
    unfold C_J17_linkLast
    refine mf_bind (fun _ _ => ?_)
    refine mf_bind (fun y1 hy1 => ?_)
    refine mf_new (fun r2 hr2 => ?_)
    refine mf_callv (fun _ z => mono_J18_init z) (fun r3 hr3 => ?_)
    refine mf_put (fun S4 hS4 => ?_)
    refine mf_ite ?_ ?_
    · refine mf_put (fun S5 hS5 => ?_)
      exact (o_J17_linkLast_38 S5)
    · refine mf_bind (fun a6 ha6 => ?_)
      refine mf_put (fun S7 hS7 => ?_)
      exact (o_J17_linkLast_38 S7)
  exact q r h
theorem w_J17_linkLast_38 {P : GP} {X : Ctx} {l : Launch} {S0 : St} (hO : okG P) (C : CX (OG P) X l cJ17_linkLast 4 RJ17 none) (hm : X.2.2.2.2.2.2.2.2.2 = none) {x0 : Nat}  (S : St) : VF (OG P) X 4 2 57 S0 f_mv (C_J17_linkLast_38 x0 S) S 38 [(0, .ref x0)] [] := by
  unfold C_J17_linkLast_38
  refine v_aload_n C dJ17_linkLast_38 0 rfl ?_
  refine v_dup C dJ17_linkLast_39 rfl ?_
  refine g_getI C dJ17_linkLast_40 cls_13 (Nat.le_of_ble_eq_true rfl) fl_J17_7 fs_J17_7 (fun y8 hy8 => ?_)
  refine v_iconst C dJ17_linkLast_43 ci_1 ?_
  refine v_iadd C dJ17_linkLast_44 ?_
  refine g_putV C dJ17_linkLast_45 cls_13 (Nat.le_of_ble_eq_true rfl) fl_J17_7 fs_J17_7 rfl rfl rfl (fun S9 hS9 => ?_)
  refine v_aload_n C dJ17_linkLast_48 0 rfl ?_
  refine v_dup C dJ17_linkLast_49 rfl ?_
  refine g_getI C dJ17_linkLast_50 cls_13 (Nat.le_of_ble_eq_true rfl) fl_J17_33 fs_J17_33 (fun y10 hy10 => ?_)
  refine v_iconst C dJ17_linkLast_53 ci_1 ?_
  refine v_iadd C dJ17_linkLast_54 ?_
  refine g_putV C dJ17_linkLast_55 cls_13 (Nat.le_of_ble_eq_true rfl) fl_J17_33 fs_J17_33 rfl rfl rfl (fun S11 hS11 => ?_)
  exact v_vreturn C hm dJ17_linkLast_58 rfl
theorem met_J17_linkLast {P : GP} {l : Launch} (hO : okG P) (S : St) (x0 : Nat) (x1 : Nat) {r : St} (h : C_J17_linkLast S x0 x1 = some r) : FM l (OG P) yJ17_linkLast (ws_ yJ17_linkLast cJ17_linkLast 4 none) 2 57 [.ref x0, .ref x1] S (f_mv r) := by
  refine FM.of (own := RJ17) (lv := [(0, .ref x0), (1, .ref x1)]) (OG_ok P hO) pl_J17 rfl (Nat.le_of_ble_eq_true rfl) rfl h (mono_J17_linkLast h).LE (fun X C hm => ?_)
  unfold C_J17_linkLast
  refine VF.bind (fun _ _ => ?_)
  refine v_aload_n C dJ17_linkLast_0 0 rfl ?_
  refine g_getQ C dJ17_linkLast_1 cls_13 (Nat.le_of_ble_eq_true rfl) fl_J17_27 fs_J17_27 (fun y1 hy1 => ?_)
  refine g_astore_nQ C (lv' := [(2, va_rf y1), (0, .ref x0), (1, .ref x1)]) dJ17_linkLast_4 (Nat.le_of_ble_eq_true rfl) rfl ?_
  refine g_new C dJ17_linkLast_5 cls_14 q1414 q1415 q129 dfok_14 (fun r2 hr2 => ?_)
  refine v_dup C dJ17_linkLast_8 rfl ?_
  refine g_aload_nQ C dJ17_linkLast_9 0 rfl ?_
  refine v_aload_n C dJ17_linkLast_10 2 rfl ?_
  refine g_null C dJ17_linkLast_11 ?_
  refine v_callI_mv C (As := [va_rf y1, .ref x1, va_rf none]) (st := [.ref (r2.1)]) lk_J17_24 dJ17_linkLast_12 rfl (Nat.le_of_ble_eq_true rfl) (Nat.le_of_ble_eq_true rfl) (Nat.le_of_ble_eq_true rfl) (fun _ z => met_J18_init hO r2.2 (r2.1) y1 x1 none z) (fun r3 hr3 => ?_)
  refine v_astore_n C (lv' := [(3, .ref (r2.1)), (2, va_rf y1), (0, .ref x0), (1, .ref x1)]) dJ17_linkLast_15 (Nat.le_of_ble_eq_true rfl) (by cases y1 <;> rfl) ?_
  refine v_aload_n C dJ17_linkLast_16 2 rfl ?_
  refine v_aload_n C dJ17_linkLast_17 0 rfl ?_
  refine g_putV C dJ17_linkLast_18 cls_13 (Nat.le_of_ble_eq_true rfl) fl_J17_27 fs_J17_27 rfl rfl rfl (fun S4 hS4 => ?_)
  refine g_aload_nQ C dJ17_linkLast_21 1 rfl ?_
  refine g_ifnonnull C (tgt := 33) dJ17_linkLast_22 rfl (fun _ => ?_) (fun _ => ?_)
  · refine v_aload_n C dJ17_linkLast_25 2 rfl ?_
    refine v_aload_n C dJ17_linkLast_26 0 rfl ?_
    refine g_putV C dJ17_linkLast_27 cls_13 (Nat.le_of_ble_eq_true rfl) fl_J17_18 fs_J17_18 rfl rfl rfl (fun S5 hS5 => ?_)
    refine v_goto C (tgt := 38) dJ17_linkLast_30 rfl ?_
    exact v_sub [2] rfl (w_J17_linkLast_38 hO C hm S5)
  · refine g_aload_nQ C dJ17_linkLast_33 1 rfl ?_
    refine v_aload_n C dJ17_linkLast_34 0 rfl ?_
    refine VF.bind (fun a6 ha6 => ?_)
    subst ha6
    refine g_putV C dJ17_linkLast_35 cls_14 (Nat.le_of_ble_eq_true rfl) fl_J17_36 fs_J17_36 rfl rfl rfl (fun S7 hS7 => ?_)
    exact v_sub [2] rfl (w_J17_linkLast_38 hO C hm S7)
theorem mono_J17_add {S : St} {x0 : Nat} {x1 : Nat} {r : Int32 × St} (h : C_J17_add S x0 x1 = some r) : leG S r.2 := by
  have q : MF mf_p (C_J17_add S x0 x1) S := by
    unfold C_J17_add
    refine mf_bind (fun _ _ => ?_)
    refine mf_callv (fun _ z => mono_J17_linkLast z) (fun r1 hr1 => ?_)
    exact mf_ret leG.rf
  exact q r h
theorem met_J17_add {P : GP} {l : Launch} (hO : okG P) (S : St) (x0 : Nat) (x1 : Nat) {r : Int32 × St} (h : C_J17_add S x0 x1 = some r) : FM l (OG P) yJ17_add (ws_ yJ17_add cJ17_add 2 (some .boolean)) 3 80 [.ref x0, .ref x1] S (f_mi r) := by
  refine FM.of (own := RJ17) (lv := [(0, .ref x0), (1, .ref x1)]) (OG_ok P hO) pl_J17 rfl (Nat.le_of_ble_eq_true rfl) rfl h (mono_J17_add h).LE (fun X C hm => ?_)
  unfold C_J17_add
  refine VF.bind (fun _ _ => ?_)
  refine v_aload_n C dJ17_add_0 0 rfl ?_
  refine v_aload_n C dJ17_add_1 1 rfl ?_
  refine g_callV_mv C (As := [.ref x1]) (st := []) lk_J17_57 dJ17_add_2 rfl (Nat.le_of_ble_eq_true rfl) (Nat.le_of_ble_eq_true rfl) (Nat.le_of_ble_eq_true rfl) cls_13.1 rfl (fun _ z => rc_J17_linkLast z) (fun _ z => met_J17_linkLast hO S x0 x1 z) (fun r1 hr1 => ?_)
  refine v_iconst C dJ17_add_5 ci_1 ?_
  exact v_zreturn C hm dJ17_add_6 (Or.inr rfl) rfl
theorem met_J17_size {P : GP} {l : Launch} (hO : okG P) (S : St) (x0 : Nat) {r : Int32} (h : C_J17_size S x0 = some r) : FM l (OG P) yJ17_size (ws_ yJ17_size cJ17_size 1 (some .int)) 0 0 [.ref x0] S ((f_ri S) r) := by
  refine FM.of (own := RJ17) (lv := [(0, .ref x0)]) (OG_ok P hO) pl_J17 rfl (Nat.le_of_ble_eq_true rfl) rfl h LE.rf (fun X C hm => ?_)
  unfold C_J17_size
  refine VF.bind (fun _ _ => ?_)
  refine v_aload_n C dJ17_size_0 0 rfl ?_
  refine g_getI C dJ17_size_1 cls_13 (Nat.le_of_ble_eq_true rfl) fl_J17_7 fs_J17_7 (fun y1 hy1 => ?_)
  exact v_ireturn C hm dJ17_size_4 rfl
theorem met_J17_isElementIndex {P : GP} {l : Launch} (hO : okG P) (S : St) (x0 : Nat) (x1 : Int32) {r : Int32} (h : C_J17_isElementIndex S x0 x1 = some r) : FM l (OG P) yJ17_isElementIndex (ws_ yJ17_isElementIndex cJ17_isElementIndex 2 (some .boolean)) 0 0 [.ref x0, .int x1] S ((f_ri S) r) := by
  refine FM.of (own := RJ17) (lv := [(0, .ref x0), (1, .int x1)]) (OG_ok P hO) pl_J17 rfl (Nat.le_of_ble_eq_true rfl) rfl h LE.rf (fun X C hm => ?_)
  unfold C_J17_isElementIndex
  refine VF.bind (fun _ _ => ?_)
  refine v_iload_n C dJ17_isElementIndex_0 1 rfl ?_
  refine v_if_lt C (tgt := 16) dJ17_isElementIndex_1 rfl (fun _ => ?_) (fun _ => ?_)
  · refine v_iconst C dJ17_isElementIndex_16 ci_0 ?_
    exact v_zreturn C hm dJ17_isElementIndex_17 (Or.inl rfl) rfl
  · refine v_iload_n C dJ17_isElementIndex_4 1 rfl ?_
    refine v_aload_n C dJ17_isElementIndex_5 0 rfl ?_
    refine g_getI C dJ17_isElementIndex_6 cls_13 (Nat.le_of_ble_eq_true rfl) fl_J17_7 fs_J17_7 (fun y1 hy1 => ?_)
    refine v_icmp_ge C (tgt := 16) dJ17_isElementIndex_9 rfl (fun _ => ?_) (fun _ => ?_)
    · refine v_iconst C dJ17_isElementIndex_16 ci_0 ?_
      exact v_zreturn C hm dJ17_isElementIndex_17 (Or.inl rfl) rfl
    · refine v_iconst C dJ17_isElementIndex_12 ci_1 ?_
      refine v_goto C (tgt := 17) dJ17_isElementIndex_13 rfl ?_
      exact v_zreturn C hm dJ17_isElementIndex_17 (Or.inr rfl) rfl
theorem mono_J17_checkElementIndex {F : Nat} {S : St} {x0 : Nat} {x1 : Int32} {r : St} (h : C_J17_checkElementIndex F S x0 x1 = some r) : leG S r := by
  have q : MF mf_s (C_J17_checkElementIndex F S x0 x1) S := by
    unfold C_J17_checkElementIndex
    refine mf_bind (fun _ _ => ?_)
    refine mf_bind (fun r1 hr1 => ?_)
    refine mf_ite ?_ ?_
    · exact mf_none
    · exact mf_ret leG.rf
  exact q r h
theorem met_J17_checkElementIndex {P : GP} {l : Launch} (hO : okG P) (F : Nat) (S : St) (x0 : Nat) (x1 : Int32) {r : St} (h : C_J17_checkElementIndex F S x0 x1 = some r) : FM l (OG P) yJ17_checkElementIndex (ws_ yJ17_checkElementIndex cJ17_checkElementIndex 2 none) 8 190 [.ref x0, .int x1] S (f_mv r) := by
  refine FM.of (own := RJ17) (lv := [(0, .ref x0), (1, .int x1)]) (OG_ok P hO) pl_J17 rfl (Nat.le_of_ble_eq_true rfl) rfl h (mono_J17_checkElementIndex h).LE (fun X C hm => ?_)
  unfold C_J17_checkElementIndex
  refine VF.bind (fun _ _ => ?_)
  refine v_aload_n C dJ17_checkElementIndex_0 0 rfl ?_
  refine v_iload_n C dJ17_checkElementIndex_1 1 rfl ?_
  refine g_callV_ri C (As := [.int x1]) (st := []) lk_J17_115 dJ17_checkElementIndex_2 rfl (Nat.le_of_ble_eq_true rfl) (Nat.le_of_ble_eq_true rfl) (Nat.le_of_ble_eq_true rfl) cls_13.1 rfl (fun _ z => rc_J17_isElementIndex z) (fun _ z => met_J17_isElementIndex hO S x0 x1 z) (fun r1 hr1 => ?_)
  refine v_if_ne C (tgt := 21) dJ17_checkElementIndex_5 rfl (fun _ => ?_) (fun _ => ?_)
  · exact VF.none
  · exact v_vreturn C hm dJ17_checkElementIndex_21 rfl
theorem mono_J17_get {F : Nat} {S : St} {x0 : Nat} {x1 : Int32} {r : Nat × St} (h : C_J17_get F S x0 x1 = some r) : leG S r.2 := by
  have q : MF mf_p (C_J17_get F S x0 x1) S := by
    unfold C_J17_get
    refine mf_bind (fun _ _ => ?_)
    refine mf_callv (fun _ z => mono_J17_checkElementIndex z) (fun r1 hr1 => ?_)
    refine mf_bind (fun r2 hr2 => ?_)
    refine mf_bind (fun y3 hy3 => ?_)
    exact mf_ret leG.rf
  exact q r h
theorem met_J17_get {P : GP} {l : Launch} (hO : okG P) (F : Nat) (S : St) (x0 : Nat) (x1 : Int32) {r : Nat × St} (h : C_J17_get F S x0 x1 = some r) : FM l (OG P) yJ17_get (ws_ yJ17_get cJ17_get 2 (some (.object "java/lang/Object"))) 9 211 [.ref x0, .int x1] S (f_ma r) := by
  refine FM.of (own := RJ17) (lv := [(0, .ref x0), (1, .int x1)]) (OG_ok P hO) pl_J17 rfl (Nat.le_of_ble_eq_true rfl) rfl h (mono_J17_get h).LE (fun X C hm => ?_)
  unfold C_J17_get
  refine VF.bind (fun _ _ => ?_)
  refine v_aload_n C dJ17_get_0 0 rfl ?_
  refine v_iload_n C dJ17_get_1 1 rfl ?_
  refine g_callV_mv C (As := [.int x1]) (st := []) lk_J17_90 dJ17_get_2 rfl (Nat.le_of_ble_eq_true rfl) (Nat.le_of_ble_eq_true rfl) (Nat.le_of_ble_eq_true rfl) cls_13.1 rfl (fun _ z => rc_J17_checkElementIndex z) (fun _ z => met_J17_checkElementIndex hO F S x0 x1 z) (fun r1 hr1 => ?_)
  refine v_aload_n C dJ17_get_5 0 rfl ?_
  refine v_iload_n C dJ17_get_6 1 rfl ?_
  refine g_callV_ra C (As := [.int x1]) (st := []) lk_J17_86 dJ17_get_7 rfl (Nat.le_of_ble_eq_true rfl) (Nat.le_of_ble_eq_true rfl) (Nat.le_of_ble_eq_true rfl) cls_13.1 rfl (fun _ z => rc_J17_node z) (fun _ z => met_J17_node hO F r1 x0 x1 z) (fun r2 hr2 => ?_)
  refine g_getA C dJ17_get_10 cls_14 (Nat.le_of_ble_eq_true rfl) fl_J17_39 fs_J17_39 (fun y3 hy3 => ?_)
  exact v_areturn C hm dJ17_get_13 (Or.inl ⟨_, rfl⟩) (Or.inr ⟨_, rfl⟩) rfl
theorem o_J17_unlink_64 {x0 : Nat} {x1 : Nat} {x2 : Nat}  (S : St) : MF mf_p (C_J17_unlink_64 x0 x1 x2 S) S := by
  unfold C_J17_unlink_64
  refine mf_put (fun S12 hS12 => ?_)
  refine mf_bind (fun y13 hy13 => ?_)
  refine mf_put (fun S14 hS14 => ?_)
  refine mf_bind (fun y15 hy15 => ?_)
  refine mf_put (fun S16 hS16 => ?_)
  exact mf_ret leG.rf
theorem o_J17_unlink_40 {x0 : Nat} {x1 : Nat} {x2 : Nat} {x3 : Option Nat} {x4 : Option Nat}  (S : St) : MF mf_p (C_J17_unlink_40 x0 x1 x2 x3 x4 S) S := by
  unfold C_J17_unlink_40
  refine mf_ite ?_ ?_
  · refine mf_put (fun S8 hS8 => ?_)
    exact (o_J17_unlink_64 S8)
  · refine mf_bind (fun a9 ha9 => ?_)
    refine mf_put (fun S10 hS10 => ?_)
    refine mf_put (fun S11 hS11 => ?_)
    exact (o_J17_unlink_64 S11)
theorem mono_J17_unlink {S : St} {x0 : Nat} {x1 : Nat} {r : Nat × St} (h : C_J17_unlink S x0 x1 = some r) : leG S r.2 := by
  have q : MF mf_p (C_J17_unlink S x0 x1) S := by
    unfold C_J17_unlink
    refine mf_bind (fun _ _ => ?_)
    refine mf_bind (fun y1 hy1 => ?_)
    refine mf_bind (fun y2 hy2 => ?_)
    refine mf_bind (fun y3 hy3 => ?_)
    refine mf_ite ?_ ?_
    · refine mf_put (fun S4 hS4 => ?_)
      exact (o_J17_unlink_40 S4)
    · refine mf_bind (fun a5 ha5 => ?_)
      refine mf_put (fun S6 hS6 => ?_)
      refine mf_put (fun S7 hS7 => ?_)
      exact (o_J17_unlink_40 S7)
  exact q r h
theorem w_J17_unlink_64 {P : GP} {X : Ctx} {l : Launch} {S0 : St} (hO : okG P) (C : CX (OG P) X l cJ17_unlink 5 RJ17 (some (.object "java/lang/Object"))) (hm : X.2.2.2.2.2.2.2.2.2 = none) {x0 : Nat} {x1 : Nat} {x2 : Nat}  (S : St) : VF (OG P) X 5 0 0 S0 f_ma (C_J17_unlink_64 x0 x1 x2 S) S 64 [(0, .ref x0), (1, .ref x1), (2, .ref x2)] [] := by
  unfold C_J17_unlink_64
  refine v_aload_n C dJ17_unlink_64 1 rfl ?_
  refine g_null C dJ17_unlink_65 ?_
  refine g_putV C dJ17_unlink_66 cls_14 (Nat.le_of_ble_eq_true rfl) fl_J17_39 fs_J17_39 rfl rfl rfl (fun S12 hS12 => ?_)
  refine v_aload_n C dJ17_unlink_69 0 rfl ?_
  refine v_dup C dJ17_unlink_70 rfl ?_
  refine g_getI C dJ17_unlink_71 cls_13 (Nat.le_of_ble_eq_true rfl) fl_J17_7 fs_J17_7 (fun y13 hy13 => ?_)
  refine v_iconst C dJ17_unlink_74 ci_1 ?_
  refine v_isub C dJ17_unlink_75 ?_
  refine g_putV C dJ17_unlink_76 cls_13 (Nat.le_of_ble_eq_true rfl) fl_J17_7 fs_J17_7 rfl rfl rfl (fun S14 hS14 => ?_)
  refine v_aload_n C dJ17_unlink_79 0 rfl ?_
  refine v_dup C dJ17_unlink_80 rfl ?_
  refine g_getI C dJ17_unlink_81 cls_13 (Nat.le_of_ble_eq_true rfl) fl_J17_33 fs_J17_33 (fun y15 hy15 => ?_)
  refine v_iconst C dJ17_unlink_84 ci_1 ?_
  refine v_iadd C dJ17_unlink_85 ?_
  refine g_putV C dJ17_unlink_86 cls_13 (Nat.le_of_ble_eq_true rfl) fl_J17_33 fs_J17_33 rfl rfl rfl (fun S16 hS16 => ?_)
  refine v_aload_n C dJ17_unlink_89 2 rfl ?_
  exact v_areturn C hm dJ17_unlink_90 (Or.inl ⟨_, rfl⟩) (Or.inr ⟨_, rfl⟩) rfl
theorem w_J17_unlink_40 {P : GP} {X : Ctx} {l : Launch} {S0 : St} (hO : okG P) (C : CX (OG P) X l cJ17_unlink 5 RJ17 (some (.object "java/lang/Object"))) (hm : X.2.2.2.2.2.2.2.2.2 = none) {x0 : Nat} {x1 : Nat} {x2 : Nat} {x3 : Option Nat} {x4 : Option Nat}  (S : St) : VF (OG P) X 5 0 0 S0 f_ma (C_J17_unlink_40 x0 x1 x2 x3 x4 S) S 40 [(0, .ref x0), (1, .ref x1), (2, .ref x2), (3, va_rf x3), (4, va_rf x4)] [] := by
  unfold C_J17_unlink_40
  refine g_aload_nQ C dJ17_unlink_40 3 rfl ?_
  refine g_ifnonnull C (tgt := 53) dJ17_unlink_41 rfl (fun _ => ?_) (fun _ => ?_)
  · refine v_aload_n C dJ17_unlink_44 0 rfl ?_
    refine g_aloadQ C dJ17_unlink_45 4 rfl ?_
    refine g_putV C dJ17_unlink_47 cls_13 (Nat.le_of_ble_eq_true rfl) fl_J17_27 fs_J17_27 rfl (by cases x4 <;> rfl) (by cases x4 <;> rfl) (fun S8 hS8 => ?_)
    refine v_goto C (tgt := 64) dJ17_unlink_50 rfl ?_
    exact v_sub [0, 1, 2] rfl (w_J17_unlink_64 hO C hm S8)
  · refine g_aload_nQ C dJ17_unlink_53 3 rfl ?_
    refine g_aloadQ C dJ17_unlink_54 4 rfl ?_
    refine VF.bind (fun a9 ha9 => ?_)
    subst ha9
    refine g_putV C dJ17_unlink_56 cls_14 (Nat.le_of_ble_eq_true rfl) fl_J17_30 fs_J17_30 rfl (by cases x4 <;> rfl) (by cases x4 <;> rfl) (fun S10 hS10 => ?_)
    refine v_aload_n C dJ17_unlink_59 1 rfl ?_
    refine g_null C dJ17_unlink_60 ?_
    refine g_putV C dJ17_unlink_61 cls_14 (Nat.le_of_ble_eq_true rfl) fl_J17_36 fs_J17_36 rfl rfl rfl (fun S11 hS11 => ?_)
    exact v_sub [0, 1, 2] rfl (w_J17_unlink_64 hO C hm S11)
theorem met_J17_unlink {P : GP} {l : Launch} (hO : okG P) (S : St) (x0 : Nat) (x1 : Nat) {r : Nat × St} (h : C_J17_unlink S x0 x1 = some r) : FM l (OG P) yJ17_unlink (ws_ yJ17_unlink cJ17_unlink 5 (some (.object "java/lang/Object"))) 0 0 [.ref x0, .ref x1] S (f_ma r) := by
  refine FM.of (own := RJ17) (lv := [(0, .ref x0), (1, .ref x1)]) (OG_ok P hO) pl_J17 rfl (Nat.le_of_ble_eq_true rfl) rfl h (mono_J17_unlink h).LE (fun X C hm => ?_)
  unfold C_J17_unlink
  refine VF.bind (fun _ _ => ?_)
  refine v_aload_n C dJ17_unlink_0 1 rfl ?_
  refine g_getA C dJ17_unlink_1 cls_14 (Nat.le_of_ble_eq_true rfl) fl_J17_39 fs_J17_39 (fun y1 hy1 => ?_)
  refine v_astore_n C (lv' := [(2, .ref y1), (0, .ref x0), (1, .ref x1)]) dJ17_unlink_4 (Nat.le_of_ble_eq_true rfl) rfl ?_
  refine v_aload_n C dJ17_unlink_5 2 rfl ?_
  refine g_getQ C dJ17_unlink_6 cls_14 (Nat.le_of_ble_eq_true rfl) fl_J17_36 fs_J17_36 (fun y2 hy2 => ?_)
  refine g_astore_nQ C (lv' := [(3, va_rf y2), (2, .ref y1), (0, .ref x0), (1, .ref x1)]) dJ17_unlink_9 (Nat.le_of_ble_eq_true rfl) rfl ?_
  refine v_aload_n C dJ17_unlink_10 3 rfl ?_
  refine g_getQ C dJ17_unlink_11 cls_14 (Nat.le_of_ble_eq_true rfl) fl_J17_30 fs_J17_30 (fun y3 hy3 => ?_)
  refine g_astoreQ C (lv' := [(4, va_rf y3), (3, va_rf y2), (2, .ref y1), (0, .ref x0), (1, .ref x1)]) dJ17_unlink_14 (Nat.le_of_ble_eq_true rfl) (by cases y2 <;> rfl) ?_
  refine g_aloadQ C dJ17_unlink_16 0 rfl ?_
  refine g_ifnonnull C (tgt := 29) dJ17_unlink_18 rfl (fun _ => ?_) (fun _ => ?_)
  · refine v_aload_n C dJ17_unlink_21 3 rfl ?_
    refine g_aload_nQ C dJ17_unlink_22 1 rfl ?_
    refine g_putV C dJ17_unlink_23 cls_13 (Nat.le_of_ble_eq_true rfl) fl_J17_18 fs_J17_18 rfl (by cases y2 <;> rfl) (by cases y2 <;> rfl) (fun S4 hS4 => ?_)
    refine v_goto C (tgt := 40) dJ17_unlink_26 rfl ?_
    exact v_sub [3, 4, 2, 1, 0] rfl (w_J17_unlink_40 hO C hm S4)
  · refine g_aloadQ C dJ17_unlink_29 0 rfl ?_
    refine g_aload_nQ C dJ17_unlink_31 1 rfl ?_
    refine VF.bind (fun a5 ha5 => ?_)
    subst ha5
    refine g_putV C dJ17_unlink_32 cls_14 (Nat.le_of_ble_eq_true rfl) fl_J17_36 fs_J17_36 rfl (by cases y2 <;> rfl) (by cases y2 <;> rfl) (fun S6 hS6 => ?_)
    refine v_aload_n C dJ17_unlink_35 4 rfl ?_
    refine g_null C dJ17_unlink_36 ?_
    refine g_putV C dJ17_unlink_37 cls_14 (Nat.le_of_ble_eq_true rfl) fl_J17_30 fs_J17_30 rfl rfl rfl (fun S7 hS7 => ?_)
    exact v_sub [3, 4, 2, 1, 0] rfl (w_J17_unlink_40 hO C hm S7)
theorem mono_J17_remove {F : Nat} {S : St} {x0 : Nat} {x1 : Int32} {r : Nat × St} (h : C_J17_remove F S x0 x1 = some r) : leG S r.2 := by
  have q : MF mf_p (C_J17_remove F S x0 x1) S := by
    unfold C_J17_remove
    refine mf_bind (fun _ _ => ?_)
    refine mf_callv (fun _ z => mono_J17_checkElementIndex z) (fun r1 hr1 => ?_)
    refine mf_bind (fun r2 hr2 => ?_)
    refine mf_call (fun _ z => mono_J17_unlink z) (fun r3 hr3 => ?_)
    exact mf_ret leG.rf
  exact q r h
theorem met_J17_remove {P : GP} {l : Launch} (hO : okG P) (F : Nat) (S : St) (x0 : Nat) (x1 : Int32) {r : Nat × St} (h : C_J17_remove F S x0 x1 = some r) : FM l (OG P) yJ17_remove (ws_ yJ17_remove cJ17_remove 2 (some (.object "java/lang/Object"))) 9 211 [.ref x0, .int x1] S (f_ma r) := by
  refine FM.of (own := RJ17) (lv := [(0, .ref x0), (1, .int x1)]) (OG_ok P hO) pl_J17 rfl (Nat.le_of_ble_eq_true rfl) rfl h (mono_J17_remove h).LE (fun X C hm => ?_)
  unfold C_J17_remove
  refine VF.bind (fun _ _ => ?_)
  refine v_aload_n C dJ17_remove_0 0 rfl ?_
  refine v_iload_n C dJ17_remove_1 1 rfl ?_
  refine g_callV_mv C (As := [.int x1]) (st := []) lk_J17_90 dJ17_remove_2 rfl (Nat.le_of_ble_eq_true rfl) (Nat.le_of_ble_eq_true rfl) (Nat.le_of_ble_eq_true rfl) cls_13.1 rfl (fun _ z => rc_J17_checkElementIndex z) (fun _ z => met_J17_checkElementIndex hO F S x0 x1 z) (fun r1 hr1 => ?_)
  refine v_aload_n C dJ17_remove_5 0 rfl ?_
  refine v_aload_n C dJ17_remove_6 0 rfl ?_
  refine v_iload_n C dJ17_remove_7 1 rfl ?_
  refine g_callV_ra C (As := [.int x1]) (st := [.ref x0]) lk_J17_86 dJ17_remove_8 rfl (Nat.le_of_ble_eq_true rfl) (Nat.le_of_ble_eq_true rfl) (Nat.le_of_ble_eq_true rfl) cls_13.1 rfl (fun _ z => rc_J17_node z) (fun _ z => met_J17_node hO F r1 x0 x1 z) (fun r2 hr2 => ?_)
  refine g_callV_ma C (As := [.ref r2]) (st := []) lk_J17_64 dJ17_remove_11 rfl (Nat.le_of_ble_eq_true rfl) (Nat.le_of_ble_eq_true rfl) (Nat.le_of_ble_eq_true rfl) cls_13.1 rfl (fun _ z => rc_J17_unlink z) (fun _ z => met_J17_unlink hO r1 x0 r2 z) (fun r3 hr3 => ?_)
  exact v_areturn C hm dJ17_remove_14 (Or.inl ⟨_, rfl⟩) (Or.inr ⟨_, rfl⟩) rfl
theorem o_J17_unlinkFirst_42 {x0 : Nat} {x2 : Nat}  (S : St) : MF mf_p (C_J17_unlinkFirst_42 x0 x2 S) S := by
  unfold C_J17_unlinkFirst_42
  refine mf_bind (fun y9 hy9 => ?_)
  refine mf_put (fun S10 hS10 => ?_)
  refine mf_bind (fun y11 hy11 => ?_)
  refine mf_put (fun S12 hS12 => ?_)
  exact mf_ret leG.rf
theorem mono_J17_unlinkFirst {S : St} {x0 : Nat} {x1 : Nat} {r : Nat × St} (h : C_J17_unlinkFirst S x0 x1 = some r) : leG S r.2 := by
  have q : MF mf_p (C_J17_unlinkFirst S x0 x1) S := by
    unfold C_J17_unlinkFirst
    refine mf_bind (fun _ _ => ?_)
    refine mf_bind (fun y1 hy1 => ?_)
    refine mf_bind (fun y2 hy2 => ?_)
    refine mf_put (fun S3 hS3 => ?_)
    refine mf_put (fun S4 hS4 => ?_)
    refine mf_put (fun S5 hS5 => ?_)
    refine mf_ite ?_ ?_
    · refine mf_put (fun S6 hS6 => ?_)
      exact (o_J17_unlinkFirst_42 S6)
    · refine mf_bind (fun a7 ha7 => ?_)
      refine mf_put (fun S8 hS8 => ?_)
      exact (o_J17_unlinkFirst_42 S8)
  exact q r h
theorem w_J17_unlinkFirst_42 {P : GP} {X : Ctx} {l : Launch} {S0 : St} (hO : okG P) (C : CX (OG P) X l cJ17_unlinkFirst 4 RJ17 (some (.object "java/lang/Object"))) (hm : X.2.2.2.2.2.2.2.2.2 = none) {x0 : Nat} {x2 : Nat}  (S : St) : VF (OG P) X 4 0 0 S0 f_ma (C_J17_unlinkFirst_42 x0 x2 S) S 42 [(0, .ref x0), (2, .ref x2)] [] := by
  unfold C_J17_unlinkFirst_42
  refine v_aload_n C dJ17_unlinkFirst_42 0 rfl ?_
  refine v_dup C dJ17_unlinkFirst_43 rfl ?_
  refine g_getI C dJ17_unlinkFirst_44 cls_13 (Nat.le_of_ble_eq_true rfl) fl_J17_7 fs_J17_7 (fun y9 hy9 => ?_)
  refine v_iconst C dJ17_unlinkFirst_47 ci_1 ?_
  refine v_isub C dJ17_unlinkFirst_48 ?_
  refine g_putV C dJ17_unlinkFirst_49 cls_13 (Nat.le_of_ble_eq_true rfl) fl_J17_7 fs_J17_7 rfl rfl rfl (fun S10 hS10 => ?_)
  refine v_aload_n C dJ17_unlinkFirst_52 0 rfl ?_
  refine v_dup C dJ17_unlinkFirst_53 rfl ?_
  refine g_getI C dJ17_unlinkFirst_54 cls_13 (Nat.le_of_ble_eq_true rfl) fl_J17_33 fs_J17_33 (fun y11 hy11 => ?_)
  refine v_iconst C dJ17_unlinkFirst_57 ci_1 ?_
  refine v_iadd C dJ17_unlinkFirst_58 ?_
  refine g_putV C dJ17_unlinkFirst_59 cls_13 (Nat.le_of_ble_eq_true rfl) fl_J17_33 fs_J17_33 rfl rfl rfl (fun S12 hS12 => ?_)
  refine v_aload_n C dJ17_unlinkFirst_62 1 rfl ?_
  exact v_areturn C hm dJ17_unlinkFirst_63 (Or.inl ⟨_, rfl⟩) (Or.inr ⟨_, rfl⟩) rfl
theorem met_J17_unlinkFirst {P : GP} {l : Launch} (hO : okG P) (S : St) (x0 : Nat) (x1 : Nat) {r : Nat × St} (h : C_J17_unlinkFirst S x0 x1 = some r) : FM l (OG P) yJ17_unlinkFirst (ws_ yJ17_unlinkFirst cJ17_unlinkFirst 4 (some (.object "java/lang/Object"))) 0 0 [.ref x0, .ref x1] S (f_ma r) := by
  refine FM.of (own := RJ17) (lv := [(0, .ref x0), (1, .ref x1)]) (OG_ok P hO) pl_J17 rfl (Nat.le_of_ble_eq_true rfl) rfl h (mono_J17_unlinkFirst h).LE (fun X C hm => ?_)
  unfold C_J17_unlinkFirst
  refine VF.bind (fun _ _ => ?_)
  refine v_aload_n C dJ17_unlinkFirst_0 1 rfl ?_
  refine g_getA C dJ17_unlinkFirst_1 cls_14 (Nat.le_of_ble_eq_true rfl) fl_J17_39 fs_J17_39 (fun y1 hy1 => ?_)
  refine v_astore_n C (lv' := [(2, .ref y1), (0, .ref x0), (1, .ref x1)]) dJ17_unlinkFirst_4 (Nat.le_of_ble_eq_true rfl) rfl ?_
  refine v_aload_n C dJ17_unlinkFirst_5 2 rfl ?_
  refine g_getQ C dJ17_unlinkFirst_6 cls_14 (Nat.le_of_ble_eq_true rfl) fl_J17_36 fs_J17_36 (fun y2 hy2 => ?_)
  refine g_astore_nQ C (lv' := [(3, va_rf y2), (2, .ref y1), (0, .ref x0), (1, .ref x1)]) dJ17_unlinkFirst_9 (Nat.le_of_ble_eq_true rfl) rfl ?_
  refine v_aload_n C dJ17_unlinkFirst_10 3 rfl ?_
  refine g_null C dJ17_unlinkFirst_11 ?_
  refine g_putV C dJ17_unlinkFirst_12 cls_14 (Nat.le_of_ble_eq_true rfl) fl_J17_39 fs_J17_39 rfl rfl rfl (fun S3 hS3 => ?_)
  refine v_aload_n C dJ17_unlinkFirst_15 3 rfl ?_
  refine g_null C dJ17_unlinkFirst_16 ?_
  refine g_putV C dJ17_unlinkFirst_17 cls_14 (Nat.le_of_ble_eq_true rfl) fl_J17_36 fs_J17_36 rfl rfl rfl (fun S4 hS4 => ?_)
  refine v_aload_n C dJ17_unlinkFirst_20 2 rfl ?_
  refine g_aload_nQ C dJ17_unlinkFirst_21 0 rfl ?_
  refine g_putV C dJ17_unlinkFirst_22 cls_13 (Nat.le_of_ble_eq_true rfl) fl_J17_18 fs_J17_18 rfl (by cases y2 <;> rfl) (by cases y2 <;> rfl) (fun S5 hS5 => ?_)
  refine g_aload_nQ C dJ17_unlinkFirst_25 0 rfl ?_
  refine g_ifnonnull C (tgt := 37) dJ17_unlinkFirst_26 rfl (fun _ => ?_) (fun _ => ?_)
  · refine v_aload_n C dJ17_unlinkFirst_29 2 rfl ?_
    refine g_null C dJ17_unlinkFirst_30 ?_
    refine g_putV C dJ17_unlinkFirst_31 cls_13 (Nat.le_of_ble_eq_true rfl) fl_J17_27 fs_J17_27 rfl rfl rfl (fun S6 hS6 => ?_)
    refine v_goto C (tgt := 42) dJ17_unlinkFirst_34 rfl ?_
    exact v_sub [2, 1] rfl (w_J17_unlinkFirst_42 hO C hm S6)
  · refine g_aload_nQ C dJ17_unlinkFirst_37 0 rfl ?_
    refine g_null C dJ17_unlinkFirst_38 ?_
    refine VF.bind (fun a7 ha7 => ?_)
    subst ha7
    refine g_putV C dJ17_unlinkFirst_39 cls_14 (Nat.le_of_ble_eq_true rfl) fl_J17_30 fs_J17_30 rfl rfl rfl (fun S8 hS8 => ?_)
    exact v_sub [2, 1] rfl (w_J17_unlinkFirst_42 hO C hm S8)
theorem mono_J17_removeFirst {S : St} {x0 : Nat} {r : Nat × St} (h : C_J17_removeFirst S x0 = some r) : leG S r.2 := by
  have q : MF mf_p (C_J17_removeFirst S x0) S := by
    unfold C_J17_removeFirst
    refine mf_bind (fun _ _ => ?_)
    refine mf_bind (fun y1 hy1 => ?_)
    refine mf_ite ?_ ?_
    · exact mf_none
    · refine mf_bind (fun a2 ha2 => ?_)
      refine mf_call (fun _ z => mono_J17_unlinkFirst z) (fun r3 hr3 => ?_)
      exact mf_ret leG.rf
  exact q r h
theorem met_J17_removeFirst {P : GP} {l : Launch} (hO : okG P) (S : St) (x0 : Nat) {r : Nat × St} (h : C_J17_removeFirst S x0 = some r) : FM l (OG P) yJ17_removeFirst (ws_ yJ17_removeFirst cJ17_removeFirst 2 (some (.object "java/lang/Object"))) 1 23 [.ref x0] S (f_ma r) := by
  refine FM.of (own := RJ17) (lv := [(0, .ref x0)]) (OG_ok P hO) pl_J17 rfl (Nat.le_of_ble_eq_true rfl) rfl h (mono_J17_removeFirst h).LE (fun X C hm => ?_)
  unfold C_J17_removeFirst
  refine VF.bind (fun _ _ => ?_)
  refine v_aload_n C dJ17_removeFirst_0 0 rfl ?_
  refine g_getQ C dJ17_removeFirst_1 cls_13 (Nat.le_of_ble_eq_true rfl) fl_J17_18 fs_J17_18 (fun y1 hy1 => ?_)
  refine g_astore_nQ C (lv' := [(1, va_rf y1), (0, .ref x0)]) dJ17_removeFirst_4 (Nat.le_of_ble_eq_true rfl) rfl ?_
  refine g_aload_nQ C dJ17_removeFirst_5 0 rfl ?_
  refine g_ifnonnull C (tgt := 17) dJ17_removeFirst_6 rfl (fun _ => ?_) (fun _ => ?_)
  · exact VF.none
  · refine v_aload_n C dJ17_removeFirst_17 1 rfl ?_
    refine g_aload_nQ C dJ17_removeFirst_18 0 rfl ?_
    refine VF.bind (fun a2 ha2 => ?_)
    subst ha2
    refine g_callV_ma C (As := [.ref a2]) (st := []) lk_J17_46 dJ17_removeFirst_19 rfl (Nat.le_of_ble_eq_true rfl) (Nat.le_of_ble_eq_true rfl) (Nat.le_of_ble_eq_true rfl) cls_13.1 rfl (fun _ z => rc_J17_unlinkFirst z) (fun _ z => met_J17_unlinkFirst hO S x0 a2 z) (fun r3 hr3 => ?_)
    exact v_areturn C hm dJ17_removeFirst_22 (Or.inl ⟨_, rfl⟩) (Or.inr ⟨_, rfl⟩) rfl
theorem mono_J2_init {S : St} {x0 : Nat} {r : St} (h : C_J2_init S x0 = some r) : leG S r := by
  have q : MF mf_s (C_J2_init S x0) S := by
    unfold C_J2_init
    refine mf_bind (fun r1 hr1 => ?_)
    refine mf_nQ_ (fun r2 hr2 => ?_)
    refine mf_put (fun S3 hS3 => ?_)
    exact mf_ret leG.rf
  exact q r h
theorem met_J2_init {P : GP} {l : Launch} (hO : okG P) (S : St) (x0 : Nat) {r : St} (h : C_J2_init S x0 = some r) : FM l (OG P) yJ2_init (ws_ yJ2_init cJ2_init 1 none) 2 54 [.ref x0] S (f_mv r) := by
  refine FM.ofI (own := RJ2) (lv := [(0, .ref x0)]) hO pl_J2 rfl rfl (Nat.le_of_ble_eq_true rfl) rfl h (mono_J2_init h).LE (fun X C hm hin2 => ?_)
  unfold C_J2_init
  refine v_aload_n C dJ2_init_0 0 rfl ?_
  refine v_callI_rv C (As := []) (st := []) lk_J2_42 dJ2_init_1 rfl (Nat.le_of_ble_eq_true rfl) (Nat.le_of_ble_eq_true rfl) (Nat.le_of_ble_eq_true rfl) (fun _ z => met_J1_init hO S x0 z) (fun r1 hr1 => ?_)
  refine v_aload_n C dJ2_init_4 0 rfl ?_
  refine v_bipush C dJ2_init_5 cb_17 ?_
  refine g_naQ6 C dJ2_init_7 q246 (fun r2 hr2 => ?_)
  refine g_putV C dJ2_init_10 cls_11 (Nat.le_of_ble_eq_true rfl) fl_J2_3 fs_J2_3 rfl rfl rfl (fun S3 hS3 => ?_)
  exact v_vreturn C hm dJ2_init_13 rfl
theorem met_J2_sub {P : GP} {l : Launch} (hO : okG P) (S : St) (x0 : Int32) (x1 : Int32) (x2 : Int32) {r : Int32} (h : C_J2_sub x0 x1 x2 = some r) : FM l (OG P) yJ2_sub (ws_ yJ2_sub cJ2_sub 3 (some .int)) 0 0 [.int x0, .int x1, .int x2] S ((f_ri S) r) := by
  refine FM.of (own := RJ2) (lv := [(0, .int x0), (1, .int x1), (2, .int x2)]) (OG_ok P hO) pl_J2 rfl (Nat.le_of_ble_eq_true rfl) rfl h LE.rf (fun X C hm => ?_)
  unfold C_J2_sub
  refine v_iload_n C dJ2_sub_0 0 rfl ?_
  refine v_iload_n C dJ2_sub_1 1 rfl ?_
  refine v_isub C dJ2_sub_2 ?_
  refine v_leti (fun y1 hy1 => ?_)
  refine v_dup C dJ2_sub_3 rfl ?_
  refine v_istore_n C (lv' := [(0, .int y1), (1, .int x1), (2, .int x2)]) dJ2_sub_4 (Nat.le_of_ble_eq_true rfl) rfl ?_
  refine v_if_ge C (tgt := 12) dJ2_sub_5 rfl (fun _ => ?_) (fun _ => ?_)
  · refine v_iload_n C dJ2_sub_12 0 rfl ?_
    exact v_ireturn C hm dJ2_sub_13 rfl
  · refine v_iload_n C dJ2_sub_8 0 rfl ?_
    refine v_iload_n C dJ2_sub_9 2 rfl ?_
    refine v_iadd C dJ2_sub_10 ?_
    refine v_leti (fun y2 hy2 => ?_)
    refine v_istore_n C (lv' := [(0, .int y2), (1, .int x1), (2, .int x2)]) dJ2_sub_11 (Nat.le_of_ble_eq_true rfl) rfl ?_
    refine v_iload_n C dJ2_sub_12 0 rfl ?_
    exact v_ireturn C hm dJ2_sub_13 rfl
theorem met_J2_size {P : GP} {l : Launch} (hO : okG P) (S : St) (x0 : Nat) {r : Int32} (h : C_J2_size S x0 = some r) : FM l (OG P) yJ2_size (ws_ yJ2_size cJ2_size 1 (some .int)) 1 22 [.ref x0] S ((f_ri S) r) := by
  refine FM.of (own := RJ2) (lv := [(0, .ref x0)]) (OG_ok P hO) pl_J2 rfl (Nat.le_of_ble_eq_true rfl) rfl h LE.rf (fun X C hm => ?_)
  unfold C_J2_size
  refine VF.bind (fun _ _ => ?_)
  refine v_aload_n C dJ2_size_0 0 rfl ?_
  refine g_getI C dJ2_size_1 cls_11 (Nat.le_of_ble_eq_true rfl) fl_J2_20 fs_J2_20 (fun y1 hy1 => ?_)
  refine v_aload_n C dJ2_size_4 0 rfl ?_
  refine g_getI C dJ2_size_5 cls_11 (Nat.le_of_ble_eq_true rfl) fl_J2_24 fs_J2_24 (fun y2 hy2 => ?_)
  refine v_aload_n C dJ2_size_8 0 rfl ?_
  refine g_getA C dJ2_size_9 cls_11 (Nat.le_of_ble_eq_true rfl) fl_J2_3 fs_J2_3 (fun y3 hy3 => ?_)
  refine g_alen (kd := 6) (fun _ => rfl) C dJ2_size_12 (fun y4 hy4 => ?_)
  refine v_callS_ri C (As := [.int y1, .int y2, .int y4]) (st := []) lk_J2_127 dJ2_size_13 rfl (Nat.le_of_ble_eq_true rfl) (Nat.le_of_ble_eq_true rfl) (Nat.le_of_ble_eq_true rfl) (fun _ z => met_J2_sub hO S y1 y2 y4 z) (fun r5 hr5 => ?_)
  exact v_ireturn C hm dJ2_size_16 rfl
theorem met_J2_elementAt {P : GP} {l : Launch} (hO : okG P) (S : St) (x0 : Nat) (x1 : Int32) {r : Option Nat} (h : C_J2_elementAt S x0 x1 = some r) : FM l (OG P) yJ2_elementAt (ws_ yJ2_elementAt cJ2_elementAt 2 (some (.object "java/lang/Object"))) 0 0 [.ref x0, .int x1] S ((f_rq S) r) := by
  refine FM.of (own := RJ2) (lv := [(0, .ref x0), (1, .int x1)]) (OG_ok P hO) pl_J2 rfl (Nat.le_of_ble_eq_true rfl) rfl h LE.rf (fun X C hm => ?_)
  unfold C_J2_elementAt
  refine v_aload_n C dJ2_elementAt_0 0 rfl ?_
  refine v_iload_n C dJ2_elementAt_1 1 rfl ?_
  refine g_aal6 C dJ2_elementAt_2 (fun y1 hy1 => ?_)
  exact v_areturn C hm dJ2_elementAt_3 (Or.inl ⟨_, rfl⟩) (va_rf_or y1) rfl
theorem met_J2_inc {P : GP} {l : Launch} (hO : okG P) (S : St) (x0 : Int32) (x1 : Int32) {r : Int32} (h : C_J2_inc x0 x1 = some r) : FM l (OG P) yJ2_inc (ws_ yJ2_inc cJ2_inc 2 (some .int)) 0 0 [.int x0, .int x1] S ((f_ri S) r) := by
  refine FM.of (own := RJ2) (lv := [(0, .int x0), (1, .int x1)]) (OG_ok P hO) pl_J2 rfl (Nat.le_of_ble_eq_true rfl) rfl h LE.rf (fun X C hm => ?_)
  unfold C_J2_inc
  refine v_iincN C (lv' := fun y1 => [(0, .int y1), (1, .int x1)]) dJ2_inc_0 0 rfl ci_1 (Nat.le_of_ble_eq_true rfl) (fun _ => rfl) (fun y1 hy1 => ?_)
  refine v_iload_n C dJ2_inc_3 0 rfl ?_
  refine v_iload_n C dJ2_inc_4 1 rfl ?_
  refine v_icmp_lt C (tgt := 10) dJ2_inc_5 rfl (fun _ => ?_) (fun _ => ?_)
  · refine v_iload_n C dJ2_inc_10 0 rfl ?_
    exact v_ireturn C hm dJ2_inc_11 rfl
  · refine v_iconst C dJ2_inc_8 ci_0 ?_
    refine v_istore_n C (lv' := [(0, .int 0), (1, .int x1)]) dJ2_inc_9 (Nat.le_of_ble_eq_true rfl) rfl ?_
    refine v_iload_n C dJ2_inc_10 0 rfl ?_
    exact v_ireturn C hm dJ2_inc_11 rfl
theorem mono_J2_pollFirst {S : St} {x0 : Nat} {r : Option Nat × St} (h : C_J2_pollFirst S x0 = some r) : leG S r.2 := by
  have q : MF mf_p (C_J2_pollFirst S x0) S := by
    unfold C_J2_pollFirst
    refine mf_bind (fun _ _ => ?_)
    refine mf_bind (fun y1 hy1 => ?_)
    refine mf_bind (fun y2 hy2 => ?_)
    refine mf_bind (fun r3 hr3 => ?_)
    refine mf_ite ?_ ?_
    · exact mf_ret leG.rf
    · refine mf_tQ (fun S4 hS4 => ?_)
      refine mf_bind (fun y5 hy5 => ?_)
      refine mf_bind (fun r6 hr6 => ?_)
      refine mf_put (fun S7 hS7 => ?_)
      exact mf_ret leG.rf
  exact q r h
theorem met_J2_pollFirst {P : GP} {l : Launch} (hO : okG P) (S : St) (x0 : Nat) {r : Option Nat × St} (h : C_J2_pollFirst S x0 = some r) : FM l (OG P) yJ2_pollFirst (ws_ yJ2_pollFirst cJ2_pollFirst 4 (some (.object "java/lang/Object"))) 1 21 [.ref x0] S (f_mq r) := by
  refine FM.of (own := RJ2) (lv := [(0, .ref x0)]) (OG_ok P hO) pl_J2 rfl (Nat.le_of_ble_eq_true rfl) rfl h (mono_J2_pollFirst h).LE (fun X C hm => ?_)
  unfold C_J2_pollFirst
  refine VF.bind (fun _ _ => ?_)
  refine v_aload_n C dJ2_pollFirst_0 0 rfl ?_
  refine g_getA C dJ2_pollFirst_1 cls_11 (Nat.le_of_ble_eq_true rfl) fl_J2_3 fs_J2_3 (fun y1 hy1 => ?_)
  refine v_dup C dJ2_pollFirst_4 rfl ?_
  refine v_astore_n C (lv' := [(1, .ref y1), (0, .ref x0)]) dJ2_pollFirst_5 (Nat.le_of_ble_eq_true rfl) rfl ?_
  refine v_aload_n C dJ2_pollFirst_6 1 rfl ?_
  refine g_getI C dJ2_pollFirst_7 cls_11 (Nat.le_of_ble_eq_true rfl) fl_J2_24 fs_J2_24 (fun y2 hy2 => ?_)
  refine v_dup C dJ2_pollFirst_10 rfl ?_
  refine v_istore_n C (lv' := [(2, .int y2), (1, .ref y1), (0, .ref x0)]) dJ2_pollFirst_11 (Nat.le_of_ble_eq_true rfl) rfl ?_
  refine v_callS_rq C (As := [.ref y1, .int y2]) (st := []) lk_J2_103 dJ2_pollFirst_12 rfl (Nat.le_of_ble_eq_true rfl) (Nat.le_of_ble_eq_true rfl) (Nat.le_of_ble_eq_true rfl) (fun _ z => met_J2_elementAt hO S y1 y2 z) (fun r3 hr3 => ?_)
  refine g_astore_nQ C (lv' := [(3, va_rf r3), (2, .int y2), (1, .ref y1), (0, .ref x0)]) dJ2_pollFirst_15 (Nat.le_of_ble_eq_true rfl) rfl ?_
  refine g_aload_nQ C dJ2_pollFirst_16 0 rfl ?_
  refine g_ifnull C (tgt := 34) dJ2_pollFirst_17 rfl (fun _ => ?_) (fun _ => ?_)
  · refine g_aload_nQ C dJ2_pollFirst_34 0 rfl ?_
    exact v_areturn C hm dJ2_pollFirst_35 (Or.inl ⟨_, rfl⟩) (va_rf_or r3) rfl
  · refine v_aload_n C dJ2_pollFirst_20 2 rfl ?_
    refine v_iload_n C dJ2_pollFirst_21 1 rfl ?_
    refine g_null C dJ2_pollFirst_22 ?_
    refine g_aasN C dJ2_pollFirst_23 (fun _ => rfl) (fun S4 hS4 => ?_)
    refine v_aload_n C dJ2_pollFirst_24 3 rfl ?_
    refine v_iload_n C dJ2_pollFirst_25 1 rfl ?_
    refine v_aload_n C dJ2_pollFirst_26 2 rfl ?_
    refine g_alen (kd := 6) (fun _ => rfl) C dJ2_pollFirst_27 (fun y5 hy5 => ?_)
    refine v_callS_ri C (As := [.int y2, .int y5]) (st := [.ref x0]) lk_J2_74 dJ2_pollFirst_28 rfl (Nat.le_of_ble_eq_true rfl) (Nat.le_of_ble_eq_true rfl) (Nat.le_of_ble_eq_true rfl) (fun _ z => met_J2_inc hO S4 y2 y5 z) (fun r6 hr6 => ?_)
    refine g_putV C dJ2_pollFirst_31 cls_11 (Nat.le_of_ble_eq_true rfl) fl_J2_24 fs_J2_24 rfl rfl rfl (fun S7 hS7 => ?_)
    refine g_aload_nQ C dJ2_pollFirst_34 0 rfl ?_
    exact v_areturn C hm dJ2_pollFirst_35 (Or.inl ⟨_, rfl⟩) (va_rf_or r3) rfl
theorem mono_J2_removeFirst {S : St} {x0 : Nat} {r : Nat × St} (h : C_J2_removeFirst S x0 = some r) : leG S r.2 := by
  have q : MF mf_p (C_J2_removeFirst S x0) S := by
    unfold C_J2_removeFirst
    refine mf_bind (fun _ _ => ?_)
    refine mf_call (fun _ z => mono_J2_pollFirst z) (fun r1 hr1 => ?_)
    refine mf_bind (fun y2 hy2 => ?_)
    refine mf_ite ?_ ?_
    · exact mf_none
    · refine mf_bind (fun a3 ha3 => ?_)
      exact mf_ret leG.rf
  exact q r h
theorem met_J2_removeFirst {P : GP} {l : Launch} (hO : okG P) (S : St) (x0 : Nat) {r : Nat × St} (h : C_J2_removeFirst S x0 = some r) : FM l (OG P) yJ2_removeFirst (ws_ yJ2_removeFirst cJ2_removeFirst 2 (some (.object "java/lang/Object"))) 2 44 [.ref x0] S (f_ma r) := by
  refine FM.of (own := RJ2) (lv := [(0, .ref x0)]) (OG_ok P hO) pl_J2 rfl (Nat.le_of_ble_eq_true rfl) rfl h (mono_J2_removeFirst h).LE (fun X C hm => ?_)
  unfold C_J2_removeFirst
  refine VF.bind (fun _ _ => ?_)
  refine v_aload_n C dJ2_removeFirst_0 0 rfl ?_
  refine g_callV_mq C (As := []) (st := []) lk_J2_93 dJ2_removeFirst_1 rfl (Nat.le_of_ble_eq_true rfl) (Nat.le_of_ble_eq_true rfl) (Nat.le_of_ble_eq_true rfl) cls_11.1 rfl (fun _ z => rc_J2_pollFirst z) (fun _ z => met_J2_pollFirst hO S x0 z) (fun r1 hr1 => ?_)
  refine g_letq (fun y2 hy2 => ?_)
  refine g_astore_nQ C (lv' := [(1, va_rf y2), (0, .ref x0)]) dJ2_removeFirst_4 (Nat.le_of_ble_eq_true rfl) rfl ?_
  refine g_aload_nQ C dJ2_removeFirst_5 0 rfl ?_
  refine g_ifnonnull C (tgt := 17) dJ2_removeFirst_6 rfl (fun _ => ?_) (fun _ => ?_)
  · exact VF.none
  · refine g_aload_nQ C dJ2_removeFirst_17 0 rfl ?_
    refine VF.bind (fun a3 ha3 => ?_)
    subst ha3
    exact v_areturn C hm dJ2_removeFirst_18 (Or.inl ⟨_, rfl⟩) (Or.inr ⟨_, rfl⟩) rfl
theorem met_J2_newCapacity {P : GP} {l : Launch} (hO : okG P) (S : St) (x0 : Nat) (x1 : Int32) (x2 : Int32) {r : Int32} (h : C_J2_newCapacity S x0 x1 x2 = some r) : FM l (OG P) yJ2_newCapacity (ws_ yJ2_newCapacity cJ2_newCapacity 5 (some .int)) 0 0 [.ref x0, .int x1, .int x2] S ((f_ri S) r) := by
  refine FM.of (own := RJ2) (lv := [(0, .ref x0), (1, .int x1), (2, .int x2)]) (OG_ok P hO) pl_J2 rfl (Nat.le_of_ble_eq_true rfl) rfl h LE.rf (fun X C hm => ?_)
  unfold C_J2_newCapacity
  refine VF.bind (fun _ _ => ?_)
  refine v_aload_n C dJ2_newCapacity_0 0 rfl ?_
  refine g_getA C dJ2_newCapacity_1 cls_11 (Nat.le_of_ble_eq_true rfl) fl_J2_3 fs_J2_3 (fun y1 hy1 => ?_)
  refine g_alen (kd := 6) (fun _ => rfl) C dJ2_newCapacity_4 (fun y2 hy2 => ?_)
  refine v_istore_n C (lv' := [(3, .int y2), (0, .ref x0), (1, .int x1), (2, .int x2)]) dJ2_newCapacity_5 (Nat.le_of_ble_eq_true rfl) rfl ?_
  refine v_iload_n C dJ2_newCapacity_6 0 rfl ?_
  refine v_iload_n C dJ2_newCapacity_7 2 rfl ?_
  refine v_iadd C dJ2_newCapacity_8 ?_
  refine v_leti (fun y3 hy3 => ?_)
  refine v_dup C dJ2_newCapacity_9 rfl ?_
  refine v_istore C (lv' := [(4, .int y3), (3, .int y2), (0, .ref x0), (1, .int x1), (2, .int x2)]) dJ2_newCapacity_10 (Nat.le_of_ble_eq_true rfl) rfl ?_
  refine v_ldc C dJ2_newCapacity_12 q1208 ?_
  refine v_isub C dJ2_newCapacity_14 ?_
  refine v_if_le C (tgt := 36) dJ2_newCapacity_15 rfl (fun _ => ?_) (fun _ => ?_)
  · refine v_iload_n C dJ2_newCapacity_36 3 rfl ?_
    refine v_iload_n C dJ2_newCapacity_37 4 rfl ?_
    refine v_icmp_le C (tgt := 44) dJ2_newCapacity_38 rfl (fun _ => ?_) (fun _ => ?_)
    · refine v_iload_n C dJ2_newCapacity_44 1 rfl ?_
      refine v_iload_n C dJ2_newCapacity_45 4 rfl ?_
      refine v_iadd C dJ2_newCapacity_46 ?_
      refine v_ldc C dJ2_newCapacity_47 q1208 ?_
      refine v_isub C dJ2_newCapacity_49 ?_
      refine v_if_ge C (tgt := 59) dJ2_newCapacity_50 rfl (fun _ => ?_) (fun _ => ?_)
      · refine v_ldc C dJ2_newCapacity_59 q1208 ?_
        exact v_ireturn C hm dJ2_newCapacity_61 rfl
      · refine v_iload_n C dJ2_newCapacity_53 1 rfl ?_
        refine v_iload_n C dJ2_newCapacity_54 4 rfl ?_
        refine v_iadd C dJ2_newCapacity_55 ?_
        refine v_goto C (tgt := 61) dJ2_newCapacity_56 rfl ?_
        exact v_ireturn C hm dJ2_newCapacity_61 rfl
    · refine v_iload C dJ2_newCapacity_41 0 rfl ?_
      exact v_ireturn C hm dJ2_newCapacity_43 rfl
  · refine v_iload C dJ2_newCapacity_18 0 rfl ?_
    refine v_if_ge C (tgt := 33) dJ2_newCapacity_20 rfl (fun _ => ?_) (fun _ => ?_)
    · refine v_ldc C dJ2_newCapacity_33 q1229 ?_
      exact v_ireturn C hm dJ2_newCapacity_35 rfl
    · exact VF.none
theorem o_J2_grow_96 {F : Nat} {x0 : Nat} {x2 : Int32} {x3 : Int32} {x5 : Nat}  (S : St) : MF mf_s (C_J2_grow_96 F x0 x2 x3 x5 S) S := by
  unfold C_J2_grow_96
  refine mf_bind (fun y14 hy14 => ?_)
  refine mf_bind (fun y15 hy15 => ?_)
  refine mf_bind (fun y16 hy16 => ?_)
  refine mf_bind (fun y17 hy17 => ?_)
  exact mf_none
theorem o_J2_grow_49 {F : Nat} {x0 : Nat} {x2 : Int32} {x3 : Int32}  (S : St) : MF mf_s (C_J2_grow_49 F x0 x2 x3 S) S := by
  unfold C_J2_grow_49
  refine mf_bind (fun y5 hy5 => ?_)
  refine mf_call (fun _ z => mono_J12_copyOf_3 z) (fun r6 hr6 => ?_)
  refine mf_put (fun S7 hS7 => ?_)
  refine mf_bind (fun y8 hy8 => ?_)
  refine mf_bind (fun y9 hy9 => ?_)
  refine mf_ite ?_ ?_
  · exact (o_J2_grow_96 S7)
  · refine mf_bind (fun y10 hy10 => ?_)
    refine mf_bind (fun y11 hy11 => ?_)
    refine mf_ite ?_ ?_
    · refine mf_bind (fun y12 hy12 => ?_)
      refine mf_bind (fun y13 hy13 => ?_)
      refine mf_ite ?_ ?_
      · exact mf_ret leG.rf
      · exact (o_J2_grow_96 S7)
    · exact mf_ret leG.rf
theorem o_J2_grow_41 {F : Nat} {x0 : Nat} {x1 : Int32} {x2 : Int32} {x4 : Int32}  (S : St) : MF mf_s (C_J2_grow_41 F x0 x1 x2 x4 S) S := by
  unfold C_J2_grow_41
  refine mf_bind (fun r4 hr4 => ?_)
  exact (o_J2_grow_49 S)
theorem o_J2_grow_21 {F : Nat} {x0 : Nat} {x1 : Int32} {x2 : Int32}  (s0 : Int32) (S : St) : MF mf_s (C_J2_grow_21 F x0 x1 x2 s0 S) S := by
  unfold C_J2_grow_21
  refine mf_ite ?_ ?_
  · exact (o_J2_grow_41 S)
  · refine mf_bind (fun y3 hy3 => ?_)
    refine mf_ite ?_ ?_
    · exact (o_J2_grow_49 S)
    · exact (o_J2_grow_41 S)
theorem mono_J2_grow {F : Nat} {S : St} {x0 : Nat} {x1 : Int32} {r : St} (h : C_J2_grow F S x0 x1 = some r) : leG S r := by
  have q : MF mf_s (C_J2_grow F S x0 x1) S := by
    unfold C_J2_grow
    refine mf_bind (fun _ _ => ?_)
    refine mf_bind (fun y1 hy1 => ?_)
    refine mf_bind (fun y2 hy2 => ?_)
    refine mf_ite ?_ ?_
    · exact (o_J2_grow_21 (y2 >>> (1 &&& 31)) S)
    · exact (o_J2_grow_21 (y2 + 2) S)
  exact q r h
theorem w_J2_grow_96 {P : GP} {X : Ctx} {l : Launch} {S0 : St} {F : Nat} (hO : okG P) (C : CX (OG P) X l cJ2_grow 9 RJ2 none) (hm : X.2.2.2.2.2.2.2.2.2 = none) {x0 : Nat} {x2 : Int32} {x3 : Int32} {x5 : Nat}  (S : St) : VF (OG P) X 9 3 78 S0 f_mv (C_J2_grow_96 F x0 x2 x3 x5 S) S 96 [(0, .ref x0), (2, .int x2), (3, .int x3), (5, .ref x5)] [] := by
  unfold C_J2_grow_96
  refine v_iload_n C dJ2_grow_96 2 rfl ?_
  refine v_iload_n C dJ2_grow_97 1 rfl ?_
  refine v_isub C dJ2_grow_98 ?_
  refine v_leti (fun y14 hy14 => ?_)
  refine v_istore C (lv' := [(6, .int y14), (0, .ref x0), (2, .int x2), (3, .int x3), (5, .ref x5)]) dJ2_grow_99 (Nat.le_of_ble_eq_true rfl) rfl ?_
  refine v_aload C dJ2_grow_101 4 rfl ?_
  refine v_aload_n C dJ2_grow_103 1 rfl ?_
  refine g_getI C dJ2_grow_104 cls_11 (Nat.le_of_ble_eq_true rfl) fl_J2_24 fs_J2_24 (fun y15 hy15 => ?_)
  refine v_aload C dJ2_grow_107 4 rfl ?_
  refine v_aload_n C dJ2_grow_109 1 rfl ?_
  refine g_getI C dJ2_grow_110 cls_11 (Nat.le_of_ble_eq_true rfl) fl_J2_24 fs_J2_24 (fun y16 hy16 => ?_)
  refine v_iload C dJ2_grow_113 0 rfl ?_
  refine v_iadd C dJ2_grow_115 ?_
  refine v_iload_n C dJ2_grow_116 2 rfl ?_
  refine v_aload_n C dJ2_grow_117 1 rfl ?_
  refine g_getI C dJ2_grow_118 cls_11 (Nat.le_of_ble_eq_true rfl) fl_J2_24 fs_J2_24 (fun y17 hy17 => ?_)
  refine v_isub C dJ2_grow_121 ?_
  exact VF.none
theorem w_J2_grow_49 {P : GP} {X : Ctx} {l : Launch} {S0 : St} {F : Nat} (hO : okG P) (C : CX (OG P) X l cJ2_grow 9 RJ2 none) (hm : X.2.2.2.2.2.2.2.2.2 = none) {x0 : Nat} {x2 : Int32} {x3 : Int32}  (S : St) : VF (OG P) X 9 3 78 S0 f_mv (C_J2_grow_49 F x0 x2 x3 S) S 49 [(0, .ref x0), (2, .int x2), (3, .int x3)] [] := by
  unfold C_J2_grow_49
  refine v_aload_n C dJ2_grow_49 0 rfl ?_
  refine v_aload_n C dJ2_grow_50 0 rfl ?_
  refine g_getA C dJ2_grow_51 cls_11 (Nat.le_of_ble_eq_true rfl) fl_J2_3 fs_J2_3 (fun y5 hy5 => ?_)
  refine v_iload_n C dJ2_grow_54 2 rfl ?_
  refine v_callS_ma C (As := [.ref y5, .int x3]) (st := [.ref x0]) lk_J2_14 dJ2_grow_55 rfl (Nat.le_of_ble_eq_true rfl) (Nat.le_of_ble_eq_true rfl) (Nat.le_of_ble_eq_true rfl) (fun _ z => met_J12_copyOf_3 hO S y5 x3 z) (fun r6 hr6 => ?_)
  refine v_dup_x1 C dJ2_grow_58 rfl rfl ?_
  refine g_putV C dJ2_grow_59 cls_11 (Nat.le_of_ble_eq_true rfl) fl_J2_3 fs_J2_3 rfl rfl rfl (fun S7 hS7 => ?_)
  refine v_astore C (lv' := [(5, .ref (r6.1)), (0, .ref x0), (2, .int x2), (3, .int x3)]) dJ2_grow_62 (Nat.le_of_ble_eq_true rfl) rfl ?_
  refine v_aload_n C dJ2_grow_64 1 rfl ?_
  refine g_getI C dJ2_grow_65 cls_11 (Nat.le_of_ble_eq_true rfl) fl_J2_20 fs_J2_20 (fun y8 hy8 => ?_)
  refine v_aload_n C dJ2_grow_68 1 rfl ?_
  refine g_getI C dJ2_grow_69 cls_11 (Nat.le_of_ble_eq_true rfl) fl_J2_24 fs_J2_24 (fun y9 hy9 => ?_)
  refine v_icmp_lt C (tgt := 96) dJ2_grow_72 rfl (fun _ => ?_) (fun _ => ?_)
  · exact v_sub [1, 2, 3, 0] rfl (w_J2_grow_96 hO C hm S7)
  · refine v_aload_n C dJ2_grow_75 1 rfl ?_
    refine g_getI C dJ2_grow_76 cls_11 (Nat.le_of_ble_eq_true rfl) fl_J2_20 fs_J2_20 (fun y10 hy10 => ?_)
    refine v_aload_n C dJ2_grow_79 1 rfl ?_
    refine g_getI C dJ2_grow_80 cls_11 (Nat.le_of_ble_eq_true rfl) fl_J2_24 fs_J2_24 (fun y11 hy11 => ?_)
    refine v_icmp_ne C (tgt := 164) dJ2_grow_83 rfl (fun _ => ?_) (fun _ => ?_)
    · refine v_aload C dJ2_grow_86 0 rfl ?_
      refine v_aload_n C dJ2_grow_88 1 rfl ?_
      refine g_getI C dJ2_grow_89 cls_11 (Nat.le_of_ble_eq_true rfl) fl_J2_24 fs_J2_24 (fun y12 hy12 => ?_)
      refine g_aal6 C dJ2_grow_92 (fun y13 hy13 => ?_)
      refine g_ifnull C (tgt := 164) dJ2_grow_93 rfl (fun _ => ?_) (fun _ => ?_)
      · exact v_vreturn C hm dJ2_grow_164 rfl
      · exact v_sub [1, 2, 3, 0] rfl (w_J2_grow_96 hO C hm S7)
    · exact v_vreturn C hm dJ2_grow_164 rfl
theorem w_J2_grow_41 {P : GP} {X : Ctx} {l : Launch} {S0 : St} {F : Nat} (hO : okG P) (C : CX (OG P) X l cJ2_grow 9 RJ2 none) (hm : X.2.2.2.2.2.2.2.2.2 = none) {x0 : Nat} {x1 : Int32} {x2 : Int32} {x4 : Int32}  (S : St) : VF (OG P) X 9 3 78 S0 f_mv (C_J2_grow_41 F x0 x1 x2 x4 S) S 41 [(0, .ref x0), (1, .int x1), (2, .int x2), (4, .int x4)] [] := by
  unfold C_J2_grow_41
  refine v_aload_n C dJ2_grow_41 0 rfl ?_
  refine v_iload_n C dJ2_grow_42 1 rfl ?_
  refine v_iload C dJ2_grow_43 3 rfl ?_
  refine g_callV_ri C (As := [.int x1, .int x4]) (st := []) lk_J2_10 dJ2_grow_45 rfl (Nat.le_of_ble_eq_true rfl) (Nat.le_of_ble_eq_true rfl) (Nat.le_of_ble_eq_true rfl) cls_11.1 rfl (fun _ z => rc_J2_newCapacity z) (fun _ z => met_J2_newCapacity hO S x0 x1 x4 z) (fun r4 hr4 => ?_)
  refine v_istore_n C (lv' := [(3, .int r4), (0, .ref x0), (1, .int x1), (2, .int x2), (4, .int x4)]) dJ2_grow_48 (Nat.le_of_ble_eq_true rfl) rfl ?_
  exact v_sub [1, 3, 0] rfl (w_J2_grow_49 hO C hm S)
theorem w_J2_grow_21 {P : GP} {X : Ctx} {l : Launch} {S0 : St} {F : Nat} (hO : okG P) (C : CX (OG P) X l cJ2_grow 9 RJ2 none) (hm : X.2.2.2.2.2.2.2.2.2 = none) {x0 : Nat} {x1 : Int32} {x2 : Int32}  (s0 : Int32) (S : St) : VF (OG P) X 9 3 78 S0 f_mv (C_J2_grow_21 F x0 x1 x2 s0 S) S 21 [(0, .ref x0), (1, .int x1), (2, .int x2)] [.int s0] := by
  unfold C_J2_grow_21
  refine v_istore C (lv' := [(4, .int s0), (0, .ref x0), (1, .int x1), (2, .int x2)]) dJ2_grow_21 (Nat.le_of_ble_eq_true rfl) rfl ?_
  refine v_iload C dJ2_grow_23 0 rfl ?_
  refine v_iload_n C dJ2_grow_25 2 rfl ?_
  refine v_icmp_lt C (tgt := 41) dJ2_grow_26 rfl (fun _ => ?_) (fun _ => ?_)
  · exact v_sub [1, 2, 3, 0] rfl (w_J2_grow_41 hO C hm S)
  · refine v_iload_n C dJ2_grow_29 3 rfl ?_
    refine v_iload C dJ2_grow_30 0 rfl ?_
    refine v_iadd C dJ2_grow_32 ?_
    refine v_leti (fun y3 hy3 => ?_)
    refine v_dup C dJ2_grow_33 rfl ?_
    refine v_istore_n C (lv' := [(3, .int y3), (4, .int s0), (0, .ref x0), (1, .int x1), (2, .int x2)]) dJ2_grow_34 (Nat.le_of_ble_eq_true rfl) rfl ?_
    refine v_ldc C dJ2_grow_35 q1208 ?_
    refine v_isub C dJ2_grow_37 ?_
    refine v_if_le C (tgt := 49) dJ2_grow_38 rfl (fun _ => ?_) (fun _ => ?_)
    · exact v_sub [2, 4, 0] rfl (w_J2_grow_49 hO C hm S)
    · exact v_sub [2, 3, 4, 1] rfl (w_J2_grow_41 hO C hm S)
theorem met_J2_grow {P : GP} {l : Launch} (hO : okG P) (F : Nat) (S : St) (x0 : Nat) (x1 : Int32) {r : St} (h : C_J2_grow F S x0 x1 = some r) : FM l (OG P) yJ2_grow (ws_ yJ2_grow cJ2_grow 9 none) 3 78 [.ref x0, .int x1] S (f_mv r) := by
  refine FM.of (own := RJ2) (lv := [(0, .ref x0), (1, .int x1)]) (OG_ok P hO) pl_J2 rfl (Nat.le_of_ble_eq_true rfl) rfl h (mono_J2_grow h).LE (fun X C hm => ?_)
  unfold C_J2_grow
  refine VF.bind (fun _ _ => ?_)
  refine v_aload_n C dJ2_grow_0 0 rfl ?_
  refine g_getA C dJ2_grow_1 cls_11 (Nat.le_of_ble_eq_true rfl) fl_J2_3 fs_J2_3 (fun y1 hy1 => ?_)
  refine g_alen (kd := 6) (fun _ => rfl) C dJ2_grow_4 (fun y2 hy2 => ?_)
  refine v_istore_n C (lv' := [(2, .int y2), (0, .ref x0), (1, .int x1)]) dJ2_grow_5 (Nat.le_of_ble_eq_true rfl) rfl ?_
  refine v_iload_n C dJ2_grow_6 0 rfl ?_
  refine v_bipush C dJ2_grow_7 cb_64 ?_
  refine v_icmp_ge C (tgt := 18) dJ2_grow_9 rfl (fun _ => ?_) (fun _ => ?_)
  · refine v_iload_n C dJ2_grow_18 0 rfl ?_
    refine v_iconst C dJ2_grow_19 ci_1 ?_
    refine v_ishr C dJ2_grow_20 ?_
    exact v_sub [1, 2, 0] rfl (w_J2_grow_21 hO C hm (y2 >>> (1 &&& 31)) S)
  · refine v_iload_n C dJ2_grow_12 0 rfl ?_
    refine v_iconst C dJ2_grow_13 ci_2 ?_
    refine v_iadd C dJ2_grow_14 ?_
    refine v_goto C (tgt := 21) dJ2_grow_15 rfl ?_
    exact v_sub [1, 2, 0] rfl (w_J2_grow_21 hO C hm (y2 + 2) S)
theorem mono_J2_addLast {F : Nat} {S : St} {x0 : Nat} {x1 : Nat} {r : St} (h : C_J2_addLast F S x0 x1 = some r) : leG S r := by
  have q : MF mf_s (C_J2_addLast F S x0 x1) S := by
    unfold C_J2_addLast
    refine mf_bind (fun _ _ => ?_)
    refine mf_bind (fun y1 hy1 => ?_)
    refine mf_bind (fun y2 hy2 => ?_)
    refine mf_tA (fun S3 hS3 => ?_)
    refine mf_bind (fun y4 hy4 => ?_)
    refine mf_bind (fun y5 hy5 => ?_)
    refine mf_bind (fun y6 hy6 => ?_)
    refine mf_bind (fun r7 hr7 => ?_)
    refine mf_put (fun S8 hS8 => ?_)
    refine mf_ite ?_ ?_
    · refine mf_callv (fun _ z => mono_J2_grow z) (fun r9 hr9 => ?_)
      exact mf_ret leG.rf
    · exact mf_ret leG.rf
  exact q r h
theorem met_J2_addLast {P : GP} {l : Launch} (hO : okG P) (F : Nat) (S : St) (x0 : Nat) (x1 : Nat) {r : St} (h : C_J2_addLast F S x0 x1 = some r) : FM l (OG P) yJ2_addLast (ws_ yJ2_addLast cJ2_addLast 3 none) 4 106 [.ref x0, .ref x1] S (f_mv r) := by
  refine FM.of (own := RJ2) (lv := [(0, .ref x0), (1, .ref x1)]) (OG_ok P hO) pl_J2 rfl (Nat.le_of_ble_eq_true rfl) rfl h (mono_J2_addLast h).LE (fun X C hm => ?_)
  unfold C_J2_addLast
  refine VF.bind (fun _ _ => ?_)
  refine v_aload_n C dJ2_addLast_0 1 rfl ?_
  refine g_ifnA C (tgt := 12) dJ2_addLast_1 rfl ?_
  refine v_aload_n C dJ2_addLast_12 0 rfl ?_
  refine g_getA C dJ2_addLast_13 cls_11 (Nat.le_of_ble_eq_true rfl) fl_J2_3 fs_J2_3 (fun y1 hy1 => ?_)
  refine v_astore_n C (lv' := [(2, .ref y1), (0, .ref x0), (1, .ref x1)]) dJ2_addLast_16 (Nat.le_of_ble_eq_true rfl) rfl ?_
  refine v_aload_n C dJ2_addLast_17 0 rfl ?_
  refine v_aload_n C dJ2_addLast_18 1 rfl ?_
  refine g_getI C dJ2_addLast_19 cls_11 (Nat.le_of_ble_eq_true rfl) fl_J2_20 fs_J2_20 (fun y2 hy2 => ?_)
  refine v_aload_n C dJ2_addLast_22 2 rfl ?_
  refine g_aas C dJ2_addLast_23 (fun _ => rfl) rfl (Or.inr q2540) (fun S3 hS3 => ?_)
  refine v_aload_n C dJ2_addLast_24 1 rfl ?_
  refine g_getI C dJ2_addLast_25 cls_11 (Nat.le_of_ble_eq_true rfl) fl_J2_24 fs_J2_24 (fun y4 hy4 => ?_)
  refine v_aload_n C dJ2_addLast_28 1 rfl ?_
  refine v_aload_n C dJ2_addLast_29 1 rfl ?_
  refine g_getI C dJ2_addLast_30 cls_11 (Nat.le_of_ble_eq_true rfl) fl_J2_20 fs_J2_20 (fun y5 hy5 => ?_)
  refine v_aload_n C dJ2_addLast_33 0 rfl ?_
  refine g_alen (kd := 6) (fun _ => rfl) C dJ2_addLast_34 (fun y6 hy6 => ?_)
  refine v_callS_ri C (As := [.int y5, .int y6]) (st := [.ref x0, .int y4]) lk_J2_74 dJ2_addLast_35 rfl (Nat.le_of_ble_eq_true rfl) (Nat.le_of_ble_eq_true rfl) (Nat.le_of_ble_eq_true rfl) (fun _ z => met_J2_inc hO S3 y5 y6 z) (fun r7 hr7 => ?_)
  refine v_dup_x1 C dJ2_addLast_38 rfl rfl ?_
  refine g_putV C dJ2_addLast_39 cls_11 (Nat.le_of_ble_eq_true rfl) fl_J2_20 fs_J2_20 rfl rfl rfl (fun S8 hS8 => ?_)
  refine v_icmp_ne C (tgt := 50) dJ2_addLast_42 rfl (fun _ => ?_) (fun _ => ?_)
  · refine v_aload_n C dJ2_addLast_45 1 rfl ?_
    refine v_iconst C dJ2_addLast_46 ci_1 ?_
    refine g_callV_mv C (As := [.int 1]) (st := []) lk_J2_71 dJ2_addLast_47 rfl (Nat.le_of_ble_eq_true rfl) (Nat.le_of_ble_eq_true rfl) (Nat.le_of_ble_eq_true rfl) cls_11.1 rfl (fun _ z => rc_J2_grow z) (fun _ z => met_J2_grow hO F S8 x0 1 z) (fun r9 hr9 => ?_)
    exact v_vreturn C hm dJ2_addLast_50 rfl
  · exact v_vreturn C hm dJ2_addLast_50 rfl
theorem met_J2_isEmpty {P : GP} {l : Launch} (hO : okG P) (S : St) (x0 : Nat) {r : Int32} (h : C_J2_isEmpty S x0 = some r) : FM l (OG P) yJ2_isEmpty (ws_ yJ2_isEmpty cJ2_isEmpty 1 (some .boolean)) 0 0 [.ref x0] S ((f_ri S) r) := by
  refine FM.of (own := RJ2) (lv := [(0, .ref x0)]) (OG_ok P hO) pl_J2 rfl (Nat.le_of_ble_eq_true rfl) rfl h LE.rf (fun X C hm => ?_)
  unfold C_J2_isEmpty
  refine VF.bind (fun _ _ => ?_)
  refine v_aload_n C dJ2_isEmpty_0 0 rfl ?_
  refine g_getI C dJ2_isEmpty_1 cls_11 (Nat.le_of_ble_eq_true rfl) fl_J2_24 fs_J2_24 (fun y1 hy1 => ?_)
  refine v_aload_n C dJ2_isEmpty_4 0 rfl ?_
  refine g_getI C dJ2_isEmpty_5 cls_11 (Nat.le_of_ble_eq_true rfl) fl_J2_20 fs_J2_20 (fun y2 hy2 => ?_)
  refine v_icmp_ne C (tgt := 15) dJ2_isEmpty_8 rfl (fun _ => ?_) (fun _ => ?_)
  · refine v_iconst C dJ2_isEmpty_11 ci_1 ?_
    refine v_goto C (tgt := 16) dJ2_isEmpty_12 rfl ?_
    exact v_zreturn C hm dJ2_isEmpty_16 (Or.inr rfl) rfl
  · refine v_iconst C dJ2_isEmpty_15 ci_0 ?_
    exact v_zreturn C hm dJ2_isEmpty_16 (Or.inl rfl) rfl
theorem met_J2_dec {P : GP} {l : Launch} (hO : okG P) (S : St) (x0 : Int32) (x1 : Int32) {r : Int32} (h : C_J2_dec x0 x1 = some r) : FM l (OG P) yJ2_dec (ws_ yJ2_dec cJ2_dec 2 (some .int)) 0 0 [.int x0, .int x1] S ((f_ri S) r) := by
  refine FM.of (own := RJ2) (lv := [(0, .int x0), (1, .int x1)]) (OG_ok P hO) pl_J2 rfl (Nat.le_of_ble_eq_true rfl) rfl h LE.rf (fun X C hm => ?_)
  unfold C_J2_dec
  refine v_iincN C (lv' := fun y1 => [(0, .int y1), (1, .int x1)]) dJ2_dec_0 0 rfl ci_m1 (Nat.le_of_ble_eq_true rfl) (fun _ => rfl) (fun y1 hy1 => ?_)
  refine v_iload_n C dJ2_dec_3 0 rfl ?_
  refine v_if_ge C (tgt := 11) dJ2_dec_4 rfl (fun _ => ?_) (fun _ => ?_)
  · refine v_iload_n C dJ2_dec_11 0 rfl ?_
    exact v_ireturn C hm dJ2_dec_12 rfl
  · refine v_iload_n C dJ2_dec_7 1 rfl ?_
    refine v_iconst C dJ2_dec_8 ci_1 ?_
    refine v_isub C dJ2_dec_9 ?_
    refine v_leti (fun y2 hy2 => ?_)
    refine v_istore_n C (lv' := [(0, .int y2), (1, .int x1)]) dJ2_dec_10 (Nat.le_of_ble_eq_true rfl) rfl ?_
    refine v_iload_n C dJ2_dec_11 0 rfl ?_
    exact v_ireturn C hm dJ2_dec_12 rfl
theorem mono_J2_pollLast {S : St} {x0 : Nat} {r : Option Nat × St} (h : C_J2_pollLast S x0 = some r) : leG S r.2 := by
  have q : MF mf_p (C_J2_pollLast S x0) S := by
    unfold C_J2_pollLast
    refine mf_bind (fun _ _ => ?_)
    refine mf_bind (fun y1 hy1 => ?_)
    refine mf_bind (fun y2 hy2 => ?_)
    refine mf_bind (fun y3 hy3 => ?_)
    refine mf_bind (fun r4 hr4 => ?_)
    refine mf_bind (fun r5 hr5 => ?_)
    refine mf_ite ?_ ?_
    · exact mf_ret leG.rf
    · refine mf_put (fun S6 hS6 => ?_)
      refine mf_tQ (fun S7 hS7 => ?_)
      exact mf_ret leG.rf
  exact q r h
theorem met_J2_pollLast {P : GP} {l : Launch} (hO : okG P) (S : St) (x0 : Nat) {r : Option Nat × St} (h : C_J2_pollLast S x0 = some r) : FM l (OG P) yJ2_pollLast (ws_ yJ2_pollLast cJ2_pollLast 4 (some (.object "java/lang/Object"))) 1 21 [.ref x0] S (f_mq r) := by
  refine FM.of (own := RJ2) (lv := [(0, .ref x0)]) (OG_ok P hO) pl_J2 rfl (Nat.le_of_ble_eq_true rfl) rfl h (mono_J2_pollLast h).LE (fun X C hm => ?_)
  unfold C_J2_pollLast
  refine VF.bind (fun _ _ => ?_)
  refine v_aload_n C dJ2_pollLast_0 0 rfl ?_
  refine g_getA C dJ2_pollLast_1 cls_11 (Nat.le_of_ble_eq_true rfl) fl_J2_3 fs_J2_3 (fun y1 hy1 => ?_)
  refine v_dup C dJ2_pollLast_4 rfl ?_
  refine v_astore_n C (lv' := [(1, .ref y1), (0, .ref x0)]) dJ2_pollLast_5 (Nat.le_of_ble_eq_true rfl) rfl ?_
  refine v_aload_n C dJ2_pollLast_6 1 rfl ?_
  refine g_getI C dJ2_pollLast_7 cls_11 (Nat.le_of_ble_eq_true rfl) fl_J2_20 fs_J2_20 (fun y2 hy2 => ?_)
  refine v_aload_n C dJ2_pollLast_10 0 rfl ?_
  refine g_alen (kd := 6) (fun _ => rfl) C dJ2_pollLast_11 (fun y3 hy3 => ?_)
  refine v_callS_ri C (As := [.int y2, .int y3]) (st := [.ref y1]) lk_J2_68 dJ2_pollLast_12 rfl (Nat.le_of_ble_eq_true rfl) (Nat.le_of_ble_eq_true rfl) (Nat.le_of_ble_eq_true rfl) (fun _ z => met_J2_dec hO S y2 y3 z) (fun r4 hr4 => ?_)
  refine v_dup C dJ2_pollLast_15 rfl ?_
  refine v_istore_n C (lv' := [(2, .int r4), (1, .ref y1), (0, .ref x0)]) dJ2_pollLast_16 (Nat.le_of_ble_eq_true rfl) rfl ?_
  refine v_callS_rq C (As := [.ref y1, .int r4]) (st := []) lk_J2_103 dJ2_pollLast_17 rfl (Nat.le_of_ble_eq_true rfl) (Nat.le_of_ble_eq_true rfl) (Nat.le_of_ble_eq_true rfl) (fun _ z => met_J2_elementAt hO S y1 r4 z) (fun r5 hr5 => ?_)
  refine g_astore_nQ C (lv' := [(3, va_rf r5), (2, .int r4), (1, .ref y1), (0, .ref x0)]) dJ2_pollLast_20 (Nat.le_of_ble_eq_true rfl) rfl ?_
  refine g_aload_nQ C dJ2_pollLast_21 0 rfl ?_
  refine g_ifnull C (tgt := 34) dJ2_pollLast_22 rfl (fun _ => ?_) (fun _ => ?_)
  · refine g_aload_nQ C dJ2_pollLast_34 0 rfl ?_
    exact v_areturn C hm dJ2_pollLast_35 (Or.inl ⟨_, rfl⟩) (va_rf_or r5) rfl
  · refine v_aload_n C dJ2_pollLast_25 2 rfl ?_
    refine v_aload_n C dJ2_pollLast_26 3 rfl ?_
    refine v_iload_n C dJ2_pollLast_27 1 rfl ?_
    refine v_dup_x1 C dJ2_pollLast_28 rfl rfl ?_
    refine g_putV C dJ2_pollLast_29 cls_11 (Nat.le_of_ble_eq_true rfl) fl_J2_20 fs_J2_20 rfl rfl rfl (fun S6 hS6 => ?_)
    refine g_null C dJ2_pollLast_32 ?_
    refine g_aasN C dJ2_pollLast_33 (fun _ => rfl) (fun S7 hS7 => ?_)
    refine g_aload_nQ C dJ2_pollLast_34 0 rfl ?_
    exact v_areturn C hm dJ2_pollLast_35 (Or.inl ⟨_, rfl⟩) (va_rf_or r5) rfl
theorem mono_J2_removeLast {S : St} {x0 : Nat} {r : Nat × St} (h : C_J2_removeLast S x0 = some r) : leG S r.2 := by
  have q : MF mf_p (C_J2_removeLast S x0) S := by
    unfold C_J2_removeLast
    refine mf_bind (fun _ _ => ?_)
    refine mf_call (fun _ z => mono_J2_pollLast z) (fun r1 hr1 => ?_)
    refine mf_bind (fun y2 hy2 => ?_)
    refine mf_ite ?_ ?_
    · exact mf_none
    · refine mf_bind (fun a3 ha3 => ?_)
      exact mf_ret leG.rf
  exact q r h
theorem met_J2_removeLast {P : GP} {l : Launch} (hO : okG P) (S : St) (x0 : Nat) {r : Nat × St} (h : C_J2_removeLast S x0 = some r) : FM l (OG P) yJ2_removeLast (ws_ yJ2_removeLast cJ2_removeLast 2 (some (.object "java/lang/Object"))) 2 44 [.ref x0] S (f_ma r) := by
  refine FM.of (own := RJ2) (lv := [(0, .ref x0)]) (OG_ok P hO) pl_J2 rfl (Nat.le_of_ble_eq_true rfl) rfl h (mono_J2_removeLast h).LE (fun X C hm => ?_)
  unfold C_J2_removeLast
  refine VF.bind (fun _ _ => ?_)
  refine v_aload_n C dJ2_removeLast_0 0 rfl ?_
  refine g_callV_mq C (As := []) (st := []) lk_J2_100 dJ2_removeLast_1 rfl (Nat.le_of_ble_eq_true rfl) (Nat.le_of_ble_eq_true rfl) (Nat.le_of_ble_eq_true rfl) cls_11.1 rfl (fun _ z => rc_J2_pollLast z) (fun _ z => met_J2_pollLast hO S x0 z) (fun r1 hr1 => ?_)
  refine g_letq (fun y2 hy2 => ?_)
  refine g_astore_nQ C (lv' := [(1, va_rf y2), (0, .ref x0)]) dJ2_removeLast_4 (Nat.le_of_ble_eq_true rfl) rfl ?_
  refine g_aload_nQ C dJ2_removeLast_5 0 rfl ?_
  refine g_ifnonnull C (tgt := 17) dJ2_removeLast_6 rfl (fun _ => ?_) (fun _ => ?_)
  · exact VF.none
  · refine g_aload_nQ C dJ2_removeLast_17 0 rfl ?_
    refine VF.bind (fun a3 ha3 => ?_)
    subst ha3
    exact v_areturn C hm dJ2_removeLast_18 (Or.inl ⟨_, rfl⟩) (Or.inr ⟨_, rfl⟩) rfl
theorem w_J20_checkFromToIndex_14 {P : GP} {X : Ctx} {l : Launch} {S : St} (hO : okG P) (C : CX (OG P) X l cJ20_checkFromToIndex 4 RJ20 (some .int)) (hm : X.2.2.2.2.2.2.2.2.2 = none) {x0 : Int32} {x1 : Int32} {x2 : Int32} {x3 : Nat}   : VF (OG P) X 4 0 0 S (f_ri S) (C_J20_checkFromToIndex_14 x0 x1 x2 x3) S 14 [(0, .int x0), (1, .int x1), (2, .int x2), (3, .ref x3)] [] := by
  unfold C_J20_checkFromToIndex_14
  refine v_aload_n C dJ20_checkFromToIndex_14 3 rfl ?_
  refine v_iload_n C dJ20_checkFromToIndex_15 0 rfl ?_
  refine v_iload_n C dJ20_checkFromToIndex_16 1 rfl ?_
  refine v_iload_n C dJ20_checkFromToIndex_17 2 rfl ?_
  exact VF.none
theorem met_J20_checkFromToIndex {P : GP} {l : Launch} (hO : okG P) (S : St) (x0 : Int32) (x1 : Int32) (x2 : Int32) (x3 : Nat) {r : Int32} (h : C_J20_checkFromToIndex x0 x1 x2 x3 = some r) : FM l (OG P) yJ20_checkFromToIndex (ws_ yJ20_checkFromToIndex cJ20_checkFromToIndex 4 (some .int)) 0 0 [.int x0, .int x1, .int x2, .ref x3] S ((f_ri S) r) := by
  refine FM.of (own := RJ20) (lv := [(0, .int x0), (1, .int x1), (2, .int x2), (3, .ref x3)]) (OG_ok P hO) pl_J20 rfl (Nat.le_of_ble_eq_true rfl) rfl h LE.rf (fun X C hm => ?_)
  unfold C_J20_checkFromToIndex
  refine v_iload_n C dJ20_checkFromToIndex_0 0 rfl ?_
  refine v_if_lt C (tgt := 14) dJ20_checkFromToIndex_1 rfl (fun _ => ?_) (fun _ => ?_)
  · exact v_sub [0, 1, 2, 3] rfl (w_J20_checkFromToIndex_14 hO C hm)
  · refine v_iload_n C dJ20_checkFromToIndex_4 0 rfl ?_
    refine v_iload_n C dJ20_checkFromToIndex_5 1 rfl ?_
    refine v_icmp_gt C (tgt := 14) dJ20_checkFromToIndex_6 rfl (fun _ => ?_) (fun _ => ?_)
    · exact v_sub [0, 1, 2, 3] rfl (w_J20_checkFromToIndex_14 hO C hm)
    · refine v_iload_n C dJ20_checkFromToIndex_9 1 rfl ?_
      refine v_iload_n C dJ20_checkFromToIndex_10 2 rfl ?_
      refine v_icmp_le C (tgt := 22) dJ20_checkFromToIndex_11 rfl (fun _ => ?_) (fun _ => ?_)
      · refine v_iload_n C dJ20_checkFromToIndex_22 0 rfl ?_
        exact v_ireturn C hm dJ20_checkFromToIndex_23 rfl
      · exact v_sub [0, 1, 2, 3] rfl (w_J20_checkFromToIndex_14 hO C hm)
theorem w_J20_checkFromIndexSize_15 {P : GP} {X : Ctx} {l : Launch} {S : St} (hO : okG P) (C : CX (OG P) X l cJ20_checkFromIndexSize 4 RJ20 (some .int)) (hm : X.2.2.2.2.2.2.2.2.2 = none) {x0 : Int32} {x1 : Int32} {x2 : Int32} {x3 : Nat}   : VF (OG P) X 4 0 0 S (f_ri S) (C_J20_checkFromIndexSize_15 x0 x1 x2 x3) S 15 [(0, .int x0), (1, .int x1), (2, .int x2), (3, .ref x3)] [] := by
  unfold C_J20_checkFromIndexSize_15
  refine v_aload_n C dJ20_checkFromIndexSize_15 3 rfl ?_
  refine v_iload_n C dJ20_checkFromIndexSize_16 0 rfl ?_
  refine v_iload_n C dJ20_checkFromIndexSize_17 1 rfl ?_
  refine v_iload_n C dJ20_checkFromIndexSize_18 2 rfl ?_
  exact VF.none
theorem met_J20_checkFromIndexSize {P : GP} {l : Launch} (hO : okG P) (S : St) (x0 : Int32) (x1 : Int32) (x2 : Int32) (x3 : Nat) {r : Int32} (h : C_J20_checkFromIndexSize x0 x1 x2 x3 = some r) : FM l (OG P) yJ20_checkFromIndexSize (ws_ yJ20_checkFromIndexSize cJ20_checkFromIndexSize 4 (some .int)) 0 0 [.int x0, .int x1, .int x2, .ref x3] S ((f_ri S) r) := by
  refine FM.of (own := RJ20) (lv := [(0, .int x0), (1, .int x1), (2, .int x2), (3, .ref x3)]) (OG_ok P hO) pl_J20 rfl (Nat.le_of_ble_eq_true rfl) rfl h LE.rf (fun X C hm => ?_)
  unfold C_J20_checkFromIndexSize
  refine v_iload_n C dJ20_checkFromIndexSize_0 2 rfl ?_
  refine v_iload_n C dJ20_checkFromIndexSize_1 0 rfl ?_
  refine v_ior C dJ20_checkFromIndexSize_2 ?_
  refine v_iload_n C dJ20_checkFromIndexSize_3 1 rfl ?_
  refine v_ior C dJ20_checkFromIndexSize_4 ?_
  refine v_if_lt C (tgt := 15) dJ20_checkFromIndexSize_5 rfl (fun _ => ?_) (fun _ => ?_)
  · exact v_sub [0, 1, 2, 3] rfl (w_J20_checkFromIndexSize_15 hO C hm)
  · refine v_iload_n C dJ20_checkFromIndexSize_8 1 rfl ?_
    refine v_iload_n C dJ20_checkFromIndexSize_9 2 rfl ?_
    refine v_iload_n C dJ20_checkFromIndexSize_10 0 rfl ?_
    refine v_isub C dJ20_checkFromIndexSize_11 ?_
    refine v_icmp_le C (tgt := 23) dJ20_checkFromIndexSize_12 rfl (fun _ => ?_) (fun _ => ?_)
    · refine v_iload_n C dJ20_checkFromIndexSize_23 0 rfl ?_
      exact v_ireturn C hm dJ20_checkFromIndexSize_24 rfl
    · exact v_sub [0, 1, 2, 3] rfl (w_J20_checkFromIndexSize_15 hO C hm)
theorem w_J20_checkIndex_9 {P : GP} {X : Ctx} {l : Launch} {S : St} (hO : okG P) (C : CX (OG P) X l cJ20_checkIndex 3 RJ20 (some .int)) (hm : X.2.2.2.2.2.2.2.2.2 = none) {x0 : Int32} {x1 : Int32} {x2 : Nat}   : VF (OG P) X 3 0 0 S (f_ri S) (C_J20_checkIndex_9 x0 x1 x2) S 9 [(0, .int x0), (1, .int x1), (2, .ref x2)] [] := by
  unfold C_J20_checkIndex_9
  refine v_aload_n C dJ20_checkIndex_9 2 rfl ?_
  refine v_iload_n C dJ20_checkIndex_10 0 rfl ?_
  refine v_iload_n C dJ20_checkIndex_11 1 rfl ?_
  exact VF.none
theorem met_J20_checkIndex {P : GP} {l : Launch} (hO : okG P) (S : St) (x0 : Int32) (x1 : Int32) (x2 : Nat) {r : Int32} (h : C_J20_checkIndex x0 x1 x2 = some r) : FM l (OG P) yJ20_checkIndex (ws_ yJ20_checkIndex cJ20_checkIndex 3 (some .int)) 0 0 [.int x0, .int x1, .ref x2] S ((f_ri S) r) := by
  refine FM.of (own := RJ20) (lv := [(0, .int x0), (1, .int x1), (2, .ref x2)]) (OG_ok P hO) pl_J20 rfl (Nat.le_of_ble_eq_true rfl) rfl h LE.rf (fun X C hm => ?_)
  unfold C_J20_checkIndex
  refine v_iload_n C dJ20_checkIndex_0 0 rfl ?_
  refine v_if_lt C (tgt := 9) dJ20_checkIndex_1 rfl (fun _ => ?_) (fun _ => ?_)
  · exact v_sub [0, 1, 2] rfl (w_J20_checkIndex_9 hO C hm)
  · refine v_iload_n C dJ20_checkIndex_4 0 rfl ?_
    refine v_iload_n C dJ20_checkIndex_5 1 rfl ?_
    refine v_icmp_lt C (tgt := 16) dJ20_checkIndex_6 rfl (fun _ => ?_) (fun _ => ?_)
    · refine v_iload_n C dJ20_checkIndex_16 0 rfl ?_
      exact v_ireturn C hm dJ20_checkIndex_17 rfl
    · exact v_sub [0, 1, 2] rfl (w_J20_checkIndex_9 hO C hm)
theorem mono_J21_fillNull {F : Nat} {S : St} {x0 : Nat} {x1 : Int32} {x2 : Int32} {r : St} (h : C_J21_fillNull F S x0 x1 x2 = some r) : leG S r := by
  have q : MF mf_s (C_J21_fillNull F S x0 x1 x2) S := by
    unfold C_J21_fillNull
    refine mf_callv (fun _ z => mono_J12_fill z) (fun r1 hr1 => ?_)
    exact mf_ret leG.rf
  exact q r h
theorem met_J21_fillNull {P : GP} {l : Launch} (hO : okG P) (F : Nat) (S : St) (x0 : Nat) (x1 : Int32) (x2 : Int32) {r : St} (h : C_J21_fillNull F S x0 x1 x2 = some r) : FM l (OG P) yJ21_fillNull (ws_ yJ21_fillNull cJ21_fillNull 3 none) 9 215 [.ref x0, .int x1, .int x2] S (f_mv r) := by
  refine FM.of (own := RJ21) (lv := [(0, .ref x0), (1, .int x1), (2, .int x2)]) (OG_ok P hO) pl_J21 rfl (Nat.le_of_ble_eq_true rfl) rfl h (mono_J21_fillNull h).LE (fun X C hm => ?_)
  unfold C_J21_fillNull
  refine v_aload_n C dJ21_fillNull_0 0 rfl ?_
  refine v_iload_n C dJ21_fillNull_1 1 rfl ?_
  refine v_iload_n C dJ21_fillNull_2 2 rfl ?_
  refine v_iconst C dJ21_fillNull_3 ci_0 ?_
  refine v_callS_mv C (As := [.ref x0, .int x1, .int x2, .int 0]) (st := []) lk_J21_236 dJ21_fillNull_4 rfl (Nat.le_of_ble_eq_true rfl) (Nat.le_of_ble_eq_true rfl) (Nat.le_of_ble_eq_true rfl) (fun _ z => met_J12_fill hO F S x0 x1 x2 0 z) (fun r1 hr1 => ?_)
  exact v_vreturn C hm dJ21_fillNull_7 rfl
theorem met_J5_checkIndex {P : GP} {l : Launch} (hO : okG P) (S : St) (x0 : Int32) (x1 : Int32) {r : Unit} (h : C_J5_checkIndex P.2.2.2.2.2 x0 x1 = some r) : FM l (OG P) yJ5_checkIndex (ws_ yJ5_checkIndex cJ5_checkIndex 2 none) 1 22 [.int x0, .int x1] S ((f_rv S) r) := by
  refine FM.of (own := RJ5) (lv := [(0, .int x0), (1, .int x1)]) (OG_ok P hO) pl_J5 rfl (Nat.le_of_ble_eq_true rfl) rfl h LE.rf (fun X C hm => ?_)
  unfold C_J5_checkIndex
  refine v_iload_n C dJ5_checkIndex_0 0 rfl ?_
  refine v_iload_n C dJ5_checkIndex_1 1 rfl ?_
  refine g_gets C dJ5_checkIndex_2 (zG_6 P) q400 ?_
  refine v_callS_ri C (As := [.int x0, .int x1, .ref (P.2.2.2.2.2 4)]) (st := []) lk_J5_1059 dJ5_checkIndex_5 rfl (Nat.le_of_ble_eq_true rfl) (Nat.le_of_ble_eq_true rfl) (Nat.le_of_ble_eq_true rfl) (fun _ z => met_J20_checkIndex hO S x0 x1 (P.2.2.2.2.2 4) z) (fun r1 hr1 => ?_)
  refine v_pop C dJ5_checkIndex_8 rfl ?_
  exact v_vreturn C hm dJ5_checkIndex_9 rfl
theorem met_J21_charAt {P : GP} {l : Launch} (hO : okG P) (S : St) (x0 : Nat) (x1 : Int32) {r : Int32} (h : C_J21_charAt P.2.2.2.2.2 S x0 x1 = some r) : FM l (OG P) yJ21_charAt (ws_ yJ21_charAt cJ21_charAt 2 (some .char)) 2 43 [.ref x0, .int x1] S ((f_ri S) r) := by
  refine FM.of (own := RJ21) (lv := [(0, .ref x0), (1, .int x1)]) (OG_ok P hO) pl_J21 rfl (Nat.le_of_ble_eq_true rfl) rfl h LE.rf (fun X C hm => ?_)
  unfold C_J21_charAt
  refine v_iload_n C dJ21_charAt_0 1 rfl ?_
  refine v_aload_n C dJ21_charAt_1 0 rfl ?_
  refine g_alen (kd := 2) (fun _ => rfl) C dJ21_charAt_2 (fun y1 hy1 => ?_)
  refine v_callS_rv C (As := [.int x1, .int y1]) (st := []) lk_J21_9 dJ21_charAt_3 rfl (Nat.le_of_ble_eq_true rfl) (Nat.le_of_ble_eq_true rfl) (Nat.le_of_ble_eq_true rfl) (fun _ z => met_J5_checkIndex hO S x1 y1 z) (fun r2 hr2 => ?_)
  refine v_aload_n C dJ21_charAt_6 0 rfl ?_
  refine v_iload_n C dJ21_charAt_7 1 rfl ?_
  refine g_bal C dJ21_charAt_8 (fun y3 hy3 => ?_)
  refine v_sipush C dJ21_charAt_9 cs_255 ?_
  refine v_iand C dJ21_charAt_12 ?_
  refine v_i2c C dJ21_charAt_13 ?_
  refine v_zc (fun b4 hb4 => ?_)
  exact v_creturn C hm dJ21_charAt_14 hb4 rfl
theorem met_J21_canEncode {P : GP} {l : Launch} (hO : okG P) (S : St) (x0 : Int32) {r : Int32} (h : C_J21_canEncode x0 = some r) : FM l (OG P) yJ21_canEncode (ws_ yJ21_canEncode cJ21_canEncode 1 (some .boolean)) 0 0 [.int x0] S ((f_ri S) r) := by
  refine FM.of (own := RJ21) (lv := [(0, .int x0)]) (OG_ok P hO) pl_J21 rfl (Nat.le_of_ble_eq_true rfl) rfl h LE.rf (fun X C hm => ?_)
  unfold C_J21_canEncode
  refine v_iload_n C dJ21_canEncode_0 0 rfl ?_
  refine v_sipush C dJ21_canEncode_1 cs_255 ?_
  refine v_icmp_gt C (tgt := 11) dJ21_canEncode_4 rfl (fun _ => ?_) (fun _ => ?_)
  · refine v_iconst C dJ21_canEncode_11 ci_0 ?_
    exact v_zreturn C hm dJ21_canEncode_12 (Or.inl rfl) rfl
  · refine v_iconst C dJ21_canEncode_7 ci_1 ?_
    refine v_goto C (tgt := 12) dJ21_canEncode_8 rfl ?_
    exact v_zreturn C hm dJ21_canEncode_12 (Or.inr rfl) rfl
theorem w_J22_numberOfTrailingZeros_74 {P : GP} {X : Ctx} {l : Launch} {S : St} (hO : okG P) (C : CX (OG P) X l cJ22_numberOfTrailingZeros 2 RJ22 (some .int)) (hm : X.2.2.2.2.2.2.2.2.2 = none) {x0 : Int32} {x1 : Int32}   : VF (OG P) X 2 0 0 S (f_ri S) (C_J22_numberOfTrailingZeros_74 x0 x1) S 74 [(0, .int x0), (1, .int x1)] [] := by
  unfold C_J22_numberOfTrailingZeros_74
  refine v_iload_n C dJ22_numberOfTrailingZeros_74 1 rfl ?_
  refine v_iload_n C dJ22_numberOfTrailingZeros_75 0 rfl ?_
  refine v_iconst C dJ22_numberOfTrailingZeros_76 ci_1 ?_
  refine v_iushr C dJ22_numberOfTrailingZeros_77 ?_
  refine v_iadd C dJ22_numberOfTrailingZeros_78 ?_
  exact v_ireturn C hm dJ22_numberOfTrailingZeros_79 rfl
theorem w_J22_numberOfTrailingZeros_62 {P : GP} {X : Ctx} {l : Launch} {S : St} (hO : okG P) (C : CX (OG P) X l cJ22_numberOfTrailingZeros 2 RJ22 (some .int)) (hm : X.2.2.2.2.2.2.2.2.2 = none) {x0 : Int32} {x1 : Int32}   : VF (OG P) X 2 0 0 S (f_ri S) (C_J22_numberOfTrailingZeros_62 x0 x1) S 62 [(0, .int x0), (1, .int x1)] [] := by
  unfold C_J22_numberOfTrailingZeros_62
  refine v_iload_n C dJ22_numberOfTrailingZeros_62 0 rfl ?_
  refine v_iconst C dJ22_numberOfTrailingZeros_63 ci_4 ?_
  refine v_icmp_le C (tgt := 74) dJ22_numberOfTrailingZeros_64 rfl (fun _ => ?_) (fun _ => ?_)
  · exact v_sub [0, 1] rfl (w_J22_numberOfTrailingZeros_74 hO C hm)
  · refine v_iincN C (lv' := fun y8 => [(1, .int y8), (0, .int x0)]) dJ22_numberOfTrailingZeros_67 1 rfl ci_2 (Nat.le_of_ble_eq_true rfl) (fun _ => rfl) (fun y8 hy8 => ?_)
    refine v_iload_n C dJ22_numberOfTrailingZeros_70 1 rfl ?_
    refine v_iconst C dJ22_numberOfTrailingZeros_71 ci_2 ?_
    refine v_iushr C dJ22_numberOfTrailingZeros_72 ?_
    refine v_leti (fun y9 hy9 => ?_)
    refine v_istore_n C (lv' := [(0, .int y9), (1, .int y8)]) dJ22_numberOfTrailingZeros_73 (Nat.le_of_ble_eq_true rfl) rfl ?_
    exact v_sub [0, 1] rfl (w_J22_numberOfTrailingZeros_74 hO C hm)
theorem w_J22_numberOfTrailingZeros_49 {P : GP} {X : Ctx} {l : Launch} {S : St} (hO : okG P) (C : CX (OG P) X l cJ22_numberOfTrailingZeros 2 RJ22 (some .int)) (hm : X.2.2.2.2.2.2.2.2.2 = none) {x0 : Int32} {x1 : Int32}   : VF (OG P) X 2 0 0 S (f_ri S) (C_J22_numberOfTrailingZeros_49 x0 x1) S 49 [(0, .int x0), (1, .int x1)] [] := by
  unfold C_J22_numberOfTrailingZeros_49
  refine v_iload_n C dJ22_numberOfTrailingZeros_49 0 rfl ?_
  refine v_bipush C dJ22_numberOfTrailingZeros_50 cb_16 ?_
  refine v_icmp_le C (tgt := 62) dJ22_numberOfTrailingZeros_52 rfl (fun _ => ?_) (fun _ => ?_)
  · exact v_sub [0, 1] rfl (w_J22_numberOfTrailingZeros_62 hO C hm)
  · refine v_iincN C (lv' := fun y6 => [(1, .int y6), (0, .int x0)]) dJ22_numberOfTrailingZeros_55 1 rfl ci_4 (Nat.le_of_ble_eq_true rfl) (fun _ => rfl) (fun y6 hy6 => ?_)
    refine v_iload_n C dJ22_numberOfTrailingZeros_58 1 rfl ?_
    refine v_iconst C dJ22_numberOfTrailingZeros_59 ci_4 ?_
    refine v_iushr C dJ22_numberOfTrailingZeros_60 ?_
    refine v_leti (fun y7 hy7 => ?_)
    refine v_istore_n C (lv' := [(0, .int y7), (1, .int y6)]) dJ22_numberOfTrailingZeros_61 (Nat.le_of_ble_eq_true rfl) rfl ?_
    exact v_sub [0, 1] rfl (w_J22_numberOfTrailingZeros_62 hO C hm)
theorem w_J22_numberOfTrailingZeros_34 {P : GP} {X : Ctx} {l : Launch} {S : St} (hO : okG P) (C : CX (OG P) X l cJ22_numberOfTrailingZeros 2 RJ22 (some .int)) (hm : X.2.2.2.2.2.2.2.2.2 = none) {x0 : Int32} {x1 : Int32}   : VF (OG P) X 2 0 0 S (f_ri S) (C_J22_numberOfTrailingZeros_34 x0 x1) S 34 [(0, .int x0), (1, .int x1)] [] := by
  unfold C_J22_numberOfTrailingZeros_34
  refine v_iload_n C dJ22_numberOfTrailingZeros_34 0 rfl ?_
  refine v_sipush C dJ22_numberOfTrailingZeros_35 cs_256 ?_
  refine v_icmp_le C (tgt := 49) dJ22_numberOfTrailingZeros_38 rfl (fun _ => ?_) (fun _ => ?_)
  · exact v_sub [0, 1] rfl (w_J22_numberOfTrailingZeros_49 hO C hm)
  · refine v_iincN C (lv' := fun y4 => [(1, .int y4), (0, .int x0)]) dJ22_numberOfTrailingZeros_41 1 rfl ci_8 (Nat.le_of_ble_eq_true rfl) (fun _ => rfl) (fun y4 hy4 => ?_)
    refine v_iload_n C dJ22_numberOfTrailingZeros_44 1 rfl ?_
    refine v_bipush C dJ22_numberOfTrailingZeros_45 cb_8 ?_
    refine v_iushr C dJ22_numberOfTrailingZeros_47 ?_
    refine v_leti (fun y5 hy5 => ?_)
    refine v_istore_n C (lv' := [(0, .int y5), (1, .int y4)]) dJ22_numberOfTrailingZeros_48 (Nat.le_of_ble_eq_true rfl) rfl ?_
    exact v_sub [0, 1] rfl (w_J22_numberOfTrailingZeros_49 hO C hm)
theorem met_J22_numberOfTrailingZeros {P : GP} {l : Launch} (hO : okG P) (S : St) (x0 : Int32) {r : Int32} (h : C_J22_numberOfTrailingZeros x0 = some r) : FM l (OG P) yJ22_numberOfTrailingZeros (ws_ yJ22_numberOfTrailingZeros cJ22_numberOfTrailingZeros 2 (some .int)) 0 0 [.int x0] S ((f_ri S) r) := by
  refine FM.of (own := RJ22) (lv := [(0, .int x0)]) (OG_ok P hO) pl_J22 rfl (Nat.le_of_ble_eq_true rfl) rfl h LE.rf (fun X C hm => ?_)
  unfold C_J22_numberOfTrailingZeros
  refine v_iload_n C dJ22_numberOfTrailingZeros_0 0 rfl ?_
  refine v_iconst C dJ22_numberOfTrailingZeros_1 ci_m1 ?_
  refine v_ixor C dJ22_numberOfTrailingZeros_2 ?_
  refine v_iload_n C dJ22_numberOfTrailingZeros_3 0 rfl ?_
  refine v_iconst C dJ22_numberOfTrailingZeros_4 ci_1 ?_
  refine v_isub C dJ22_numberOfTrailingZeros_5 ?_
  refine v_iand C dJ22_numberOfTrailingZeros_6 ?_
  refine v_leti (fun y1 hy1 => ?_)
  refine v_istore_n C (lv' := [(0, .int y1)]) dJ22_numberOfTrailingZeros_7 (Nat.le_of_ble_eq_true rfl) rfl ?_
  refine v_iload_n C dJ22_numberOfTrailingZeros_8 0 rfl ?_
  refine v_if_gt C (tgt := 17) dJ22_numberOfTrailingZeros_9 rfl (fun _ => ?_) (fun _ => ?_)
  · refine v_iconst C dJ22_numberOfTrailingZeros_17 ci_1 ?_
    refine v_istore_n C (lv' := [(1, .int 1), (0, .int y1)]) dJ22_numberOfTrailingZeros_18 (Nat.le_of_ble_eq_true rfl) rfl ?_
    refine v_iload_n C dJ22_numberOfTrailingZeros_19 1 rfl ?_
    refine v_ldcw C dJ22_numberOfTrailingZeros_20 q1068 ?_
    refine v_icmp_le C (tgt := 34) dJ22_numberOfTrailingZeros_23 rfl (fun _ => ?_) (fun _ => ?_)
    · exact v_sub [1, 0] rfl (w_J22_numberOfTrailingZeros_34 hO C hm)
    · refine v_iincN C (lv' := fun y2 => [(1, .int y2), (0, .int y1)]) dJ22_numberOfTrailingZeros_26 0 rfl ci_16 (Nat.le_of_ble_eq_true rfl) (fun _ => rfl) (fun y2 hy2 => ?_)
      refine v_iload_n C dJ22_numberOfTrailingZeros_29 1 rfl ?_
      refine v_bipush C dJ22_numberOfTrailingZeros_30 cb_16 ?_
      refine v_iushr C dJ22_numberOfTrailingZeros_32 ?_
      refine v_leti (fun y3 hy3 => ?_)
      refine v_istore_n C (lv' := [(0, .int y3), (1, .int y2)]) dJ22_numberOfTrailingZeros_33 (Nat.le_of_ble_eq_true rfl) rfl ?_
      exact v_sub [0, 1] rfl (w_J22_numberOfTrailingZeros_34 hO C hm)
  · refine v_iload_n C dJ22_numberOfTrailingZeros_12 0 rfl ?_
    refine v_bipush C dJ22_numberOfTrailingZeros_13 cb_32 ?_
    refine v_iand C dJ22_numberOfTrailingZeros_15 ?_
    exact v_ireturn C hm dJ22_numberOfTrailingZeros_16 rfl
theorem met_J24_hasNext {P : GP} {l : Launch} (hO : okG P) (S : St) (x0 : Nat) {r : Int32} (h : C_J24_hasNext S x0 = some r) : FM l (OG P) yJ24_hasNext (ws_ yJ24_hasNext cJ24_hasNext 1 (some .boolean)) 0 0 [.ref x0] S ((f_ri S) r) := by
  refine FM.of (own := RJ24) (lv := [(0, .ref x0)]) (OG_ok P hO) pl_J24 rfl (Nat.le_of_ble_eq_true rfl) rfl h LE.rf (fun X C hm => ?_)
  unfold C_J24_hasNext
  refine VF.bind (fun _ _ => ?_)
  refine v_aload_n C dJ24_hasNext_0 0 rfl ?_
  refine g_getI C dJ24_hasNext_1 cls_15 (Nat.le_of_ble_eq_true rfl) fl_J24_33 fs_J24_33 (fun y1 hy1 => ?_)
  refine v_aload_n C dJ24_hasNext_4 0 rfl ?_
  refine g_getA C dJ24_hasNext_5 cls_15 (Nat.le_of_ble_eq_true rfl) fl_J24_1 fs_J24_1 (fun y2 hy2 => ?_)
  refine g_getI C dJ24_hasNext_8 cls_13 (Nat.le_of_ble_eq_true rfl) fl_J24_22 fs_J24_22 (fun y3 hy3 => ?_)
  refine v_icmp_ge C (tgt := 18) dJ24_hasNext_11 rfl (fun _ => ?_) (fun _ => ?_)
  · refine v_iconst C dJ24_hasNext_18 ci_0 ?_
    exact v_zreturn C hm dJ24_hasNext_19 (Or.inl rfl) rfl
  · refine v_iconst C dJ24_hasNext_14 ci_1 ?_
    refine v_goto C (tgt := 19) dJ24_hasNext_15 rfl ?_
    exact v_zreturn C hm dJ24_hasNext_19 (Or.inr rfl) rfl
theorem met_J24_checkForComodification {P : GP} {l : Launch} (hO : okG P) (S : St) (x0 : Nat) {r : Unit} (h : C_J24_checkForComodification S x0 = some r) : FM l (OG P) yJ24_checkForComodification (ws_ yJ24_checkForComodification cJ24_checkForComodification 1 none) 0 0 [.ref x0] S ((f_rv S) r) := by
  refine FM.of (own := RJ24) (lv := [(0, .ref x0)]) (OG_ok P hO) pl_J24 rfl (Nat.le_of_ble_eq_true rfl) rfl h LE.rf (fun X C hm => ?_)
  unfold C_J24_checkForComodification
  refine VF.bind (fun _ _ => ?_)
  refine v_aload_n C dJ24_checkForComodification_0 0 rfl ?_
  refine g_getA C dJ24_checkForComodification_1 cls_15 (Nat.le_of_ble_eq_true rfl) fl_J24_1 fs_J24_1 (fun y1 hy1 => ?_)
  refine g_getI C dJ24_checkForComodification_4 cls_13 (Nat.le_of_ble_eq_true rfl) fl_J24_13 fs_J24_13 (fun y2 hy2 => ?_)
  refine v_aload_n C dJ24_checkForComodification_7 0 rfl ?_
  refine g_getI C dJ24_checkForComodification_8 cls_15 (Nat.le_of_ble_eq_true rfl) fl_J24_19 fs_J24_19 (fun y3 hy3 => ?_)
  refine v_icmp_eq C (tgt := 22) dJ24_checkForComodification_11 rfl (fun _ => ?_) (fun _ => ?_)
  · exact v_vreturn C hm dJ24_checkForComodification_22 rfl
  · exact VF.none
theorem mono_J24_next {S : St} {x0 : Nat} {r : Nat × St} (h : C_J24_next S x0 = some r) : leG S r.2 := by
  have q : MF mf_p (C_J24_next S x0) S := by
    unfold C_J24_next
    refine mf_bind (fun _ _ => ?_)
    refine mf_bind (fun r1 hr1 => ?_)
    refine mf_bind (fun r2 hr2 => ?_)
    refine mf_ite ?_ ?_
    · exact mf_none
    · refine mf_bind (fun y3 hy3 => ?_)
      refine mf_put (fun S4 hS4 => ?_)
      refine mf_bind (fun y5 hy5 => ?_)
      refine mf_bind (fun a6 ha6 => ?_)
      refine mf_bind (fun y7 hy7 => ?_)
      refine mf_put (fun S8 hS8 => ?_)
      refine mf_bind (fun y9 hy9 => ?_)
      refine mf_put (fun S10 hS10 => ?_)
      refine mf_bind (fun y11 hy11 => ?_)
      refine mf_bind (fun a12 ha12 => ?_)
      refine mf_bind (fun y13 hy13 => ?_)
      exact mf_ret leG.rf
  exact q r h
theorem met_J24_next {P : GP} {l : Launch} (hO : okG P) (S : St) (x0 : Nat) {r : Nat × St} (h : C_J24_next S x0 = some r) : FM l (OG P) yJ24_next (ws_ yJ24_next cJ24_next 1 (some (.object "java/lang/Object"))) 1 20 [.ref x0] S (f_ma r) := by
  refine FM.of (own := RJ24) (lv := [(0, .ref x0)]) (OG_ok P hO) pl_J24 rfl (Nat.le_of_ble_eq_true rfl) rfl h (mono_J24_next h).LE (fun X C hm => ?_)
  unfold C_J24_next
  refine VF.bind (fun _ _ => ?_)
  refine v_aload_n C dJ24_next_0 0 rfl ?_
  refine g_callV_rv C (As := []) (st := []) lk_J24_36 dJ24_next_1 rfl (Nat.le_of_ble_eq_true rfl) (Nat.le_of_ble_eq_true rfl) (Nat.le_of_ble_eq_true rfl) cls_15.1 rfl (fun _ z => rc_J24_checkForComodification z) (fun _ z => met_J24_checkForComodification hO S x0 z) (fun r1 hr1 => ?_)
  refine v_aload_n C dJ24_next_4 0 rfl ?_
  refine g_callV_ri C (As := []) (st := []) lk_J24_39 dJ24_next_5 rfl (Nat.le_of_ble_eq_true rfl) (Nat.le_of_ble_eq_true rfl) (Nat.le_of_ble_eq_true rfl) cls_15.1 rfl (fun _ z => rc_J24_hasNext z) (fun _ z => met_J24_hasNext hO S x0 z) (fun r2 hr2 => ?_)
  refine v_if_ne C (tgt := 19) dJ24_next_8 rfl (fun _ => ?_) (fun _ => ?_)
  · exact VF.none
  · refine v_aload_n C dJ24_next_19 0 rfl ?_
    refine v_aload_n C dJ24_next_20 0 rfl ?_
    refine g_getQ C dJ24_next_21 cls_15 (Nat.le_of_ble_eq_true rfl) fl_J24_29 fs_J24_29 (fun y3 hy3 => ?_)
    refine g_putV C dJ24_next_24 cls_15 (Nat.le_of_ble_eq_true rfl) fl_J24_46 fs_J24_46 rfl (by cases y3 <;> rfl) (by cases y3 <;> rfl) (fun S4 hS4 => ?_)
    refine v_aload_n C dJ24_next_27 0 rfl ?_
    refine v_aload_n C dJ24_next_28 0 rfl ?_
    refine g_getQ C dJ24_next_29 cls_15 (Nat.le_of_ble_eq_true rfl) fl_J24_29 fs_J24_29 (fun y5 hy5 => ?_)
    refine VF.bind (fun a6 ha6 => ?_)
    subst ha6
    refine g_getQ C dJ24_next_32 cls_14 (Nat.le_of_ble_eq_true rfl) fl_J24_49 fs_J24_49 (fun y7 hy7 => ?_)
    refine g_putV C dJ24_next_35 cls_15 (Nat.le_of_ble_eq_true rfl) fl_J24_29 fs_J24_29 rfl (by cases y7 <;> rfl) (by cases y7 <;> rfl) (fun S8 hS8 => ?_)
    refine v_aload_n C dJ24_next_38 0 rfl ?_
    refine v_dup C dJ24_next_39 rfl ?_
    refine g_getI C dJ24_next_40 cls_15 (Nat.le_of_ble_eq_true rfl) fl_J24_33 fs_J24_33 (fun y9 hy9 => ?_)
    refine v_iconst C dJ24_next_43 ci_1 ?_
    refine v_iadd C dJ24_next_44 ?_
    refine g_putV C dJ24_next_45 cls_15 (Nat.le_of_ble_eq_true rfl) fl_J24_33 fs_J24_33 rfl rfl rfl (fun S10 hS10 => ?_)
    refine v_aload_n C dJ24_next_48 0 rfl ?_
    refine g_getQ C dJ24_next_49 cls_15 (Nat.le_of_ble_eq_true rfl) fl_J24_46 fs_J24_46 (fun y11 hy11 => ?_)
    refine VF.bind (fun a12 ha12 => ?_)
    subst ha12
    refine g_getA C dJ24_next_52 cls_14 (Nat.le_of_ble_eq_true rfl) fl_J24_52 fs_J24_52 (fun y13 hy13 => ?_)
    exact v_areturn C hm dJ24_next_55 (Or.inl ⟨_, rfl⟩) (Or.inr ⟨_, rfl⟩) rfl
theorem o_J24_remove_68 {x0 : Nat}  (S : St) : MF mf_s (C_J24_remove_68 x0 S) S := by
  unfold C_J24_remove_68
  refine mf_put (fun S15 hS15 => ?_)
  refine mf_bind (fun y16 hy16 => ?_)
  refine mf_put (fun S17 hS17 => ?_)
  exact mf_ret leG.rf
theorem mono_J24_remove {S : St} {x0 : Nat} {r : St} (h : C_J24_remove S x0 = some r) : leG S r := by
  have q : MF mf_s (C_J24_remove S x0) S := by
    unfold C_J24_remove
    refine mf_bind (fun _ _ => ?_)
    refine mf_bind (fun r1 hr1 => ?_)
    refine mf_bind (fun y2 hy2 => ?_)
    refine mf_ite ?_ ?_
    · exact mf_none
    · refine mf_bind (fun y3 hy3 => ?_)
      refine mf_bind (fun a4 ha4 => ?_)
      refine mf_bind (fun y5 hy5 => ?_)
      refine mf_bind (fun y6 hy6 => ?_)
      refine mf_bind (fun y7 hy7 => ?_)
      refine mf_bind (fun a8 ha8 => ?_)
      refine mf_call (fun _ z => mono_J17_unlink z) (fun r9 hr9 => ?_)
      refine mf_bind (fun y10 hy10 => ?_)
      refine mf_bind (fun y11 hy11 => ?_)
      refine mf_ite ?_ ?_
      · refine mf_put (fun S12 hS12 => ?_)
        exact (o_J24_remove_68 S12)
      · refine mf_bind (fun y13 hy13 => ?_)
        refine mf_put (fun S14 hS14 => ?_)
        exact (o_J24_remove_68 S14)
  exact q r h
theorem w_J24_remove_68 {P : GP} {X : Ctx} {l : Launch} {S0 : St} (hO : okG P) (C : CX (OG P) X l cJ24_remove 2 RJ24 none) (hm : X.2.2.2.2.2.2.2.2.2 = none) {x0 : Nat}  (S : St) : VF (OG P) X 2 1 24 S0 f_mv (C_J24_remove_68 x0 S) S 68 [(0, .ref x0)] [] := by
  unfold C_J24_remove_68
  refine v_aload_n C dJ24_remove_68 0 rfl ?_
  refine g_null C dJ24_remove_69 ?_
  refine g_putV C dJ24_remove_70 cls_15 (Nat.le_of_ble_eq_true rfl) fl_J24_46 fs_J24_46 rfl rfl rfl (fun S15 hS15 => ?_)
  refine v_aload_n C dJ24_remove_73 0 rfl ?_
  refine v_dup C dJ24_remove_74 rfl ?_
  refine g_getI C dJ24_remove_75 cls_15 (Nat.le_of_ble_eq_true rfl) fl_J24_19 fs_J24_19 (fun y16 hy16 => ?_)
  refine v_iconst C dJ24_remove_78 ci_1 ?_
  refine v_iadd C dJ24_remove_79 ?_
  refine g_putV C dJ24_remove_80 cls_15 (Nat.le_of_ble_eq_true rfl) fl_J24_19 fs_J24_19 rfl rfl rfl (fun S17 hS17 => ?_)
  exact v_vreturn C hm dJ24_remove_83 rfl
theorem met_J24_remove {P : GP} {l : Launch} (hO : okG P) (S : St) (x0 : Nat) {r : St} (h : C_J24_remove S x0 = some r) : FM l (OG P) yJ24_remove (ws_ yJ24_remove cJ24_remove 2 none) 1 24 [.ref x0] S (f_mv r) := by
  refine FM.of (own := RJ24) (lv := [(0, .ref x0)]) (OG_ok P hO) pl_J24 rfl (Nat.le_of_ble_eq_true rfl) rfl h (mono_J24_remove h).LE (fun X C hm => ?_)
  unfold C_J24_remove
  refine VF.bind (fun _ _ => ?_)
  refine v_aload_n C dJ24_remove_0 0 rfl ?_
  refine g_callV_rv C (As := []) (st := []) lk_J24_36 dJ24_remove_1 rfl (Nat.le_of_ble_eq_true rfl) (Nat.le_of_ble_eq_true rfl) (Nat.le_of_ble_eq_true rfl) cls_15.1 rfl (fun _ z => rc_J24_checkForComodification z) (fun _ z => met_J24_checkForComodification hO S x0 z) (fun r1 hr1 => ?_)
  refine v_aload_n C dJ24_remove_4 0 rfl ?_
  refine g_getQ C dJ24_remove_5 cls_15 (Nat.le_of_ble_eq_true rfl) fl_J24_46 fs_J24_46 (fun y2 hy2 => ?_)
  refine g_ifnonnull C (tgt := 19) dJ24_remove_8 rfl (fun _ => ?_) (fun _ => ?_)
  · exact VF.none
  · refine v_aload_n C dJ24_remove_19 0 rfl ?_
    refine g_getQ C dJ24_remove_20 cls_15 (Nat.le_of_ble_eq_true rfl) fl_J24_46 fs_J24_46 (fun y3 hy3 => ?_)
    refine VF.bind (fun a4 ha4 => ?_)
    subst ha4
    refine g_getQ C dJ24_remove_23 cls_14 (Nat.le_of_ble_eq_true rfl) fl_J24_49 fs_J24_49 (fun y5 hy5 => ?_)
    refine g_astore_nQ C (lv' := [(1, va_rf y5), (0, .ref x0)]) dJ24_remove_26 (Nat.le_of_ble_eq_true rfl) rfl ?_
    refine v_aload_n C dJ24_remove_27 1 rfl ?_
    refine g_getA C dJ24_remove_28 cls_15 (Nat.le_of_ble_eq_true rfl) fl_J24_1 fs_J24_1 (fun y6 hy6 => ?_)
    refine v_aload_n C dJ24_remove_31 1 rfl ?_
    refine g_getQ C dJ24_remove_32 cls_15 (Nat.le_of_ble_eq_true rfl) fl_J24_46 fs_J24_46 (fun y7 hy7 => ?_)
    refine VF.bind (fun a8 ha8 => ?_)
    subst ha8
    refine g_callV_ma C (As := [.ref a8]) (st := []) lk_J24_68 dJ24_remove_35 rfl (Nat.le_of_ble_eq_true rfl) (Nat.le_of_ble_eq_true rfl) (Nat.le_of_ble_eq_true rfl) cls_13.1 rfl (fun _ z => rc_J17_unlink z) (fun _ z => met_J17_unlink hO S y6 a8 z) (fun r9 hr9 => ?_)
    refine v_pop C dJ24_remove_38 rfl ?_
    refine v_aload_n C dJ24_remove_39 1 rfl ?_
    refine g_getQ C dJ24_remove_40 cls_15 (Nat.le_of_ble_eq_true rfl) fl_J24_29 fs_J24_29 (fun y10 hy10 => ?_)
    refine v_aload_n C dJ24_remove_43 1 rfl ?_
    refine g_getQ C dJ24_remove_44 cls_15 (Nat.le_of_ble_eq_true rfl) fl_J24_46 fs_J24_46 (fun y11 hy11 => ?_)
    refine g_acmp_ne C (x := y10) (y := y11) (tgt := 58) dJ24_remove_47 rfl (fun _ => ?_) (fun _ => ?_)
    · refine v_aload_n C dJ24_remove_50 1 rfl ?_
      refine g_aload_nQ C dJ24_remove_51 0 rfl ?_
      refine g_putV C dJ24_remove_52 cls_15 (Nat.le_of_ble_eq_true rfl) fl_J24_29 fs_J24_29 rfl (by cases y5 <;> rfl) (by cases y5 <;> rfl) (fun S12 hS12 => ?_)
      refine v_goto C (tgt := 68) dJ24_remove_55 rfl ?_
      exact v_sub [1] rfl (w_J24_remove_68 hO C hm S12)
    · refine v_aload_n C dJ24_remove_58 1 rfl ?_
      refine v_dup C dJ24_remove_59 rfl ?_
      refine g_getI C dJ24_remove_60 cls_15 (Nat.le_of_ble_eq_true rfl) fl_J24_33 fs_J24_33 (fun y13 hy13 => ?_)
      refine v_iconst C dJ24_remove_63 ci_1 ?_
      refine v_isub C dJ24_remove_64 ?_
      refine g_putV C dJ24_remove_65 cls_15 (Nat.le_of_ble_eq_true rfl) fl_J24_33 fs_J24_33 rfl rfl rfl (fun S14 hS14 => ?_)
      exact v_sub [1] rfl (w_J24_remove_68 hO C hm S14)
theorem met_J27_wordIndex {P : GP} {l : Launch} (hO : okG P) (S : St) (x0 : Int32) {r : Int32} (h : C_J27_wordIndex x0 = some r) : FM l (OG P) yJ27_wordIndex (ws_ yJ27_wordIndex cJ27_wordIndex 1 (some .int)) 0 0 [.int x0] S ((f_ri S) r) := by
  refine FM.of (own := RJ27) (lv := [(0, .int x0)]) (OG_ok P hO) pl_J27 rfl (Nat.le_of_ble_eq_true rfl) rfl h LE.rf (fun X C hm => ?_)
  unfold C_J27_wordIndex
  refine v_iload_n C dJ27_wordIndex_0 0 rfl ?_
  refine v_bipush C dJ27_wordIndex_1 cb_6 ?_
  refine v_ishr C dJ27_wordIndex_3 ?_
  exact v_ireturn C hm dJ27_wordIndex_4 rfl
theorem mono_J27_initWords {S : St} {x0 : Nat} {x1 : Int32} {r : St} (h : C_J27_initWords S x0 x1 = some r) : leG S r := by
  have q : MF mf_s (C_J27_initWords S x0 x1) S := by
    unfold C_J27_initWords
    refine mf_bind (fun _ _ => ?_)
    refine mf_bind (fun r1 hr1 => ?_)
    refine mf_nJ_ (fun r2 hr2 => ?_)
    refine mf_put (fun S3 hS3 => ?_)
    exact mf_ret leG.rf
  exact q r h
theorem met_J27_initWords {P : GP} {l : Launch} (hO : okG P) (S : St) (x0 : Nat) (x1 : Int32) {r : St} (h : C_J27_initWords S x0 x1 = some r) : FM l (OG P) yJ27_initWords (ws_ yJ27_initWords cJ27_initWords 2 none) 1 20 [.ref x0, .int x1] S (f_mv r) := by
  refine FM.of (own := RJ27) (lv := [(0, .ref x0), (1, .int x1)]) (OG_ok P hO) pl_J27 rfl (Nat.le_of_ble_eq_true rfl) rfl h (mono_J27_initWords h).LE (fun X C hm => ?_)
  unfold C_J27_initWords
  refine VF.bind (fun _ _ => ?_)
  refine v_aload_n C dJ27_initWords_0 0 rfl ?_
  refine v_iload_n C dJ27_initWords_1 1 rfl ?_
  refine v_iconst C dJ27_initWords_2 ci_1 ?_
  refine v_isub C dJ27_initWords_3 ?_
  refine v_callS_ri C (As := [.int (x1 - 1)]) (st := [.ref x0]) lk_J27_52 dJ27_initWords_4 rfl (Nat.le_of_ble_eq_true rfl) (Nat.le_of_ble_eq_true rfl) (Nat.le_of_ble_eq_true rfl) (fun _ z => met_J27_wordIndex hO S (x1 - 1) z) (fun r1 hr1 => ?_)
  refine v_iconst C dJ27_initWords_7 ci_1 ?_
  refine v_iadd C dJ27_initWords_8 ?_
  refine g_naJ C dJ27_initWords_9 q998 (fun r2 hr2 => ?_)
  refine g_putV C dJ27_initWords_11 cls_16 (Nat.le_of_ble_eq_true rfl) fl_J27_11 fs_J27_11 rfl rfl rfl (fun S3 hS3 => ?_)
  exact v_vreturn C hm dJ27_initWords_14 rfl
theorem mono_J27_init {S : St} {x0 : Nat} {r : St} (h : C_J27_init S x0 = some r) : leG S r := by
  have q : MF mf_s (C_J27_init S x0) S := by
    unfold C_J27_init
    refine mf_put (fun S1 hS1 => ?_)
    refine mf_put (fun S2 hS2 => ?_)
    refine mf_callv (fun _ z => mono_J27_initWords z) (fun r3 hr3 => ?_)
    refine mf_put (fun S4 hS4 => ?_)
    exact mf_ret leG.rf
  exact q r h
theorem met_J27_init {P : GP} {l : Launch} (hO : okG P) (S : St) (x0 : Nat) {r : St} (h : C_J27_init S x0 = some r) : FM l (OG P) yJ27_init (ws_ yJ27_init cJ27_init 1 none) 2 41 [.ref x0] S (f_mv r) := by
  refine FM.ofI (own := RJ27) (lv := [(0, .ref x0)]) hO pl_J27 rfl rfl (Nat.le_of_ble_eq_true rfl) rfl h (mono_J27_init h).LE (fun X C hm hin2 => ?_)
  unfold C_J27_init
  refine v_aload_n C dJ27_init_0 0 rfl ?_
  refine g_objInit C dJ27_init_1 lkO_J27_21 (Nat.le_of_ble_eq_true rfl) (Nat.le_of_ble_eq_true rfl) ?_
  refine v_aload_n C dJ27_init_4 0 rfl ?_
  refine v_iconst C dJ27_init_5 ci_0 ?_
  refine g_putV C dJ27_init_6 cls_16 (Nat.le_of_ble_eq_true rfl) fl_J27_7 fs_J27_7 rfl rfl rfl (fun S1 hS1 => ?_)
  refine v_aload_n C dJ27_init_9 0 rfl ?_
  refine v_iconst C dJ27_init_10 ci_0 ?_
  refine g_putV C dJ27_init_11 cls_16 (Nat.le_of_ble_eq_true rfl) fl_J27_24 fs_J27_24 rfl rfl rfl (fun S2 hS2 => ?_)
  refine v_aload_n C dJ27_init_14 0 rfl ?_
  refine v_bipush C dJ27_init_15 cb_64 ?_
  refine g_callV_mv C (As := [.int 64]) (st := []) lk_J27_27 dJ27_init_17 rfl (Nat.le_of_ble_eq_true rfl) (Nat.le_of_ble_eq_true rfl) (Nat.le_of_ble_eq_true rfl) cls_16.1 rfl (fun _ z => rc_J27_initWords z) (fun _ z => met_J27_initWords hO S2 x0 64 z) (fun r3 hr3 => ?_)
  refine v_aload_n C dJ27_init_20 0 rfl ?_
  refine v_iconst C dJ27_init_21 ci_0 ?_
  refine g_putV C dJ27_init_22 cls_16 (Nat.le_of_ble_eq_true rfl) fl_J27_24 fs_J27_24 rfl rfl rfl (fun S4 hS4 => ?_)
  exact v_vreturn C hm dJ27_init_25 rfl
theorem w_J27_checkInvariants_62 {P : GP} {X : Ctx} {l : Launch} {S : St} (hO : okG P) (C : CX (OG P) X l cJ27_checkInvariants 1 RJ27 none) (hm : X.2.2.2.2.2.2.2.2.2 = none)   : VF (OG P) X 1 0 0 S (f_rv S) (C_J27_checkInvariants_62 S) S 62 [] [] := by
  unfold C_J27_checkInvariants_62
  exact VF.none
theorem w_J27_checkInvariants_70 {P : GP} {X : Ctx} {l : Launch} {S : St} (hO : okG P) (C : CX (OG P) X l cJ27_checkInvariants 1 RJ27 none) (hm : X.2.2.2.2.2.2.2.2.2 = none) {x0 : Nat}   : VF (OG P) X 1 0 0 S (f_rv S) (C_J27_checkInvariants_70 S x0) S 70 [(0, .ref x0)] [] := by
  unfold C_J27_checkInvariants_70
  refine g_gets C dJ27_checkInvariants_70 (zG_1 P) q1050 ?_
  refine v_if_ne C (tgt := 110) dJ27_checkInvariants_73 rfl (fun _ => ?_) (fun _ => ?_)
  · refine v_aload_n C dJ27_checkInvariants_76 0 rfl ?_
    refine g_getI C dJ27_checkInvariants_77 cls_16 (Nat.le_of_ble_eq_true rfl) fl_J27_7 fs_J27_7 (fun y9 hy9 => ?_)
    refine v_aload_n C dJ27_checkInvariants_80 0 rfl ?_
    refine g_getA C dJ27_checkInvariants_81 cls_16 (Nat.le_of_ble_eq_true rfl) fl_J27_11 fs_J27_11 (fun y10 hy10 => ?_)
    refine g_alen (kd := 1) (fun _ => rfl) C dJ27_checkInvariants_84 (fun y11 hy11 => ?_)
    refine v_icmp_eq C (tgt := 110) dJ27_checkInvariants_85 rfl (fun _ => ?_) (fun _ => ?_)
    · exact v_vreturn C hm dJ27_checkInvariants_110 rfl
    · refine v_aload_n C dJ27_checkInvariants_88 0 rfl ?_
      refine g_getA C dJ27_checkInvariants_89 cls_16 (Nat.le_of_ble_eq_true rfl) fl_J27_11 fs_J27_11 (fun y12 hy12 => ?_)
      refine v_aload_n C dJ27_checkInvariants_92 0 rfl ?_
      refine g_getI C dJ27_checkInvariants_93 cls_16 (Nat.le_of_ble_eq_true rfl) fl_J27_7 fs_J27_7 (fun y13 hy13 => ?_)
      refine g_lal C dJ27_checkInvariants_96 (fun y14 hy14 => ?_)
      refine v_lconst C dJ27_checkInvariants_97 cl_0 ?_
      refine v_lcmp_eq C (tgt := 110) dJ27_checkInvariants_98 dJ27_checkInvariants_99 rfl (fun _ => ?_) (fun _ => ?_)
      · exact v_vreturn C hm dJ27_checkInvariants_110 rfl
      · exact VF.none
  · exact v_vreturn C hm dJ27_checkInvariants_110 rfl
theorem w_J27_checkInvariants_37 {P : GP} {X : Ctx} {l : Launch} {S : St} (hO : okG P) (C : CX (OG P) X l cJ27_checkInvariants 1 RJ27 none) (hm : X.2.2.2.2.2.2.2.2.2 = none) {x0 : Nat}   : VF (OG P) X 1 0 0 S (f_rv S) (C_J27_checkInvariants_37 S x0) S 37 [(0, .ref x0)] [] := by
  unfold C_J27_checkInvariants_37
  refine g_gets C dJ27_checkInvariants_37 (zG_1 P) q1050 ?_
  refine v_if_ne C (tgt := 70) dJ27_checkInvariants_40 rfl (fun _ => ?_) (fun _ => ?_)
  · refine v_aload_n C dJ27_checkInvariants_43 0 rfl ?_
    refine g_getI C dJ27_checkInvariants_44 cls_16 (Nat.le_of_ble_eq_true rfl) fl_J27_7 fs_J27_7 (fun y5 hy5 => ?_)
    refine v_if_lt C (tgt := 62) dJ27_checkInvariants_47 rfl (fun _ => ?_) (fun _ => ?_)
    · exact v_sub [] rfl (w_J27_checkInvariants_62 hO C hm)
    · refine v_aload_n C dJ27_checkInvariants_50 0 rfl ?_
      refine g_getI C dJ27_checkInvariants_51 cls_16 (Nat.le_of_ble_eq_true rfl) fl_J27_7 fs_J27_7 (fun y6 hy6 => ?_)
      refine v_aload_n C dJ27_checkInvariants_54 0 rfl ?_
      refine g_getA C dJ27_checkInvariants_55 cls_16 (Nat.le_of_ble_eq_true rfl) fl_J27_11 fs_J27_11 (fun y7 hy7 => ?_)
      refine g_alen (kd := 1) (fun _ => rfl) C dJ27_checkInvariants_58 (fun y8 hy8 => ?_)
      refine v_icmp_le C (tgt := 70) dJ27_checkInvariants_59 rfl (fun _ => ?_) (fun _ => ?_)
      · exact v_sub [0] rfl (w_J27_checkInvariants_70 hO C hm)
      · exact v_sub [] rfl (w_J27_checkInvariants_62 hO C hm)
  · exact v_sub [0] rfl (w_J27_checkInvariants_70 hO C hm)
theorem met_J27_checkInvariants {P : GP} {l : Launch} (hO : okG P) (S : St) (x0 : Nat) {r : Unit} (h : C_J27_checkInvariants S x0 = some r) : FM l (OG P) yJ27_checkInvariants (ws_ yJ27_checkInvariants cJ27_checkInvariants 1 none) 0 0 [.ref x0] S ((f_rv S) r) := by
  refine FM.of (own := RJ27) (lv := [(0, .ref x0)]) (OG_ok P hO) pl_J27 rfl (Nat.le_of_ble_eq_true rfl) rfl h LE.rf (fun X C hm => ?_)
  unfold C_J27_checkInvariants
  refine VF.bind (fun _ _ => ?_)
  refine g_gets C dJ27_checkInvariants_0 (zG_1 P) q1050 ?_
  refine v_if_ne C (tgt := 37) dJ27_checkInvariants_3 rfl (fun _ => ?_) (fun _ => ?_)
  · refine v_aload_n C dJ27_checkInvariants_6 0 rfl ?_
    refine g_getI C dJ27_checkInvariants_7 cls_16 (Nat.le_of_ble_eq_true rfl) fl_J27_7 fs_J27_7 (fun y1 hy1 => ?_)
    refine v_if_eq C (tgt := 37) dJ27_checkInvariants_10 rfl (fun _ => ?_) (fun _ => ?_)
    · exact v_sub [0] rfl (w_J27_checkInvariants_37 hO C hm)
    · refine v_aload_n C dJ27_checkInvariants_13 0 rfl ?_
      refine g_getA C dJ27_checkInvariants_14 cls_16 (Nat.le_of_ble_eq_true rfl) fl_J27_11 fs_J27_11 (fun y2 hy2 => ?_)
      refine v_aload_n C dJ27_checkInvariants_17 0 rfl ?_
      refine g_getI C dJ27_checkInvariants_18 cls_16 (Nat.le_of_ble_eq_true rfl) fl_J27_7 fs_J27_7 (fun y3 hy3 => ?_)
      refine v_iconst C dJ27_checkInvariants_21 ci_1 ?_
      refine v_isub C dJ27_checkInvariants_22 ?_
      refine g_lal C dJ27_checkInvariants_23 (fun y4 hy4 => ?_)
      refine v_lconst C dJ27_checkInvariants_24 cl_0 ?_
      refine v_lcmp_ne C (tgt := 37) dJ27_checkInvariants_25 dJ27_checkInvariants_26 rfl (fun _ => ?_) (fun _ => ?_)
      · exact VF.none
      · exact v_sub [0] rfl (w_J27_checkInvariants_37 hO C hm)
  · exact v_sub [0] rfl (w_J27_checkInvariants_37 hO C hm)
theorem mono_J27_ensureCapacity {S : St} {x0 : Nat} {x1 : Int32} {r : St} (h : C_J27_ensureCapacity S x0 x1 = some r) : leG S r := by
  have q : MF mf_s (C_J27_ensureCapacity S x0 x1) S := by
    unfold C_J27_ensureCapacity
    refine mf_bind (fun _ _ => ?_)
    refine mf_bind (fun y1 hy1 => ?_)
    refine mf_bind (fun y2 hy2 => ?_)
    refine mf_ite ?_ ?_
    · exact mf_ret leG.rf
    · refine mf_bind (fun y3 hy3 => ?_)
      refine mf_bind (fun y4 hy4 => ?_)
      refine mf_bind (fun y5 hy5 => ?_)
      refine mf_bind (fun y6 hy6 => ?_)
      refine mf_call (fun _ z => mono_J12_copyOf_2 z) (fun r7 hr7 => ?_)
      refine mf_put (fun S8 hS8 => ?_)
      refine mf_put (fun S9 hS9 => ?_)
      exact mf_ret leG.rf
  exact q r h
theorem met_J27_ensureCapacity {P : GP} {l : Launch} (hO : okG P) (S : St) (x0 : Nat) (x1 : Int32) {r : St} (h : C_J27_ensureCapacity S x0 x1 = some r) : FM l (OG P) yJ27_ensureCapacity (ws_ yJ27_ensureCapacity cJ27_ensureCapacity 3 none) 2 56 [.ref x0, .int x1] S (f_mv r) := by
  refine FM.of (own := RJ27) (lv := [(0, .ref x0), (1, .int x1)]) (OG_ok P hO) pl_J27 rfl (Nat.le_of_ble_eq_true rfl) rfl h (mono_J27_ensureCapacity h).LE (fun X C hm => ?_)
  unfold C_J27_ensureCapacity
  refine VF.bind (fun _ _ => ?_)
  refine v_aload_n C dJ27_ensureCapacity_0 0 rfl ?_
  refine g_getA C dJ27_ensureCapacity_1 cls_16 (Nat.le_of_ble_eq_true rfl) fl_J27_11 fs_J27_11 (fun y1 hy1 => ?_)
  refine g_alen (kd := 1) (fun _ => rfl) C dJ27_ensureCapacity_4 (fun y2 hy2 => ?_)
  refine v_iload_n C dJ27_ensureCapacity_5 1 rfl ?_
  refine v_icmp_ge C (tgt := 38) dJ27_ensureCapacity_6 rfl (fun _ => ?_) (fun _ => ?_)
  · exact v_vreturn C hm dJ27_ensureCapacity_38 rfl
  · refine v_iconst C dJ27_ensureCapacity_9 ci_2 ?_
    refine v_aload_n C dJ27_ensureCapacity_10 0 rfl ?_
    refine g_getA C dJ27_ensureCapacity_11 cls_16 (Nat.le_of_ble_eq_true rfl) fl_J27_11 fs_J27_11 (fun y3 hy3 => ?_)
    refine g_alen (kd := 1) (fun _ => rfl) C dJ27_ensureCapacity_14 (fun y4 hy4 => ?_)
    refine v_imul C dJ27_ensureCapacity_15 ?_
    refine v_iload_n C dJ27_ensureCapacity_16 1 rfl ?_
    refine g_mmax C dJ27_ensureCapacity_17 q1037 q312 q108 q313 (Nat.le_of_ble_eq_true rfl) (Nat.le_of_ble_eq_true rfl) ?_
    refine v_leti (fun y5 hy5 => ?_)
    refine v_istore_n C (lv' := [(2, .int y5), (0, .ref x0), (1, .int x1)]) dJ27_ensureCapacity_20 (Nat.le_of_ble_eq_true rfl) rfl ?_
    refine v_aload_n C dJ27_ensureCapacity_21 1 rfl ?_
    refine v_aload_n C dJ27_ensureCapacity_22 1 rfl ?_
    refine g_getA C dJ27_ensureCapacity_23 cls_16 (Nat.le_of_ble_eq_true rfl) fl_J27_11 fs_J27_11 (fun y6 hy6 => ?_)
    refine v_iload_n C dJ27_ensureCapacity_26 0 rfl ?_
    refine v_callS_ma C (As := [.ref y6, .int y5]) (st := [.ref x0]) lk_J27_59 dJ27_ensureCapacity_27 rfl (Nat.le_of_ble_eq_true rfl) (Nat.le_of_ble_eq_true rfl) (Nat.le_of_ble_eq_true rfl) (fun _ z => met_J12_copyOf_2 hO S y6 y5 z) (fun r7 hr7 => ?_)
    refine g_putV C dJ27_ensureCapacity_30 cls_16 (Nat.le_of_ble_eq_true rfl) fl_J27_11 fs_J27_11 rfl rfl rfl (fun S8 hS8 => ?_)
    refine v_aload_n C dJ27_ensureCapacity_33 1 rfl ?_
    refine v_iconst C dJ27_ensureCapacity_34 ci_0 ?_
    refine g_putV C dJ27_ensureCapacity_35 cls_16 (Nat.le_of_ble_eq_true rfl) fl_J27_24 fs_J27_24 rfl rfl rfl (fun S9 hS9 => ?_)
    exact v_vreturn C hm dJ27_ensureCapacity_38 rfl
theorem mono_J27_expandTo {S : St} {x0 : Nat} {x1 : Int32} {r : St} (h : C_J27_expandTo S x0 x1 = some r) : leG S r := by
  have q : MF mf_s (C_J27_expandTo S x0 x1) S := by
    unfold C_J27_expandTo
    refine mf_bind (fun _ _ => ?_)
    refine mf_bind (fun y1 hy1 => ?_)
    refine mf_bind (fun y2 hy2 => ?_)
    refine mf_ite ?_ ?_
    · exact mf_ret leG.rf
    · refine mf_callv (fun _ z => mono_J27_ensureCapacity z) (fun r3 hr3 => ?_)
      refine mf_put (fun S4 hS4 => ?_)
      exact mf_ret leG.rf
  exact q r h
theorem met_J27_expandTo {P : GP} {l : Launch} (hO : okG P) (S : St) (x0 : Nat) (x1 : Int32) {r : St} (h : C_J27_expandTo S x0 x1 = some r) : FM l (OG P) yJ27_expandTo (ws_ yJ27_expandTo cJ27_expandTo 3 none) 3 78 [.ref x0, .int x1] S (f_mv r) := by
  refine FM.of (own := RJ27) (lv := [(0, .ref x0), (1, .int x1)]) (OG_ok P hO) pl_J27 rfl (Nat.le_of_ble_eq_true rfl) rfl h (mono_J27_expandTo h).LE (fun X C hm => ?_)
  unfold C_J27_expandTo
  refine VF.bind (fun _ _ => ?_)
  refine v_iload_n C dJ27_expandTo_0 1 rfl ?_
  refine v_iconst C dJ27_expandTo_1 ci_1 ?_
  refine v_iadd C dJ27_expandTo_2 ?_
  refine v_leti (fun y1 hy1 => ?_)
  refine v_istore_n C (lv' := [(2, .int y1), (0, .ref x0), (1, .int x1)]) dJ27_expandTo_3 (Nat.le_of_ble_eq_true rfl) rfl ?_
  refine v_aload_n C dJ27_expandTo_4 1 rfl ?_
  refine g_getI C dJ27_expandTo_5 cls_16 (Nat.le_of_ble_eq_true rfl) fl_J27_7 fs_J27_7 (fun y2 hy2 => ?_)
  refine v_iload_n C dJ27_expandTo_8 0 rfl ?_
  refine v_icmp_ge C (tgt := 22) dJ27_expandTo_9 rfl (fun _ => ?_) (fun _ => ?_)
  · exact v_vreturn C hm dJ27_expandTo_22 rfl
  · refine v_aload_n C dJ27_expandTo_12 1 rfl ?_
    refine v_iload_n C dJ27_expandTo_13 0 rfl ?_
    refine g_callV_mv C (As := [.int y1]) (st := []) lk_J27_139 dJ27_expandTo_14 rfl (Nat.le_of_ble_eq_true rfl) (Nat.le_of_ble_eq_true rfl) (Nat.le_of_ble_eq_true rfl) cls_16.1 rfl (fun _ z => rc_J27_ensureCapacity z) (fun _ z => met_J27_ensureCapacity hO S x0 y1 z) (fun r3 hr3 => ?_)
    refine v_aload_n C dJ27_expandTo_17 1 rfl ?_
    refine v_iload_n C dJ27_expandTo_18 0 rfl ?_
    refine g_putV C dJ27_expandTo_19 cls_16 (Nat.le_of_ble_eq_true rfl) fl_J27_7 fs_J27_7 rfl rfl rfl (fun S4 hS4 => ?_)
    exact v_vreturn C hm dJ27_expandTo_22 rfl
theorem mono_J27_set {F : Nat} {S : St} {x0 : Nat} {x1 : Int32} {r : St} (h : C_J27_set F S x0 x1 = some r) : leG S r := by
  have q : MF mf_s (C_J27_set F S x0 x1) S := by
    unfold C_J27_set
    refine mf_bind (fun _ _ => ?_)
    refine mf_ite ?_ ?_
    · refine mf_bind (fun r1 hr1 => ?_)
      refine mf_callv (fun _ z => mono_J27_expandTo z) (fun r2 hr2 => ?_)
      refine mf_bind (fun y3 hy3 => ?_)
      refine mf_bind (fun y4 hy4 => ?_)
      refine mf_tJ (fun S5 hS5 => ?_)
      refine mf_bind (fun r6 hr6 => ?_)
      exact mf_ret leG.rf
    · exact mf_none
  exact q r h
theorem met_J27_set {P : GP} {l : Launch} (hO : okG P) (F : Nat) (S : St) (x0 : Nat) (x1 : Int32) {r : St} (h : C_J27_set F S x0 x1 = some r) : FM l (OG P) yJ27_set (ws_ yJ27_set cJ27_set 3 none) 7 169 [.ref x0, .int x1] S (f_mv r) := by
  refine FM.of (own := RJ27) (lv := [(0, .ref x0), (1, .int x1)]) (OG_ok P hO) pl_J27 rfl (Nat.le_of_ble_eq_true rfl) rfl h (mono_J27_set h).LE (fun X C hm => ?_)
  unfold C_J27_set
  refine VF.bind (fun _ _ => ?_)
  refine v_iload_n C dJ27_set_0 1 rfl ?_
  refine v_if_ge C (tgt := 31) dJ27_set_1 rfl (fun _ => ?_) (fun _ => ?_)
  · refine v_iload_n C dJ27_set_31 1 rfl ?_
    refine v_callS_ri C (As := [.int x1]) (st := []) lk_J27_52 dJ27_set_32 rfl (Nat.le_of_ble_eq_true rfl) (Nat.le_of_ble_eq_true rfl) (Nat.le_of_ble_eq_true rfl) (fun _ z => met_J27_wordIndex hO S x1 z) (fun r1 hr1 => ?_)
    refine v_istore_n C (lv' := [(2, .int r1), (0, .ref x0), (1, .int x1)]) dJ27_set_35 (Nat.le_of_ble_eq_true rfl) rfl ?_
    refine v_aload_n C dJ27_set_36 1 rfl ?_
    refine v_iload_n C dJ27_set_37 0 rfl ?_
    refine g_callV_mv C (As := [.int r1]) (st := []) lk_J27_155 dJ27_set_38 rfl (Nat.le_of_ble_eq_true rfl) (Nat.le_of_ble_eq_true rfl) (Nat.le_of_ble_eq_true rfl) cls_16.1 rfl (fun _ z => rc_J27_expandTo z) (fun _ z => met_J27_expandTo hO S x0 r1 z) (fun r2 hr2 => ?_)
    refine v_aload_n C dJ27_set_41 1 rfl ?_
    refine g_getA C dJ27_set_42 cls_16 (Nat.le_of_ble_eq_true rfl) fl_J27_11 fs_J27_11 (fun y3 hy3 => ?_)
    refine v_iload_n C dJ27_set_45 0 rfl ?_
    refine v_dup2_11 C dJ27_set_46 rfl rfl ?_
    refine g_lal C dJ27_set_47 (fun y4 hy4 => ?_)
    refine v_lconst C dJ27_set_48 cl_1 ?_
    refine v_iload_n C dJ27_set_49 2 rfl ?_
    refine v_lshl C dJ27_set_50 ?_
    refine v_lor C dJ27_set_51 ?_
    refine g_las C dJ27_set_52 (fun S5 hS5 => ?_)
    refine v_aload_n C dJ27_set_53 1 rfl ?_
    refine g_callV_rv C (As := []) (st := []) lk_J27_56 dJ27_set_54 rfl (Nat.le_of_ble_eq_true rfl) (Nat.le_of_ble_eq_true rfl) (Nat.le_of_ble_eq_true rfl) cls_16.1 rfl (fun _ z => rc_J27_checkInvariants z) (fun _ z => met_J27_checkInvariants hO S5 x0 z) (fun r6 hr6 => ?_)
    exact v_vreturn C hm dJ27_set_57 rfl
  · exact VF.none
theorem met_J28_numberOfTrailingZeros {P : GP} {l : Launch} (hO : okG P) (S : St) (x0 : Int64) {r : Int32} (h : C_J28_numberOfTrailingZeros x0 = some r) : FM l (OG P) yJ28_numberOfTrailingZeros (ws_ yJ28_numberOfTrailingZeros cJ28_numberOfTrailingZeros 3 (some .int)) 1 21 [.long x0] S ((f_ri S) r) := by
  refine FM.of (own := RJ28) (lv := [(0, .long x0)]) (OG_ok P hO) pl_J28 rfl (Nat.le_of_ble_eq_true rfl) rfl h LE.rf (fun X C hm => ?_)
  unfold C_J28_numberOfTrailingZeros
  refine v_lload_n C dJ28_numberOfTrailingZeros_0 0 rfl ?_
  refine v_l2i C dJ28_numberOfTrailingZeros_1 ?_
  refine v_leti (fun y1 hy1 => ?_)
  refine v_istore_n C (lv' := [(2, .int y1), (0, .long x0)]) dJ28_numberOfTrailingZeros_2 (Nat.le_of_ble_eq_true rfl) rfl ?_
  refine v_iload_n C dJ28_numberOfTrailingZeros_3 0 rfl ?_
  refine v_if_ne C (tgt := 21) dJ28_numberOfTrailingZeros_4 rfl (fun _ => ?_) (fun _ => ?_)
  · refine v_bipush C dJ28_numberOfTrailingZeros_7 cb_32 ?_
    refine v_lload_n C dJ28_numberOfTrailingZeros_9 1 rfl ?_
    refine v_bipush C dJ28_numberOfTrailingZeros_10 cb_32 ?_
    refine v_lushr C dJ28_numberOfTrailingZeros_12 ?_
    refine v_l2i C dJ28_numberOfTrailingZeros_13 ?_
    refine v_callS_ri C (As := [.int (((x0.toUInt64 >>> (((32) : Int32).toInt64.toUInt64 &&& Int64.toUInt64 63)).toInt64).toInt32)]) (st := [.int 32]) lk_J28_311 dJ28_numberOfTrailingZeros_14 rfl (Nat.le_of_ble_eq_true rfl) (Nat.le_of_ble_eq_true rfl) (Nat.le_of_ble_eq_true rfl) (fun _ z => met_J22_numberOfTrailingZeros hO S (((x0.toUInt64 >>> (((32) : Int32).toInt64.toUInt64 &&& Int64.toUInt64 63)).toInt64).toInt32) z) (fun r2 hr2 => ?_)
    refine v_iadd C dJ28_numberOfTrailingZeros_17 ?_
    refine v_goto C (tgt := 25) dJ28_numberOfTrailingZeros_18 rfl ?_
    exact v_ireturn C hm dJ28_numberOfTrailingZeros_25 rfl
  · refine v_iload_n C dJ28_numberOfTrailingZeros_21 0 rfl ?_
    refine v_callS_ri C (As := [.int y1]) (st := []) lk_J28_311 dJ28_numberOfTrailingZeros_22 rfl (Nat.le_of_ble_eq_true rfl) (Nat.le_of_ble_eq_true rfl) (Nat.le_of_ble_eq_true rfl) (fun _ z => met_J22_numberOfTrailingZeros hO S y1 z) (fun r3 hr3 => ?_)
    exact v_ireturn C hm dJ28_numberOfTrailingZeros_25 rfl
theorem o_J27_nextSetBit_69 {F : Nat} {x2 : Int32} {x3 : Int64}  (S : St) : MF mf_p (C_J27_nextSetBit_69 F x2 x3 S) S := by
  unfold C_J27_nextSetBit_69
  refine mf_bind (fun r11 hr11 => ?_)
  exact mf_ret leG.rf
theorem o_J27_nextSetBit_63 {F : Nat} {x0 : Nat}  : ∀ (n : Nat) (x2 : Int32) (x3 : Int64) (S : St), MF mf_p (C_J27_nextSetBit_63 F x0 n x2 x3 S) S := by
  intro n
  induction n with
  | zero => intro x2 x3 S; exact mf_none
  | succ n ih =>
    intro x2 x3 S
    unfold C_J27_nextSetBit_63
    refine mf_ite ?_ ?_
    · refine mf_bind (fun y7 hy7 => ?_)
      refine mf_bind (fun y8 hy8 => ?_)
      refine mf_ite ?_ ?_
      · exact mf_ret leG.rf
      · refine mf_bind (fun y9 hy9 => ?_)
        refine mf_bind (fun y10 hy10 => ?_)
        exact (ih y7 y10 S)
    · exact (o_J27_nextSetBit_69 S)
theorem mono_J27_nextSetBit {F : Nat} {S : St} {x0 : Nat} {x1 : Int32} {r : Int32 × St} (h : C_J27_nextSetBit F S x0 x1 = some r) : leG S r.2 := by
  have q : MF mf_p (C_J27_nextSetBit F S x0 x1) S := by
    unfold C_J27_nextSetBit
    refine mf_bind (fun _ _ => ?_)
    refine mf_ite ?_ ?_
    · refine mf_bind (fun r1 hr1 => ?_)
      refine mf_bind (fun r2 hr2 => ?_)
      refine mf_bind (fun y3 hy3 => ?_)
      refine mf_ite ?_ ?_
      · refine mf_bind (fun y4 hy4 => ?_)
        refine mf_bind (fun y5 hy5 => ?_)
        refine mf_bind (fun y6 hy6 => ?_)
        exact (o_J27_nextSetBit_63 F r2 y6 S)
      · exact mf_ret leG.rf
    · exact mf_none
  exact q r h
theorem w_J27_nextSetBit_69 {P : GP} {X : Ctx} {l : Launch} {S0 : St} {F : Nat} (hO : okG P) (C : CX (OG P) X l cJ27_nextSetBit 5 RJ27 (some .int)) (hm : X.2.2.2.2.2.2.2.2.2 = none) {x2 : Int32} {x3 : Int64}  (S : St) : VF (OG P) X 5 7 169 S0 f_mi (C_J27_nextSetBit_69 F x2 x3 S) S 69 [(2, .int x2), (3, .long x3)] [] := by
  unfold C_J27_nextSetBit_69
  refine v_iload_n C dJ27_nextSetBit_69 0 rfl ?_
  refine v_bipush C dJ27_nextSetBit_70 cb_64 ?_
  refine v_imul C dJ27_nextSetBit_72 ?_
  refine v_lload_n C dJ27_nextSetBit_73 1 rfl ?_
  refine v_callS_ri C (As := [.long x3]) (st := [.int (x2 * 64)]) lk_J27_182 dJ27_nextSetBit_74 rfl (Nat.le_of_ble_eq_true rfl) (Nat.le_of_ble_eq_true rfl) (Nat.le_of_ble_eq_true rfl) (fun _ z => met_J28_numberOfTrailingZeros hO S x3 z) (fun r11 hr11 => ?_)
  refine v_iadd C dJ27_nextSetBit_77 ?_
  exact v_ireturn C hm dJ27_nextSetBit_78 rfl
theorem w_J27_nextSetBit_63 {P : GP} {X : Ctx} {l : Launch} {S0 : St} {F : Nat} (hO : okG P) (C : CX (OG P) X l cJ27_nextSetBit 5 RJ27 (some .int)) (hm : X.2.2.2.2.2.2.2.2.2 = none) {x0 : Nat}  : ∀ (n : Nat) (x2 : Int32) (x3 : Int64) (S : St), VF (OG P) X 5 7 169 S0 f_mi (C_J27_nextSetBit_63 F x0 n x2 x3 S) S 63 [(0, .ref x0), (2, .int x2), (3, .long x3)] [] := by
  intro n
  induction n with
  | zero => intro x2 x3 S; exact VF.none
  | succ n ih =>
    intro x2 x3 S
    unfold C_J27_nextSetBit_63
    refine v_lload_n C dJ27_nextSetBit_63 2 rfl ?_
    refine v_lconst C dJ27_nextSetBit_64 cl_0 ?_
    refine v_lcmp_eq C (tgt := 79) dJ27_nextSetBit_65 dJ27_nextSetBit_66 rfl (fun _ => ?_) (fun _ => ?_)
    · refine v_iincN C (lv' := fun y7 => [(2, .int y7), (0, .ref x0), (3, .long x3)]) dJ27_nextSetBit_79 1 rfl ci_1 (Nat.le_of_ble_eq_true rfl) (fun _ => rfl) (fun y7 hy7 => ?_)
      refine v_iload_n C dJ27_nextSetBit_82 0 rfl ?_
      refine v_aload_n C dJ27_nextSetBit_83 1 rfl ?_
      refine g_getI C dJ27_nextSetBit_84 cls_16 (Nat.le_of_ble_eq_true rfl) fl_J27_7 fs_J27_7 (fun y8 hy8 => ?_)
      refine v_icmp_ne C (tgt := 92) dJ27_nextSetBit_87 rfl (fun _ => ?_) (fun _ => ?_)
      · refine v_iconst C dJ27_nextSetBit_90 ci_m1 ?_
        exact v_ireturn C hm dJ27_nextSetBit_91 rfl
      · refine v_aload_n C dJ27_nextSetBit_92 1 rfl ?_
        refine g_getA C dJ27_nextSetBit_93 cls_16 (Nat.le_of_ble_eq_true rfl) fl_J27_11 fs_J27_11 (fun y9 hy9 => ?_)
        refine v_iload_n C dJ27_nextSetBit_96 0 rfl ?_
        refine g_lal C dJ27_nextSetBit_97 (fun y10 hy10 => ?_)
        refine v_lstore_n C (lv' := [(3, .long y10), (2, .int y7), (0, .ref x0)]) dJ27_nextSetBit_98 (Nat.le_of_ble_eq_true rfl) rfl ?_
        refine v_goto C (tgt := 63) dJ27_nextSetBit_99 rfl ?_
        exact v_sub [2, 1, 0] rfl (ih y7 y10 S)
    · exact v_sub [1, 2] rfl (w_J27_nextSetBit_69 hO C hm S)
theorem met_J27_nextSetBit {P : GP} {l : Launch} (hO : okG P) (F : Nat) (S : St) (x0 : Nat) (x1 : Int32) {r : Int32 × St} (h : C_J27_nextSetBit F S x0 x1 = some r) : FM l (OG P) yJ27_nextSetBit (ws_ yJ27_nextSetBit cJ27_nextSetBit 5 (some .int)) 7 169 [.ref x0, .int x1] S (f_mi r) := by
  refine FM.of (own := RJ27) (lv := [(0, .ref x0), (1, .int x1)]) (OG_ok P hO) pl_J27 rfl (Nat.le_of_ble_eq_true rfl) rfl h (mono_J27_nextSetBit h).LE (fun X C hm => ?_)
  unfold C_J27_nextSetBit
  refine VF.bind (fun _ _ => ?_)
  refine v_iload_n C dJ27_nextSetBit_0 1 rfl ?_
  refine v_if_ge C (tgt := 31) dJ27_nextSetBit_1 rfl (fun _ => ?_) (fun _ => ?_)
  · refine v_aload_n C dJ27_nextSetBit_31 0 rfl ?_
    refine g_callV_rv C (As := []) (st := []) lk_J27_56 dJ27_nextSetBit_32 rfl (Nat.le_of_ble_eq_true rfl) (Nat.le_of_ble_eq_true rfl) (Nat.le_of_ble_eq_true rfl) cls_16.1 rfl (fun _ z => rc_J27_checkInvariants z) (fun _ z => met_J27_checkInvariants hO S x0 z) (fun r1 hr1 => ?_)
    refine v_iload_n C dJ27_nextSetBit_35 1 rfl ?_
    refine v_callS_ri C (As := [.int x1]) (st := []) lk_J27_52 dJ27_nextSetBit_36 rfl (Nat.le_of_ble_eq_true rfl) (Nat.le_of_ble_eq_true rfl) (Nat.le_of_ble_eq_true rfl) (fun _ z => met_J27_wordIndex hO S x1 z) (fun r2 hr2 => ?_)
    refine v_istore_n C (lv' := [(2, .int r2), (0, .ref x0), (1, .int x1)]) dJ27_nextSetBit_39 (Nat.le_of_ble_eq_true rfl) rfl ?_
    refine v_iload_n C dJ27_nextSetBit_40 0 rfl ?_
    refine v_aload_n C dJ27_nextSetBit_41 1 rfl ?_
    refine g_getI C dJ27_nextSetBit_42 cls_16 (Nat.le_of_ble_eq_true rfl) fl_J27_7 fs_J27_7 (fun y3 hy3 => ?_)
    refine v_icmp_lt C (tgt := 50) dJ27_nextSetBit_45 rfl (fun _ => ?_) (fun _ => ?_)
    · refine v_aload_n C dJ27_nextSetBit_50 1 rfl ?_
      refine g_getA C dJ27_nextSetBit_51 cls_16 (Nat.le_of_ble_eq_true rfl) fl_J27_11 fs_J27_11 (fun y4 hy4 => ?_)
      refine v_iload_n C dJ27_nextSetBit_54 0 rfl ?_
      refine g_lal C dJ27_nextSetBit_55 (fun y5 hy5 => ?_)
      refine v_ldc2 C dJ27_nextSetBit_56 q1061 ?_
      refine v_iload_n C dJ27_nextSetBit_59 2 rfl ?_
      refine v_lshl C dJ27_nextSetBit_60 ?_
      refine v_land C dJ27_nextSetBit_61 ?_
      refine v_letl (fun y6 hy6 => ?_)
      refine v_lstore_n C (lv' := [(3, .long y6), (2, .int r2), (0, .ref x0), (1, .int x1)]) dJ27_nextSetBit_62 (Nat.le_of_ble_eq_true rfl) rfl ?_
      exact v_sub [2, 1, 0] rfl (w_J27_nextSetBit_63 hO C hm F r2 y6 S)
    · refine v_iconst C dJ27_nextSetBit_48 ci_m1 ?_
      exact v_ireturn C hm dJ27_nextSetBit_49 rfl
  · exact VF.none
theorem o_J3_setLength_76 {F : Nat} {x0 : Nat} {x1 : Int32}  (S : St) : MF mf_s (C_J3_setLength_76 F x0 x1 S) S := by
  unfold C_J3_setLength_76
  refine mf_put (fun S11 hS11 => ?_)
  exact mf_ret leG.rf
theorem mono_J3_setLength {F : Nat} {S : St} {x0 : Nat} {x1 : Int32} {r : St} (h : C_J3_setLength F S x0 x1 = some r) : leG S r := by
  have q : MF mf_s (C_J3_setLength F S x0 x1) S := by
    unfold C_J3_setLength
    refine mf_bind (fun _ _ => ?_)
    refine mf_ite ?_ ?_
    · refine mf_callv (fun _ z => mono_J3_ensureCapacityInternal z) (fun r1 hr1 => ?_)
      refine mf_bind (fun y2 hy2 => ?_)
      refine mf_ite ?_ ?_
      · refine mf_bind (fun y3 hy3 => ?_)
        refine mf_ite ?_ ?_
        · exact (o_J3_setLength_76 r1)
        · refine mf_put (fun S4 hS4 => ?_)
          exact (o_J3_setLength_76 S4)
      · refine mf_bind (fun r5 hr5 => ?_)
        refine mf_ite ?_ ?_
        · refine mf_bind (fun y6 hy6 => ?_)
          refine mf_bind (fun y7 hy7 => ?_)
          exact mf_none
        · refine mf_bind (fun y8 hy8 => ?_)
          refine mf_bind (fun y9 hy9 => ?_)
          refine mf_callv (fun _ z => mono_J21_fillNull z) (fun r10 hr10 => ?_)
          exact (o_J3_setLength_76 r10)
    · exact mf_none
  exact q r h
theorem w_J3_setLength_76 {P : GP} {X : Ctx} {l : Launch} {S0 : St} {F : Nat} (hO : okG P) (C : CX (OG P) X l cJ3_setLength 2 RJ3 none) (hm : X.2.2.2.2.2.2.2.2.2 = none) {x0 : Nat} {x1 : Int32}  (S : St) : VF (OG P) X 2 10 237 S0 f_mv (C_J3_setLength_76 F x0 x1 S) S 76 [(0, .ref x0), (1, .int x1)] [] := by
  unfold C_J3_setLength_76
  refine v_aload_n C dJ3_setLength_76 0 rfl ?_
  refine v_iload_n C dJ3_setLength_77 1 rfl ?_
  refine g_putV C dJ3_setLength_78 cls_12 (Nat.le_of_ble_eq_true rfl) fl_J3_79 fs_J3_79 rfl rfl rfl (fun S11 hS11 => ?_)
  exact v_vreturn C hm dJ3_setLength_81 rfl
theorem met_J3_setLength {P : GP} {l : Launch} (hO : okG P) (F : Nat) (S : St) (x0 : Nat) (x1 : Int32) {r : St} (h : C_J3_setLength F S x0 x1 = some r) : FM l (OG P) yJ3_setLength (ws_ yJ3_setLength cJ3_setLength 2 none) 10 237 [.ref x0, .int x1] S (f_mv r) := by
  refine FM.of (own := RJ3) (lv := [(0, .ref x0), (1, .int x1)]) (OG_ok P hO) pl_J3 rfl (Nat.le_of_ble_eq_true rfl) rfl h (mono_J3_setLength h).LE (fun X C hm => ?_)
  unfold C_J3_setLength
  refine VF.bind (fun _ _ => ?_)
  refine v_iload_n C dJ3_setLength_0 1 rfl ?_
  refine v_if_ge C (tgt := 13) dJ3_setLength_1 rfl (fun _ => ?_) (fun _ => ?_)
  · refine v_aload_n C dJ3_setLength_13 0 rfl ?_
    refine v_iload_n C dJ3_setLength_14 1 rfl ?_
    refine g_callUP_mv C (As := [.int x1]) (st := []) lk_J3_100 dJ3_setLength_15 rfl (Nat.le_of_ble_eq_true rfl) (Nat.le_of_ble_eq_true rfl) (Nat.le_of_ble_eq_true rfl) cls_12.1 (fun _ z => rc_J3_ensureCapacityInternal z) (fun _ z => met_J3_ensureCapacityInternal hO S x0 x1 z) (fun r1 hr1 => ?_)
    refine v_aload_n C dJ3_setLength_18 0 rfl ?_
    refine g_getI C dJ3_setLength_19 cls_12 (Nat.le_of_ble_eq_true rfl) fl_J3_79 fs_J3_79 (fun y2 hy2 => ?_)
    refine v_iload_n C dJ3_setLength_22 1 rfl ?_
    refine v_icmp_ge C (tgt := 63) dJ3_setLength_23 rfl (fun _ => ?_) (fun _ => ?_)
    · refine v_aload_n C dJ3_setLength_63 0 rfl ?_
      refine g_getI C dJ3_setLength_64 cls_12 (Nat.le_of_ble_eq_true rfl) fl_J3_79 fs_J3_79 (fun y3 hy3 => ?_)
      refine v_iload_n C dJ3_setLength_67 1 rfl ?_
      refine v_icmp_le C (tgt := 76) dJ3_setLength_68 rfl (fun _ => ?_) (fun _ => ?_)
      · exact v_sub [0, 1] rfl (w_J3_setLength_76 hO C hm r1)
      · refine v_aload_n C dJ3_setLength_71 0 rfl ?_
        refine v_iconst C dJ3_setLength_72 ci_1 ?_
        refine g_putV C dJ3_setLength_73 cls_12 (Nat.le_of_ble_eq_true rfl) fl_J3_73 fs_J3_73 rfl rfl rfl (fun S4 hS4 => ?_)
        exact v_sub [0, 1] rfl (w_J3_setLength_76 hO C hm S4)
    · refine v_aload_n C dJ3_setLength_26 0 rfl ?_
      refine g_callU_ri C (As := []) (st := []) lk_J3_83 dJ3_setLength_27 rfl (Nat.le_of_ble_eq_true rfl) (Nat.le_of_ble_eq_true rfl) (Nat.le_of_ble_eq_true rfl) cls_12.1 (fun _ z => rc_J3_isLatin1 z) (fun _ z => met_J3_isLatin1 hO r1 x0 z) (fun r5 hr5 => ?_)
      refine v_if_eq C (tgt := 48) dJ3_setLength_30 rfl (fun _ => ?_) (fun _ => ?_)
      · refine v_aload_n C dJ3_setLength_48 0 rfl ?_
        refine g_getA C dJ3_setLength_49 cls_12 (Nat.le_of_ble_eq_true rfl) fl_J3_15 fs_J3_15 (fun y6 hy6 => ?_)
        refine v_aload_n C dJ3_setLength_52 0 rfl ?_
        refine g_getI C dJ3_setLength_53 cls_12 (Nat.le_of_ble_eq_true rfl) fl_J3_79 fs_J3_79 (fun y7 hy7 => ?_)
        refine v_iload_n C dJ3_setLength_56 1 rfl ?_
        exact VF.none
      · refine v_aload_n C dJ3_setLength_33 0 rfl ?_
        refine g_getA C dJ3_setLength_34 cls_12 (Nat.le_of_ble_eq_true rfl) fl_J3_15 fs_J3_15 (fun y8 hy8 => ?_)
        refine v_aload_n C dJ3_setLength_37 0 rfl ?_
        refine g_getI C dJ3_setLength_38 cls_12 (Nat.le_of_ble_eq_true rfl) fl_J3_79 fs_J3_79 (fun y9 hy9 => ?_)
        refine v_iload_n C dJ3_setLength_41 1 rfl ?_
        refine v_callS_mv C (As := [.ref y8, .int y9, .int x1]) (st := []) lk_J3_133 dJ3_setLength_42 rfl (Nat.le_of_ble_eq_true rfl) (Nat.le_of_ble_eq_true rfl) (Nat.le_of_ble_eq_true rfl) (fun _ z => met_J21_fillNull hO F r1 y8 y9 x1 z) (fun r10 hr10 => ?_)
        refine v_goto C (tgt := 76) dJ3_setLength_45 rfl ?_
        exact v_sub [0, 1] rfl (w_J3_setLength_76 hO C hm r10)
  · exact VF.none
theorem met_J3_charAt {P : GP} {l : Launch} (hO : okG P) (S : St) (x0 : Nat) (x1 : Int32) {r : Int32} (h : C_J3_charAt P.2.2.2.2.2 S x0 x1 = some r) : FM l (OG P) yJ3_charAt (ws_ yJ3_charAt cJ3_charAt 5 (some .char)) 2 43 [.ref x0, .int x1] S ((f_ri S) r) := by
  refine FM.of (own := RJ3) (lv := [(0, .ref x0), (1, .int x1)]) (OG_ok P hO) pl_J3 rfl (Nat.le_of_ble_eq_true rfl) rfl h LE.rf (fun X C hm => ?_)
  unfold C_J3_charAt
  refine VF.bind (fun _ _ => ?_)
  refine v_aload_n C dJ3_charAt_0 0 rfl ?_
  refine g_getI C dJ3_charAt_1 cls_12 (Nat.le_of_ble_eq_true rfl) fl_J3_22 fs_J3_22 (fun y1 hy1 => ?_)
  refine v_istore_n C (lv' := [(2, .int y1), (0, .ref x0), (1, .int x1)]) dJ3_charAt_4 (Nat.le_of_ble_eq_true rfl) rfl ?_
  refine v_aload_n C dJ3_charAt_5 1 rfl ?_
  refine g_getA C dJ3_charAt_6 cls_12 (Nat.le_of_ble_eq_true rfl) fl_J3_15 fs_J3_15 (fun y2 hy2 => ?_)
  refine v_astore_n C (lv' := [(3, .ref y2), (2, .int y1), (0, .ref x0), (1, .int x1)]) dJ3_charAt_9 (Nat.le_of_ble_eq_true rfl) rfl ?_
  refine v_aload_n C dJ3_charAt_10 2 rfl ?_
  refine g_getI C dJ3_charAt_11 cls_12 (Nat.le_of_ble_eq_true rfl) fl_J3_79 fs_J3_79 (fun y3 hy3 => ?_)
  refine v_aload_n C dJ3_charAt_14 0 rfl ?_
  refine g_alen (kd := 2) (fun _ => rfl) C dJ3_charAt_15 (fun y4 hy4 => ?_)
  refine v_iload_n C dJ3_charAt_16 1 rfl ?_
  refine v_ishr C dJ3_charAt_17 ?_
  refine v_leti (fun y5 hy5 => ?_)
  refine g_mmin C dJ3_charAt_18 q749 q211 q108 q212 (Nat.le_of_ble_eq_true rfl) (Nat.le_of_ble_eq_true rfl) ?_
  refine v_leti (fun y6 hy6 => ?_)
  refine v_istore C (lv' := [(4, .int y6), (3, .ref y2), (2, .int y1), (0, .ref x0), (1, .int x1)]) dJ3_charAt_21 (Nat.le_of_ble_eq_true rfl) rfl ?_
  refine v_iload_n C dJ3_charAt_23 4 rfl ?_
  refine v_iload C dJ3_charAt_24 0 rfl ?_
  refine v_callS_rv C (As := [.int x1, .int y6]) (st := []) lk_J3_144 dJ3_charAt_26 rfl (Nat.le_of_ble_eq_true rfl) (Nat.le_of_ble_eq_true rfl) (Nat.le_of_ble_eq_true rfl) (fun _ z => met_J5_checkIndex hO S x1 y6 z) (fun r7 hr7 => ?_)
  refine v_iload_n C dJ3_charAt_29 2 rfl ?_
  refine v_if_ne C (tgt := 42) dJ3_charAt_30 rfl (fun _ => ?_) (fun _ => ?_)
  · refine v_aload_n C dJ3_charAt_33 1 rfl ?_
    refine v_iload_n C dJ3_charAt_34 4 rfl ?_
    refine g_bal C dJ3_charAt_35 (fun y8 hy8 => ?_)
    refine v_sipush C dJ3_charAt_36 cs_255 ?_
    refine v_iand C dJ3_charAt_39 ?_
    refine v_i2c C dJ3_charAt_40 ?_
    refine v_zc (fun b9 hb9 => ?_)
    exact v_creturn C hm dJ3_charAt_41 hb9 rfl
  · refine v_aload_n C dJ3_charAt_42 1 rfl ?_
    refine v_iload_n C dJ3_charAt_43 4 rfl ?_
    exact VF.none
theorem o_J3_append_3_56 {x0 : Nat} {x1 : Int32}  (S : St) : MF mf_p (C_J3_append_3_56 x0 x1 S) S := by
  unfold C_J3_append_3_56
  refine mf_bind (fun y11 hy11 => ?_)
  refine mf_bind (fun y12 hy12 => ?_)
  refine mf_put (fun S13 hS13 => ?_)
  exact mf_none
theorem o_J3_append_3_45 {x0 : Nat} {x1 : Int32}  (S : St) : MF mf_p (C_J3_append_3_45 x0 x1 S) S := by
  unfold C_J3_append_3_45
  refine mf_bind (fun r9 hr9 => ?_)
  refine mf_ite ?_ ?_
  · exact (o_J3_append_3_56 S)
  · exact mf_none
theorem mono_J3_append_3 {S : St} {x0 : Nat} {x1 : Int32} {r : Nat × St} (h : C_J3_append_3 S x0 x1 = some r) : leG S r.2 := by
  have q : MF mf_p (C_J3_append_3 S x0 x1) S := by
    unfold C_J3_append_3
    refine mf_bind (fun _ _ => ?_)
    refine mf_bind (fun y1 hy1 => ?_)
    refine mf_callv (fun _ z => mono_J3_ensureCapacityInternal z) (fun r2 hr2 => ?_)
    refine mf_bind (fun r3 hr3 => ?_)
    refine mf_ite ?_ ?_
    · exact (o_J3_append_3_45 r2)
    · refine mf_bind (fun r4 hr4 => ?_)
      refine mf_ite ?_ ?_
      · exact (o_J3_append_3_45 r2)
      · refine mf_bind (fun y5 hy5 => ?_)
        refine mf_bind (fun y6 hy6 => ?_)
        refine mf_put (fun S7 hS7 => ?_)
        refine mf_tI (fun S8 hS8 => ?_)
        exact mf_ret leG.rf
  exact q r h
theorem w_J3_append_3_56 {P : GP} {X : Ctx} {l : Launch} {S0 : St} (hO : okG P) (C : CX (OG P) X l cJ3_append_3 2 RJ3 (some (.object "java/lang/AbstractStringBuilder"))) (hm : X.2.2.2.2.2.2.2.2.2 = none) {x0 : Nat} {x1 : Int32}  (S : St) : VF (OG P) X 2 4 104 S0 f_ma (C_J3_append_3_56 x0 x1 S) S 56 [(0, .ref x0), (1, .int x1)] [] := by
  unfold C_J3_append_3_56
  refine v_aload_n C dJ3_append_3_56 0 rfl ?_
  refine g_getA C dJ3_append_3_57 cls_12 (Nat.le_of_ble_eq_true rfl) fl_J3_15 fs_J3_15 (fun y11 hy11 => ?_)
  refine v_aload_n C dJ3_append_3_60 0 rfl ?_
  refine v_dup C dJ3_append_3_61 rfl ?_
  refine g_getI C dJ3_append_3_62 cls_12 (Nat.le_of_ble_eq_true rfl) fl_J3_79 fs_J3_79 (fun y12 hy12 => ?_)
  refine v_dup_x1 C dJ3_append_3_65 rfl rfl ?_
  refine v_iconst C dJ3_append_3_66 ci_1 ?_
  refine v_iadd C dJ3_append_3_67 ?_
  refine g_putV C dJ3_append_3_68 cls_12 (Nat.le_of_ble_eq_true rfl) fl_J3_79 fs_J3_79 rfl rfl rfl (fun S13 hS13 => ?_)
  refine v_iload_n C dJ3_append_3_71 1 rfl ?_
  exact VF.none
theorem w_J3_append_3_45 {P : GP} {X : Ctx} {l : Launch} {S0 : St} (hO : okG P) (C : CX (OG P) X l cJ3_append_3 2 RJ3 (some (.object "java/lang/AbstractStringBuilder"))) (hm : X.2.2.2.2.2.2.2.2.2 = none) {x0 : Nat} {x1 : Int32}  (S : St) : VF (OG P) X 2 4 104 S0 f_ma (C_J3_append_3_45 x0 x1 S) S 45 [(0, .ref x0), (1, .int x1)] [] := by
  unfold C_J3_append_3_45
  refine v_aload_n C dJ3_append_3_45 0 rfl ?_
  refine g_callU_ri C (As := []) (st := []) lk_J3_83 dJ3_append_3_46 rfl (Nat.le_of_ble_eq_true rfl) (Nat.le_of_ble_eq_true rfl) (Nat.le_of_ble_eq_true rfl) cls_12.1 (fun _ z => rc_J3_isLatin1 z) (fun _ z => met_J3_isLatin1 hO S x0 z) (fun r9 hr9 => ?_)
  refine v_if_eq C (tgt := 56) dJ3_append_3_49 rfl (fun _ => ?_) (fun _ => ?_)
  · exact v_sub [0, 1] rfl (w_J3_append_3_56 hO C hm S)
  · refine v_aload_n C dJ3_append_3_52 0 rfl ?_
    exact VF.none
theorem met_J3_append_3 {P : GP} {l : Launch} (hO : okG P) (S : St) (x0 : Nat) (x1 : Int32) {r : Nat × St} (h : C_J3_append_3 S x0 x1 = some r) : FM l (OG P) yJ3_append_3 (ws_ yJ3_append_3 cJ3_append_3 2 (some (.object "java/lang/AbstractStringBuilder"))) 4 104 [.ref x0, .int x1] S (f_ma r) := by
  refine FM.of (own := RJ3) (lv := [(0, .ref x0), (1, .int x1)]) (OG_ok P hO) pl_J3 rfl (Nat.le_of_ble_eq_true rfl) rfl h (mono_J3_append_3 h).LE (fun X C hm => ?_)
  unfold C_J3_append_3
  refine VF.bind (fun _ _ => ?_)
  refine v_aload_n C dJ3_append_3_0 0 rfl ?_
  refine v_aload_n C dJ3_append_3_1 0 rfl ?_
  refine g_getI C dJ3_append_3_2 cls_12 (Nat.le_of_ble_eq_true rfl) fl_J3_79 fs_J3_79 (fun y1 hy1 => ?_)
  refine v_iconst C dJ3_append_3_5 ci_1 ?_
  refine v_iadd C dJ3_append_3_6 ?_
  refine g_callUP_mv C (As := [.int (y1 + 1)]) (st := []) lk_J3_100 dJ3_append_3_7 rfl (Nat.le_of_ble_eq_true rfl) (Nat.le_of_ble_eq_true rfl) (Nat.le_of_ble_eq_true rfl) cls_12.1 (fun _ z => rc_J3_ensureCapacityInternal z) (fun _ z => met_J3_ensureCapacityInternal hO S x0 (y1 + 1) z) (fun r2 hr2 => ?_)
  refine v_aload_n C dJ3_append_3_10 0 rfl ?_
  refine g_callU_ri C (As := []) (st := []) lk_J3_83 dJ3_append_3_11 rfl (Nat.le_of_ble_eq_true rfl) (Nat.le_of_ble_eq_true rfl) (Nat.le_of_ble_eq_true rfl) cls_12.1 (fun _ z => rc_J3_isLatin1 z) (fun _ z => met_J3_isLatin1 hO r2 x0 z) (fun r3 hr3 => ?_)
  refine v_if_eq C (tgt := 45) dJ3_append_3_14 rfl (fun _ => ?_) (fun _ => ?_)
  · exact v_sub [0, 1] rfl (w_J3_append_3_45 hO C hm r2)
  · refine v_iload_n C dJ3_append_3_17 1 rfl ?_
    refine v_callS_ri C (As := [.int x1]) (st := []) lk_J3_191 dJ3_append_3_18 rfl (Nat.le_of_ble_eq_true rfl) (Nat.le_of_ble_eq_true rfl) (Nat.le_of_ble_eq_true rfl) (fun _ z => met_J21_canEncode hO r2 x1 z) (fun r4 hr4 => ?_)
    refine v_if_eq C (tgt := 45) dJ3_append_3_21 rfl (fun _ => ?_) (fun _ => ?_)
    · exact v_sub [0, 1] rfl (w_J3_append_3_45 hO C hm r2)
    · refine v_aload_n C dJ3_append_3_24 0 rfl ?_
      refine g_getA C dJ3_append_3_25 cls_12 (Nat.le_of_ble_eq_true rfl) fl_J3_15 fs_J3_15 (fun y5 hy5 => ?_)
      refine v_aload_n C dJ3_append_3_28 0 rfl ?_
      refine v_dup C dJ3_append_3_29 rfl ?_
      refine g_getI C dJ3_append_3_30 cls_12 (Nat.le_of_ble_eq_true rfl) fl_J3_79 fs_J3_79 (fun y6 hy6 => ?_)
      refine v_dup_x1 C dJ3_append_3_33 rfl rfl ?_
      refine v_iconst C dJ3_append_3_34 ci_1 ?_
      refine v_iadd C dJ3_append_3_35 ?_
      refine g_putV C dJ3_append_3_36 cls_12 (Nat.le_of_ble_eq_true rfl) fl_J3_79 fs_J3_79 rfl rfl rfl (fun S7 hS7 => ?_)
      refine v_iload_n C dJ3_append_3_39 1 rfl ?_
      refine v_i2b C dJ3_append_3_40 ?_
      refine g_bas C dJ3_append_3_41 (fun S8 hS8 => ?_)
      refine v_goto C (tgt := 75) dJ3_append_3_42 rfl ?_
      refine v_aload_n C dJ3_append_3_75 0 rfl ?_
      exact v_areturn C hm dJ3_append_3_76 (Or.inl ⟨_, rfl⟩) (Or.inr ⟨_, rfl⟩) rfl
theorem met_J4_length {P : GP} {l : Launch} (hO : okG P) (S : St) (x0 : Nat) {r : Int32} (h : C_J4_length S x0 = some r) : FM l (OG P) yJ4_length (ws_ yJ4_length cJ4_length 1 (some .int)) 1 20 [.ref x0] S ((f_ri S) r) := by
  refine FM.of (own := RJ4) (lv := [(0, .ref x0)]) (OG_ok P hO) pl_J4 rfl (Nat.le_of_ble_eq_true rfl) rfl h LE.rf (fun X C hm => ?_)
  unfold C_J4_length
  refine VF.bind (fun _ _ => ?_)
  refine v_aload_n C dJ4_length_0 0 rfl ?_
  refine g_callSU_ri C (As := []) (st := []) lk_J4_343 dJ4_length_1 rfl (Nat.le_of_ble_eq_true rfl) (Nat.le_of_ble_eq_true rfl) (Nat.le_of_ble_eq_true rfl) cls_12.1 (fun _ z => rc_J3_length z) (fun _ z => met_J3_length hO S x0 z) (fun r1 hr1 => ?_)
  exact v_ireturn C hm dJ4_length_4 rfl
theorem mono_J4_setLength {F : Nat} {S : St} {x0 : Nat} {x1 : Int32} {r : St} (h : C_J4_setLength F S x0 x1 = some r) : leG S r := by
  have q : MF mf_s (C_J4_setLength F S x0 x1) S := by
    unfold C_J4_setLength
    refine mf_bind (fun _ _ => ?_)
    refine mf_callv (fun _ z => mono_J3_setLength z) (fun r1 hr1 => ?_)
    exact mf_ret leG.rf
  exact q r h
theorem met_J4_setLength {P : GP} {l : Launch} (hO : okG P) (F : Nat) (S : St) (x0 : Nat) (x1 : Int32) {r : St} (h : C_J4_setLength F S x0 x1 = some r) : FM l (OG P) yJ4_setLength (ws_ yJ4_setLength cJ4_setLength 2 none) 11 258 [.ref x0, .int x1] S (f_mv r) := by
  refine FM.of (own := RJ4) (lv := [(0, .ref x0), (1, .int x1)]) (OG_ok P hO) pl_J4 rfl (Nat.le_of_ble_eq_true rfl) rfl h (mono_J4_setLength h).LE (fun X C hm => ?_)
  unfold C_J4_setLength
  refine VF.bind (fun _ _ => ?_)
  refine v_aload_n C dJ4_setLength_0 0 rfl ?_
  refine v_iload_n C dJ4_setLength_1 1 rfl ?_
  refine g_callSU_mv C (As := [.int x1]) (st := []) lk_J4_333 dJ4_setLength_2 rfl (Nat.le_of_ble_eq_true rfl) (Nat.le_of_ble_eq_true rfl) (Nat.le_of_ble_eq_true rfl) cls_12.1 (fun _ z => rc_J3_setLength z) (fun _ z => met_J3_setLength hO F S x0 x1 z) (fun r1 hr1 => ?_)
  exact v_vreturn C hm dJ4_setLength_5 rfl
theorem met_J4_charAt {P : GP} {l : Launch} (hO : okG P) (S : St) (x0 : Nat) (x1 : Int32) {r : Int32} (h : C_J4_charAt P.2.2.2.2.2 S x0 x1 = some r) : FM l (OG P) yJ4_charAt (ws_ yJ4_charAt cJ4_charAt 2 (some .char)) 3 67 [.ref x0, .int x1] S ((f_ri S) r) := by
  refine FM.of (own := RJ4) (lv := [(0, .ref x0), (1, .int x1)]) (OG_ok P hO) pl_J4 rfl (Nat.le_of_ble_eq_true rfl) rfl h LE.rf (fun X C hm => ?_)
  unfold C_J4_charAt
  refine VF.bind (fun _ _ => ?_)
  refine v_aload_n C dJ4_charAt_0 0 rfl ?_
  refine v_iload_n C dJ4_charAt_1 1 rfl ?_
  refine g_callSU_ri C (As := [.int x1]) (st := []) lk_J4_329 dJ4_charAt_2 rfl (Nat.le_of_ble_eq_true rfl) (Nat.le_of_ble_eq_true rfl) (Nat.le_of_ble_eq_true rfl) cls_12.1 (fun _ z => rc_J3_charAt z) (fun _ z => met_J3_charAt hO S x0 x1 z) (fun r1 hr1 => ?_)
  refine v_zc (fun b2 hb2 => ?_)
  exact v_creturn C hm dJ4_charAt_5 hb2 rfl
theorem mono_J4_append_3 {S : St} {x0 : Nat} {x1 : Int32} {r : Nat × St} (h : C_J4_append_3 S x0 x1 = some r) : leG S r.2 := by
  have q : MF mf_p (C_J4_append_3 S x0 x1) S := by
    unfold C_J4_append_3
    refine mf_bind (fun _ _ => ?_)
    refine mf_call (fun _ z => mono_J3_append_3 z) (fun r1 hr1 => ?_)
    exact mf_ret leG.rf
  exact q r h
theorem met_J4_append_3 {P : GP} {l : Launch} (hO : okG P) (S : St) (x0 : Nat) (x1 : Int32) {r : Nat × St} (h : C_J4_append_3 S x0 x1 = some r) : FM l (OG P) yJ4_append_3 (ws_ yJ4_append_3 cJ4_append_3 2 (some (.object "java/lang/StringBuilder"))) 5 125 [.ref x0, .int x1] S (f_ma r) := by
  refine FM.of (own := RJ4) (lv := [(0, .ref x0), (1, .int x1)]) (OG_ok P hO) pl_J4 rfl (Nat.le_of_ble_eq_true rfl) rfl h (mono_J4_append_3 h).LE (fun X C hm => ?_)
  unfold C_J4_append_3
  refine VF.bind (fun _ _ => ?_)
  refine v_aload_n C dJ4_append_3_0 0 rfl ?_
  refine v_iload_n C dJ4_append_3_1 1 rfl ?_
  refine g_callSU_ma C (As := [.int x1]) (st := []) lk_J4_50 dJ4_append_3_2 rfl (Nat.le_of_ble_eq_true rfl) (Nat.le_of_ble_eq_true rfl) (Nat.le_of_ble_eq_true rfl) cls_12.1 (fun _ z => rc_J3_append_3 z) (fun _ z => met_J3_append_3 hO S x0 x1 z) (fun r1 hr1 => ?_)
  refine v_pop C dJ4_append_3_5 rfl ?_
  refine v_aload_n C dJ4_append_3_6 0 rfl ?_
  exact v_areturn C hm dJ4_append_3_7 (Or.inl ⟨_, rfl⟩) (Or.inr ⟨_, rfl⟩) rfl
theorem met_J5_checkBoundsBeginEnd {P : GP} {l : Launch} (hO : okG P) (S : St) (x0 : Int32) (x1 : Int32) (x2 : Int32) {r : Unit} (h : C_J5_checkBoundsBeginEnd P.2.2.2.2.2 x0 x1 x2 = some r) : FM l (OG P) yJ5_checkBoundsBeginEnd (ws_ yJ5_checkBoundsBeginEnd cJ5_checkBoundsBeginEnd 3 none) 1 23 [.int x0, .int x1, .int x2] S ((f_rv S) r) := by
  refine FM.of (own := RJ5) (lv := [(0, .int x0), (1, .int x1), (2, .int x2)]) (OG_ok P hO) pl_J5 rfl (Nat.le_of_ble_eq_true rfl) rfl h LE.rf (fun X C hm => ?_)
  unfold C_J5_checkBoundsBeginEnd
  refine v_iload_n C dJ5_checkBoundsBeginEnd_0 0 rfl ?_
  refine v_iload_n C dJ5_checkBoundsBeginEnd_1 1 rfl ?_
  refine v_iload_n C dJ5_checkBoundsBeginEnd_2 2 rfl ?_
  refine g_gets C dJ5_checkBoundsBeginEnd_3 (zG_6 P) q400 ?_
  refine v_callS_ri C (As := [.int x0, .int x1, .int x2, .ref (P.2.2.2.2.2 4)]) (st := []) lk_J5_1062 dJ5_checkBoundsBeginEnd_6 rfl (Nat.le_of_ble_eq_true rfl) (Nat.le_of_ble_eq_true rfl) (Nat.le_of_ble_eq_true rfl) (fun _ z => met_J20_checkFromToIndex hO S x0 x1 x2 (P.2.2.2.2.2 4) z) (fun r1 hr1 => ?_)
  refine v_pop C dJ5_checkBoundsBeginEnd_9 rfl ?_
  exact v_vreturn C hm dJ5_checkBoundsBeginEnd_10 rfl
theorem met_J5_checkBoundsOffCount {P : GP} {l : Launch} (hO : okG P) (S : St) (x0 : Int32) (x1 : Int32) (x2 : Int32) {r : Int32} (h : C_J5_checkBoundsOffCount P.2.2.2.2.2 x0 x1 x2 = some r) : FM l (OG P) yJ5_checkBoundsOffCount (ws_ yJ5_checkBoundsOffCount cJ5_checkBoundsOffCount 3 (some .int)) 1 23 [.int x0, .int x1, .int x2] S ((f_ri S) r) := by
  refine FM.of (own := RJ5) (lv := [(0, .int x0), (1, .int x1), (2, .int x2)]) (OG_ok P hO) pl_J5 rfl (Nat.le_of_ble_eq_true rfl) rfl h LE.rf (fun X C hm => ?_)
  unfold C_J5_checkBoundsOffCount
  refine v_iload_n C dJ5_checkBoundsOffCount_0 0 rfl ?_
  refine v_iload_n C dJ5_checkBoundsOffCount_1 1 rfl ?_
  refine v_iload_n C dJ5_checkBoundsOffCount_2 2 rfl ?_
  refine g_gets C dJ5_checkBoundsOffCount_3 (zG_6 P) q400 ?_
  refine v_callS_ri C (As := [.int x0, .int x1, .int x2, .ref (P.2.2.2.2.2 4)]) (st := []) lk_J5_1065 dJ5_checkBoundsOffCount_6 rfl (Nat.le_of_ble_eq_true rfl) (Nat.le_of_ble_eq_true rfl) (Nat.le_of_ble_eq_true rfl) (fun _ z => met_J20_checkFromIndexSize hO S x0 x1 x2 (P.2.2.2.2.2 4) z) (fun r1 hr1 => ?_)
  exact v_ireturn C hm dJ5_checkBoundsOffCount_9 rfl
theorem o_J7_init_3_41 {ek : Nat → Nat} {x0 : Nat} {x1 : Nat} {x2 : Option Nat} {x3 : Int32}  (S : St) : MF mf_s (C_J7_init_3_41 ek x0 x1 x2 x3 S) S := by
  unfold C_J7_init_3_41
  refine mf_put (fun S5 hS5 => ?_)
  refine mf_put (fun S6 hS6 => ?_)
  refine mf_ite ?_ ?_
  · refine mf_put (fun S7 hS7 => ?_)
    exact mf_ret leG.rf
  · exact mf_ret leG.rf
theorem mono_J7_init_3 {ek : Nat → Nat} {S : St} {x0 : Nat} {x1 : Nat} {x2 : Option Nat} {x3 : Int32} {x4 : Int32} {r : St} (h : C_J7_init_3 ek S x0 x1 x2 x3 x4 = some r) : leG S r := by
  have q : MF mf_s (C_J7_init_3 ek S x0 x1 x2 x3 x4) S := by
    unfold C_J7_init_3
    refine mf_put (fun S1 hS1 => ?_)
    refine mf_put (fun S2 hS2 => ?_)
    refine mf_put (fun S3 hS3 => ?_)
    refine mf_ite ?_ ?_
    · refine mf_put (fun S4 hS4 => ?_)
      exact (o_J7_init_3_41 S4)
    · exact mf_none
  exact q r h
theorem w_J7_init_3_41 {P : GP} {X : Ctx} {l : Launch} {S0 : St} (hO : okG P) (C : CX (OG P) X l cJ7_init_3 5 RJ7 none) (hm : X.2.2.2.2.2.2.2.2.2 = none) (hin2 : X.2.2.2.2.2.2.2.1.name = "<init>") {x0 : Nat} {x1 : Nat} {x2 : Option Nat} {x3 : Int32}  (S : St) : VF (OG P) X 5 1 34 S0 f_mv (C_J7_init_3_41 P.2.2.2.2.2 x0 x1 x2 x3 S) S 41 [(0, .ref x0), (1, .ref x1), (2, va_rf x2), (3, .int x3)] [] := by
  unfold C_J7_init_3_41
  refine v_aload_n C dJ7_init_3_41 0 rfl ?_
  refine v_aload_n C dJ7_init_3_42 1 rfl ?_
  refine g_putV C dJ7_init_3_43 cls_10 (Nat.le_of_ble_eq_true rfl) fl_J7_31 fs_J7_31 rfl rfl rfl (fun S5 hS5 => ?_)
  refine v_aload_n C dJ7_init_3_46 0 rfl ?_
  refine g_aload_nQ C dJ7_init_3_47 2 rfl ?_
  refine g_putV C dJ7_init_3_48 cls_10 (Nat.le_of_ble_eq_true rfl) fl_J7_7 fs_J7_7 rfl (by cases x2 <;> rfl) (by cases x2 <;> rfl) (fun S6 hS6 => ?_)
  refine v_iload_n C dJ7_init_3_51 3 rfl ?_
  refine v_if_ne C (tgt := 60) dJ7_init_3_52 rfl (fun _ => ?_) (fun _ => ?_)
  · refine v_aload_n C dJ7_init_3_55 0 rfl ?_
    refine g_null C dJ7_init_3_56 ?_
    refine g_putV C dJ7_init_3_57 cls_10 (Nat.le_of_ble_eq_true rfl) fl_J7_24 fs_J7_24 rfl rfl rfl (fun S7 hS7 => ?_)
    exact v_vreturn C hm dJ7_init_3_60 rfl
  · exact v_vreturn C hm dJ7_init_3_60 rfl
theorem met_J7_init_3 {P : GP} {l : Launch} (hO : okG P) (S : St) (x0 : Nat) (x1 : Nat) (x2 : Option Nat) (x3 : Int32) (x4 : Int32) {r : St} (h : C_J7_init_3 P.2.2.2.2.2 S x0 x1 x2 x3 x4 = some r) : FM l (OG P) yJ7_init_3 (ws_ yJ7_init_3 cJ7_init_3 5 none) 1 34 [.ref x0, .ref x1, va_rf x2, .int x3, .int x4] S (f_mv r) := by
  refine FM.ofI (own := RJ7) (lv := [(0, .ref x0), (1, .ref x1), (2, va_rf x2), (3, .int x3), (4, .int x4)]) hO pl_J7 rfl rfl (by cases x2 <;> exact Nat.le_of_ble_eq_true rfl) (by cases x2 <;> rfl) h (mono_J7_init_3 h).LE (fun X C hm hin2 => ?_)
  unfold C_J7_init_3
  refine v_aload_n C dJ7_init_3_0 0 rfl ?_
  refine g_objInit C dJ7_init_3_1 lkO_J7_1 (Nat.le_of_ble_eq_true rfl) (Nat.le_of_ble_eq_true rfl) ?_
  refine v_aload_n C dJ7_init_3_4 0 rfl ?_
  refine v_aload_n C dJ7_init_3_5 0 rfl ?_
  refine g_putV C dJ7_init_3_6 cls_10 (Nat.le_of_ble_eq_true rfl) fl_J7_7 fs_J7_7 rfl rfl rfl (fun S1 hS1 => ?_)
  refine v_aload_n C dJ7_init_3_9 0 rfl ?_
  refine g_gets C dJ7_init_3_10 (zG_7 P) q537 ?_
  refine g_putV C dJ7_init_3_13 cls_10 (Nat.le_of_ble_eq_true rfl) fl_J7_17 fs_J7_17 rfl rfl rfl (fun S2 hS2 => ?_)
  refine v_aload_n C dJ7_init_3_16 0 rfl ?_
  refine g_gets C dJ7_init_3_17 (zG_8 P) q539 ?_
  refine g_putV C dJ7_init_3_20 cls_10 (Nat.le_of_ble_eq_true rfl) fl_J7_24 fs_J7_24 rfl rfl rfl (fun S3 hS3 => ?_)
  refine v_iload C dJ7_init_3_23 4 rfl ?_
  refine v_if_eq C (tgt := 36) dJ7_init_3_25 rfl (fun _ => ?_) (fun _ => ?_)
  · refine v_aload_n C dJ7_init_3_36 0 rfl ?_
    refine g_null C dJ7_init_3_37 ?_
    refine g_putV C dJ7_init_3_38 cls_10 (Nat.le_of_ble_eq_true rfl) fl_J7_17 fs_J7_17 rfl rfl rfl (fun S4 hS4 => ?_)
    exact v_sub [0, 1, 2, 3] rfl (w_J7_init_3_41 hO C hm hin2 S4)
  · refine v_aload_n C dJ7_init_3_28 0 rfl ?_
    exact VF.none
theorem mono_J8_init_2 {ek : Nat → Nat} {S : St} {x0 : Nat} {x1 : Nat} {x2 : Option Nat} {x3 : Int32} {x4 : Int32} {r : St} (h : C_J8_init_2 ek S x0 x1 x2 x3 x4 = some r) : leG S r := by
  have q : MF mf_s (C_J8_init_2 ek S x0 x1 x2 x3 x4) S := by
    unfold C_J8_init_2
    refine mf_callv (fun _ z => mono_J7_init_3 z) (fun r1 hr1 => ?_)
    exact mf_ret leG.rf
  exact q r h
theorem met_J8_init_2 {P : GP} {l : Launch} (hO : okG P) (S : St) (x0 : Nat) (x1 : Nat) (x2 : Option Nat) (x3 : Int32) (x4 : Int32) {r : St} (h : C_J8_init_2 P.2.2.2.2.2 S x0 x1 x2 x3 x4 = some r) : FM l (OG P) yJ8_init_2 (ws_ yJ8_init_2 cJ8_init_2 5 none) 2 58 [.ref x0, .ref x1, va_rf x2, .int x3, .int x4] S (f_mv r) := by
  refine FM.ofI (own := RJ8) (lv := [(0, .ref x0), (1, .ref x1), (2, va_rf x2), (3, .int x3), (4, .int x4)]) hO pl_J8 rfl rfl (by cases x2 <;> exact Nat.le_of_ble_eq_true rfl) (by cases x2 <;> rfl) h (mono_J8_init_2 h).LE (fun X C hm hin2 => ?_)
  unfold C_J8_init_2
  refine v_aload_n C dJ8_init_2_0 0 rfl ?_
  refine v_aload_n C dJ8_init_2_1 1 rfl ?_
  refine g_aload_nQ C dJ8_init_2_2 2 rfl ?_
  refine v_iload_n C dJ8_init_2_3 3 rfl ?_
  refine v_iload C dJ8_init_2_4 4 rfl ?_
  refine v_callI_mv C (As := [.ref x1, va_rf x2, .int x3, .int x4]) (st := []) lk_J8_16 dJ8_init_2_6 rfl (Nat.le_of_ble_eq_true rfl) (Nat.le_of_ble_eq_true rfl) (Nat.le_of_ble_eq_true rfl) (fun _ z => met_J7_init_3 hO S x0 x1 x2 x3 x4 z) (fun r1 hr1 => ?_)
  exact v_vreturn C hm dJ8_init_2_9 rfl
theorem mono_X2_init_2 {S : St} {x0 : Nat} {x1 : Nat} {x2 : Nat} {x3 : Nat} {x4 : Nat} {r : St} (h : C_X2_init_2 S x0 x1 x2 x3 x4 = some r) : leG S r := by
  have q : MF mf_s (C_X2_init_2 S x0 x1 x2 x3 x4) S := by
    unfold C_X2_init_2
    refine mf_put (fun S1 hS1 => ?_)
    refine mf_put (fun S2 hS2 => ?_)
    refine mf_put (fun S3 hS3 => ?_)
    refine mf_put (fun S4 hS4 => ?_)
    exact mf_ret leG.rf
  exact q r h
theorem met_X2_init_2 {P : GP} {l : Launch} (hO : okG P) (S : St) (x0 : Nat) (x1 : Nat) (x2 : Nat) (x3 : Nat) (x4 : Nat) {r : St} (h : C_X2_init_2 S x0 x1 x2 x3 x4 = some r) : FM l (OG P) yX2_init_2 (ws_ yX2_init_2 cX2_init_2 5 none) 1 34 [.ref x0, .ref x1, .ref x2, .ref x3, .ref x4] S (f_mv r) := by
  refine FM.ofI (own := RX2) (lv := [(0, .ref x0), (1, .ref x1), (2, .ref x2), (3, .ref x3), (4, .ref x4)]) hO pl_X2 rfl rfl (Nat.le_of_ble_eq_true rfl) rfl h (mono_X2_init_2 h).LE (fun X C hm hin2 => ?_)
  unfold C_X2_init_2
  refine v_aload_n C dX2_init_2_0 0 rfl ?_
  refine g_objInit C dX2_init_2_1 lkO_X2_17 (Nat.le_of_ble_eq_true rfl) (Nat.le_of_ble_eq_true rfl) ?_
  refine v_aload_n C dX2_init_2_4 0 rfl ?_
  refine v_aload_n C dX2_init_2_5 1 rfl ?_
  refine g_putFV C hin2 dX2_init_2_6 cls_2 (Nat.le_of_ble_eq_true rfl) q172 rfl rfl rfl rfl (fun S1 hS1 => ?_)
  refine v_aload_n C dX2_init_2_9 0 rfl ?_
  refine v_aload_n C dX2_init_2_10 2 rfl ?_
  refine g_putFV C hin2 dX2_init_2_11 cls_2 (Nat.le_of_ble_eq_true rfl) q175 rfl rfl rfl rfl (fun S2 hS2 => ?_)
  refine v_aload_n C dX2_init_2_14 0 rfl ?_
  refine v_aload_n C dX2_init_2_15 3 rfl ?_
  refine g_putFV C hin2 dX2_init_2_16 cls_2 (Nat.le_of_ble_eq_true rfl) q179 rfl rfl rfl rfl (fun S3 hS3 => ?_)
  refine v_aload_n C dX2_init_2_19 0 rfl ?_
  refine v_aload C dX2_init_2_20 4 rfl ?_
  refine g_putFV C hin2 dX2_init_2_22 cls_2 (Nat.le_of_ble_eq_true rfl) q181 rfl rfl rfl rfl (fun S4 hS4 => ?_)
  exact v_vreturn C hm dX2_init_2_25 rfl
theorem o_X2_init_20 {F : Nat} {x0 : Nat} {x1 : Int32}  : ∀ (n : Nat) (x2 : Int32) (S : St), MF mf_s (C_X2_init_20 F x0 x1 n x2 S) S := by
  intro n
  induction n with
  | zero => intro x2 S; exact mf_none
  | succ n ih =>
    intro x2 S
    unfold C_X2_init_20
    refine mf_ite ?_ ?_
    · exact mf_ret leG.rf
    · refine mf_bind (fun y6 hy6 => ?_)
      refine mf_tI (fun S7 hS7 => ?_)
      refine mf_bind (fun y8 hy8 => ?_)
      exact (ih y8 S7)
theorem mono_X2_init {F : Nat} {S : St} {x0 : Nat} {x1 : Int32} {r : St} (h : C_X2_init F S x0 x1 = some r) : leG S r := by
  have q : MF mf_s (C_X2_init F S x0 x1) S := by
    unfold C_X2_init
    refine mf_nI_ (fun r1 hr1 => ?_)
    refine mf_nI_ (fun r2 hr2 => ?_)
    refine mf_nQ_ (fun r3 hr3 => ?_)
    refine mf_nQ_ (fun r4 hr4 => ?_)
    refine mf_callv (fun _ z => mono_X2_init_2 z) (fun r5 hr5 => ?_)
    exact (o_X2_init_20 F 0 r5)
  exact q r h
theorem w_X2_init_20 {P : GP} {X : Ctx} {l : Launch} {S0 : St} {F : Nat} (hO : okG P) (C : CX (OG P) X l cX2_init 3 RX2 none) (hm : X.2.2.2.2.2.2.2.2.2 = none) (hin2 : X.2.2.2.2.2.2.2.1.name = "<init>") {x0 : Nat} {x1 : Int32}  : ∀ (n : Nat) (x2 : Int32) (S : St), VF (OG P) X 3 2 58 S0 f_mv (C_X2_init_20 F x0 x1 n x2 S) S 20 [(0, .ref x0), (1, .int x1), (2, .int x2)] [] := by
  intro n
  induction n with
  | zero => intro x2 S; exact VF.none
  | succ n ih =>
    intro x2 S
    unfold C_X2_init_20
    refine v_iload_n C dX2_init_20 2 rfl ?_
    refine v_iload_n C dX2_init_21 1 rfl ?_
    refine v_icmp_ge C (tgt := 38) dX2_init_22 rfl (fun _ => ?_) (fun _ => ?_)
    · exact v_vreturn C hm dX2_init_38 rfl
    · refine v_aload_n C dX2_init_25 0 rfl ?_
      refine g_getA C dX2_init_26 cls_2 (Nat.le_of_ble_eq_true rfl) fl_X2_13 fs_X2_13 (fun y6 hy6 => ?_)
      refine v_iload_n C dX2_init_29 2 rfl ?_
      refine v_iconst C dX2_init_30 ci_1 ?_
      refine g_ias C dX2_init_31 (fun S7 hS7 => ?_)
      refine v_iincN C (lv' := fun y8 => [(2, .int y8), (0, .ref x0), (1, .int x1)]) dX2_init_32 2 rfl ci_1 (Nat.le_of_ble_eq_true rfl) (fun _ => rfl) (fun y8 hy8 => ?_)
      refine v_goto C (tgt := 20) dX2_init_35 rfl ?_
      exact v_sub [1, 2, 0] rfl (ih y8 S7)
theorem met_X2_init {P : GP} {l : Launch} (hO : okG P) (F : Nat) (S : St) (x0 : Nat) (x1 : Int32) {r : St} (h : C_X2_init F S x0 x1 = some r) : FM l (OG P) yX2_init (ws_ yX2_init cX2_init 3 none) 2 58 [.ref x0, .int x1] S (f_mv r) := by
  refine FM.ofI (own := RX2) (lv := [(0, .ref x0), (1, .int x1)]) hO pl_X2 rfl rfl (Nat.le_of_ble_eq_true rfl) rfl h (mono_X2_init h).LE (fun X C hm hin2 => ?_)
  unfold C_X2_init
  refine v_aload_n C dX2_init_0 0 rfl ?_
  refine v_iload_n C dX2_init_1 1 rfl ?_
  refine g_naI C dX2_init_2 q194 (fun r1 hr1 => ?_)
  refine v_iload_n C dX2_init_4 1 rfl ?_
  refine g_naI C dX2_init_5 q194 (fun r2 hr2 => ?_)
  refine v_iconst C dX2_init_7 ci_0 ?_
  refine g_naQ3 C dX2_init_8 q164 (fun r3 hr3 => ?_)
  refine v_iconst C dX2_init_11 ci_0 ?_
  refine g_naQ4 C dX2_init_12 q166 (fun r4 hr4 => ?_)
  refine v_callI_mv C (As := [.ref (r1.1), .ref (r2.1), .ref (r3.1), .ref (r4.1)]) (st := []) lk_X2_7 dX2_init_15 rfl (Nat.le_of_ble_eq_true rfl) (Nat.le_of_ble_eq_true rfl) (Nat.le_of_ble_eq_true rfl) (fun _ z => met_X2_init_2 hO r4.2 x0 (r1.1) (r2.1) (r3.1) (r4.1) z) (fun r5 hr5 => ?_)
  refine v_iconst C dX2_init_18 ci_0 ?_
  refine v_istore_n C (lv' := [(2, .int 0), (0, .ref x0), (1, .int x1)]) dX2_init_19 (Nat.le_of_ble_eq_true rfl) rfl ?_
  exact v_sub [1, 2, 0] rfl (w_X2_init_20 hO C hm hin2 F 0 r5)
theorem met_X2_size {P : GP} {l : Launch} (hO : okG P) (S : St) (x0 : Nat) {r : Int32} (h : C_X2_size S x0 = some r) : FM l (OG P) yX2_size (ws_ yX2_size cX2_size 1 (some .int)) 0 0 [.ref x0] S ((f_ri S) r) := by
  refine FM.of (own := RX2) (lv := [(0, .ref x0)]) (OG_ok P hO) pl_X2 rfl (Nat.le_of_ble_eq_true rfl) rfl h LE.rf (fun X C hm => ?_)
  unfold C_X2_size
  refine VF.bind (fun _ _ => ?_)
  refine v_aload_n C dX2_size_0 0 rfl ?_
  refine g_getA C dX2_size_1 cls_2 (Nat.le_of_ble_eq_true rfl) fl_X2_13 fs_X2_13 (fun y1 hy1 => ?_)
  refine g_alen (kd := 0) (fun _ => rfl) C dX2_size_4 (fun y2 hy2 => ?_)
  exact v_ireturn C hm dX2_size_5 rfl
theorem met_X3_distance {P : GP} {l : Launch} (hO : okG P) (S : St) (x0 : Nat) (x1 : Int32) (x2 : Int32) {r : Int32} (h : C_X3_distance S x0 x1 x2 = some r) : FM l (OG P) yX3_distance (ws_ yX3_distance cX3_distance 3 (some .int)) 0 0 [.ref x0, .int x1, .int x2] S ((f_ri S) r) := by
  refine FM.of (own := RX3) (lv := [(0, .ref x0), (1, .int x1), (2, .int x2)]) (OG_ok P hO) pl_X3 rfl (Nat.le_of_ble_eq_true rfl) rfl h LE.rf (fun X C hm => ?_)
  unfold C_X3_distance
  refine VF.bind (fun _ _ => ?_)
  refine v_aload_n C dX3_distance_0 0 rfl ?_
  refine g_getA C dX3_distance_1 cls_3 (Nat.le_of_ble_eq_true rfl) fl_X3_25 fs_X3_25 (fun y1 hy1 => ?_)
  refine v_aload_n C dX3_distance_4 0 rfl ?_
  refine g_getI C dX3_distance_5 cls_3 (Nat.le_of_ble_eq_true rfl) fl_X3_21 fs_X3_21 (fun y2 hy2 => ?_)
  refine v_iload_n C dX3_distance_8 1 rfl ?_
  refine v_imul C dX3_distance_9 ?_
  refine v_iload_n C dX3_distance_10 2 rfl ?_
  refine v_iadd C dX3_distance_11 ?_
  refine g_ial C dX3_distance_12 (fun y3 hy3 => ?_)
  exact v_ireturn C hm dX3_distance_13 rfl
theorem o_X3_init_69 {F : Nat} {x0 : Nat} {x1 : Nat} {x2 : Int32} (k34 : Int32 → St → Option St) (hk34 : ∀ (z2 : Int32) (τ : St), MF mf_s (k34 z2 τ) τ) (s0 : Nat) (s1 : Int32) (s2 : Int32) (S : St) : MF mf_s (C_X3_init_69 F k34 x0 x1 x2 s0 s1 s2 S) S := by
  unfold C_X3_init_69
  refine mf_tI (fun S13 hS13 => ?_)
  refine mf_bind (fun y14 hy14 => ?_)
  exact (hk34 y14 S13)
theorem o_X3_init_211 {F : Nat} {x0 : Nat} {x2 : Int32} (k148 : Int32 → St → Option St) (hk148 : ∀ (z2 : Int32) (τ : St), MF mf_s (k148 z2 τ) τ) (S : St) : MF mf_s (C_X3_init_211 F k148 x0 x2 S) S := by
  unfold C_X3_init_211
  refine mf_bind (fun y45 hy45 => ?_)
  exact (hk148 y45 S)
theorem o_X3_init_158 {F : Nat} {x0 : Nat} {x2 : Int32} (k148 : Int32 → St → Option St) (hk148 : ∀ (z2 : Int32) (τ : St), MF mf_s (k148 z2 τ) τ) : ∀ (n : Nat) (x3 : Int32) (S : St), MF mf_s (C_X3_init_158 F k148 x0 x2 n x3 S) S := by
  intro n
  induction n with
  | zero => intro x3 S; exact mf_none
  | succ n ih =>
    intro x3 S
    unfold C_X3_init_158
    refine mf_bind (fun y33 hy33 => ?_)
    refine mf_bind (fun y34 hy34 => ?_)
    refine mf_ite ?_ ?_
    · exact (o_X3_init_211 k148 hk148 S)
    · refine mf_bind (fun y35 hy35 => ?_)
      refine mf_bind (fun y36 hy36 => ?_)
      refine mf_bind (fun y37 hy37 => ?_)
      refine mf_bind (fun y38 hy38 => ?_)
      refine mf_ite mf_none ?_
      refine mf_bind (fun r39 hr39 => ?_)
      refine mf_bind (fun y40 hy40 => ?_)
      refine mf_ite mf_none ?_
      refine mf_bind (fun r41 hr41 => ?_)
      refine mf_bind (fun y42 hy42 => ?_)
      refine mf_tI (fun S43 hS43 => ?_)
      refine mf_bind (fun y44 hy44 => ?_)
      exact (ih y44 S43)
theorem o_X3_init_148 {F : Nat} {x0 : Nat}  : ∀ (n : Nat) (x2 : Int32) (S : St), MF mf_s (C_X3_init_148 F x0 n x2 S) S := by
  intro n
  induction n with
  | zero => intro x2 S; exact mf_none
  | succ n ih =>
    intro x2 S
    unfold C_X3_init_148
    refine mf_bind (fun y32 hy32 => ?_)
    refine mf_ite ?_ ?_
    · exact mf_ret leG.rf
    · exact (o_X3_init_158 (C_X3_init_148 F x0 n) ih F 0 S)
theorem o_X3_init_146 {F : Nat} {x0 : Nat}  (S : St) : MF mf_s (C_X3_init_146 F x0 S) S := by
  unfold C_X3_init_146
  exact (o_X3_init_148 F 0 S)
theorem o_X3_init_78 {F : Nat} {x0 : Nat} {x1 : Nat}  : ∀ (n : Nat) (x2 : Int32) (S : St), MF mf_s (C_X3_init_78 F x0 x1 n x2 S) S := by
  intro n
  induction n with
  | zero => intro x2 S; exact mf_none
  | succ n ih =>
    intro x2 S
    unfold C_X3_init_78
    refine mf_bind (fun y15 hy15 => ?_)
    refine mf_bind (fun y16 hy16 => ?_)
    refine mf_ite ?_ ?_
    · exact (o_X3_init_146 S)
    · refine mf_bind (fun y17 hy17 => ?_)
      refine mf_bind (fun y18 hy18 => ?_)
      refine mf_bind (fun y19 hy19 => ?_)
      refine mf_bind (fun y20 hy20 => ?_)
      refine mf_bind (fun y21 hy21 => ?_)
      refine mf_bind (fun y22 hy22 => ?_)
      refine mf_bind (fun y23 hy23 => ?_)
      refine mf_tI (fun S24 hS24 => ?_)
      refine mf_bind (fun y25 hy25 => ?_)
      refine mf_bind (fun y26 hy26 => ?_)
      refine mf_bind (fun y27 hy27 => ?_)
      refine mf_bind (fun y28 hy28 => ?_)
      refine mf_bind (fun y29 hy29 => ?_)
      refine mf_tI (fun S30 hS30 => ?_)
      refine mf_bind (fun y31 hy31 => ?_)
      exact (ih y31 S30)
theorem o_X3_init_76 {F : Nat} {x0 : Nat} {x1 : Nat}  (S : St) : MF mf_s (C_X3_init_76 F x0 x1 S) S := by
  unfold C_X3_init_76
  exact (o_X3_init_78 F 0 S)
theorem o_X3_init_34 {F : Nat} {x0 : Nat} {x1 : Nat}  : ∀ (n : Nat) (x2 : Int32) (S : St), MF mf_s (C_X3_init_34 F x0 x1 n x2 S) S := by
  intro n
  induction n with
  | zero => intro x2 S; exact mf_none
  | succ n ih =>
    intro x2 S
    unfold C_X3_init_34
    refine mf_bind (fun y8 hy8 => ?_)
    refine mf_bind (fun y9 hy9 => ?_)
    refine mf_ite ?_ ?_
    · exact (o_X3_init_76 S)
    · refine mf_bind (fun y10 hy10 => ?_)
      refine mf_bind (fun y11 hy11 => ?_)
      refine mf_ite mf_none ?_
      refine mf_bind (fun y12 hy12 => ?_)
      refine mf_ite mf_none ?_
      refine mf_ite ?_ ?_
      · exact (o_X3_init_69 (C_X3_init_34 F x0 x1 n) ih y10 x2 0 S)
      · exact (o_X3_init_69 (C_X3_init_34 F x0 x1 n) ih y10 x2 100000 S)
theorem mono_X3_init {F : Nat} {S : St} {x0 : Nat} {x1 : Nat} {r : St} (h : C_X3_init F S x0 x1 = some r) : leG S r := by
  have q : MF mf_s (C_X3_init F S x0 x1) S := by
    unfold C_X3_init
    refine mf_put (fun S1 hS1 => ?_)
    refine mf_bind (fun r2 hr2 => ?_)
    refine mf_put (fun S3 hS3 => ?_)
    refine mf_bind (fun y4 hy4 => ?_)
    refine mf_bind (fun y5 hy5 => ?_)
    refine mf_nI_ (fun r6 hr6 => ?_)
    refine mf_put (fun S7 hS7 => ?_)
    exact (o_X3_init_34 F 0 S7)
  exact q r h
theorem w_X3_init_69 {P : GP} {X : Ctx} {l : Launch} {S0 : St} {F : Nat} (hO : okG P) (C : CX (OG P) X l cX3_init 4 RX3 none) (hm : X.2.2.2.2.2.2.2.2.2 = none) (hin2 : X.2.2.2.2.2.2.2.1.name = "<init>") {x0 : Nat} {x1 : Nat} {x2 : Int32} (k34 : Int32 → St → Option St) (hk34 : ∀ (z2 : Int32) (τ : St), VF (OG P) X 4 1 34 S0 f_mv (k34 z2 τ) τ 34 [(0, .ref x0), (1, .ref x1), (2, .int z2)] []) (s0 : Nat) (s1 : Int32) (s2 : Int32) (S : St) : VF (OG P) X 4 1 34 S0 f_mv (C_X3_init_69 F k34 x0 x1 x2 s0 s1 s2 S) S 69 [(0, .ref x0), (1, .ref x1), (2, .int x2)] [.int s2, .int s1, .ref s0] := by
  unfold C_X3_init_69
  refine g_ias C dX3_init_69 (fun S13 hS13 => ?_)
  refine v_iincN C (lv' := fun y14 => [(2, .int y14), (0, .ref x0), (1, .ref x1)]) dX3_init_70 2 rfl ci_1 (Nat.le_of_ble_eq_true rfl) (fun _ => rfl) (fun y14 hy14 => ?_)
  refine v_goto C (tgt := 34) dX3_init_73 rfl ?_
  exact v_sub [1, 2, 0] rfl (hk34 y14 S13)
theorem w_X3_init_211 {P : GP} {X : Ctx} {l : Launch} {S0 : St} {F : Nat} (hO : okG P) (C : CX (OG P) X l cX3_init 4 RX3 none) (hm : X.2.2.2.2.2.2.2.2.2 = none) (hin2 : X.2.2.2.2.2.2.2.1.name = "<init>") {x0 : Nat} {x2 : Int32} (k148 : Int32 → St → Option St) (hk148 : ∀ (z2 : Int32) (τ : St), VF (OG P) X 4 1 34 S0 f_mv (k148 z2 τ) τ 148 [(0, .ref x0), (2, .int z2)] []) (S : St) : VF (OG P) X 4 1 34 S0 f_mv (C_X3_init_211 F k148 x0 x2 S) S 211 [(0, .ref x0), (2, .int x2)] [] := by
  unfold C_X3_init_211
  refine v_iincN C (lv' := fun y45 => [(2, .int y45), (0, .ref x0)]) dX3_init_211 1 rfl ci_1 (Nat.le_of_ble_eq_true rfl) (fun _ => rfl) (fun y45 hy45 => ?_)
  refine v_goto C (tgt := 148) dX3_init_214 rfl ?_
  exact v_sub [1, 0] rfl (hk148 y45 S)
theorem w_X3_init_158 {P : GP} {X : Ctx} {l : Launch} {S0 : St} {F : Nat} (hO : okG P) (C : CX (OG P) X l cX3_init 4 RX3 none) (hm : X.2.2.2.2.2.2.2.2.2 = none) (hin2 : X.2.2.2.2.2.2.2.1.name = "<init>") {x0 : Nat} {x2 : Int32} (k148 : Int32 → St → Option St) (hk148 : ∀ (z2 : Int32) (τ : St), VF (OG P) X 4 1 34 S0 f_mv (k148 z2 τ) τ 148 [(0, .ref x0), (2, .int z2)] []) : ∀ (n : Nat) (x3 : Int32) (S : St), VF (OG P) X 4 1 34 S0 f_mv (C_X3_init_158 F k148 x0 x2 n x3 S) S 158 [(0, .ref x0), (2, .int x2), (3, .int x3)] [] := by
  intro n
  induction n with
  | zero => intro x3 S; exact VF.none
  | succ n ih =>
    intro x3 S
    unfold C_X3_init_158
    refine v_iload_n C dX3_init_158 2 rfl ?_
    refine v_aload_n C dX3_init_159 0 rfl ?_
    refine g_getA C dX3_init_160 cls_3 (Nat.le_of_ble_eq_true rfl) fl_X3_25 fs_X3_25 (fun y33 hy33 => ?_)
    refine g_alen (kd := 0) (fun _ => rfl) C dX3_init_163 (fun y34 hy34 => ?_)
    refine v_icmp_ge C (tgt := 211) dX3_init_164 rfl (fun _ => ?_) (fun _ => ?_)
    · exact v_sub [0, 1] rfl (w_X3_init_211 hO C hm hin2 k148 hk148 S)
    · refine v_aload_n C dX3_init_167 0 rfl ?_
      refine g_getA C dX3_init_168 cls_3 (Nat.le_of_ble_eq_true rfl) fl_X3_25 fs_X3_25 (fun y35 hy35 => ?_)
      refine v_iload_n C dX3_init_171 2 rfl ?_
      refine v_aload_n C dX3_init_172 0 rfl ?_
      refine g_getA C dX3_init_173 cls_3 (Nat.le_of_ble_eq_true rfl) fl_X3_25 fs_X3_25 (fun y36 hy36 => ?_)
      refine v_iload_n C dX3_init_176 2 rfl ?_
      refine g_ial C dX3_init_177 (fun y37 hy37 => ?_)
      refine v_aload_n C dX3_init_178 0 rfl ?_
      refine v_iload_n C dX3_init_179 2 rfl ?_
      refine v_aload_n C dX3_init_180 0 rfl ?_
      refine g_getI C dX3_init_181 cls_3 (Nat.le_of_ble_eq_true rfl) fl_X3_21 fs_X3_21 (fun y38 hy38 => ?_)
      refine v_idiv C dX3_init_184 (fun _ => ?_)
      refine v_iload_n C dX3_init_185 1 rfl ?_
      refine g_callV_ri C (As := [.int (x3 / y38), .int x2]) (st := [.int y37, .int x3, .ref y35]) lk_X3_45 dX3_init_186 rfl (Nat.le_of_ble_eq_true rfl) (Nat.le_of_ble_eq_true rfl) (Nat.le_of_ble_eq_true rfl) cls_3.1 rfl (fun _ z => rc_X3_distance z) (fun _ z => met_X3_distance hO S x0 (x3 / y38) x2 z) (fun r39 hr39 => ?_)
      refine v_aload_n C dX3_init_189 0 rfl ?_
      refine v_iload_n C dX3_init_190 1 rfl ?_
      refine v_iload_n C dX3_init_191 2 rfl ?_
      refine v_aload_n C dX3_init_192 0 rfl ?_
      refine g_getI C dX3_init_193 cls_3 (Nat.le_of_ble_eq_true rfl) fl_X3_21 fs_X3_21 (fun y40 hy40 => ?_)
      refine v_irem C dX3_init_196 (fun _ => ?_)
      refine g_callV_ri C (As := [.int x2, .int (x3 - x3 / y40 * y40)]) (st := [.int r39, .int y37, .int x3, .ref y35]) lk_X3_45 dX3_init_197 rfl (Nat.le_of_ble_eq_true rfl) (Nat.le_of_ble_eq_true rfl) (Nat.le_of_ble_eq_true rfl) cls_3.1 rfl (fun _ z => rc_X3_distance z) (fun _ z => met_X3_distance hO S x0 x2 (x3 - x3 / y40 * y40) z) (fun r41 hr41 => ?_)
      refine v_iadd C dX3_init_200 ?_
      refine v_leti (fun y42 hy42 => ?_)
      refine g_mmin C dX3_init_201 q210 q211 q108 q212 (Nat.le_of_ble_eq_true rfl) (Nat.le_of_ble_eq_true rfl) ?_
      refine g_ias C dX3_init_204 (fun S43 hS43 => ?_)
      refine v_iincN C (lv' := fun y44 => [(3, .int y44), (0, .ref x0), (2, .int x2)]) dX3_init_205 2 rfl ci_1 (Nat.le_of_ble_eq_true rfl) (fun _ => rfl) (fun y44 hy44 => ?_)
      refine v_goto C (tgt := 158) dX3_init_208 rfl ?_
      exact v_sub [1, 2, 0] rfl (ih y44 S43)
theorem w_X3_init_148 {P : GP} {X : Ctx} {l : Launch} {S0 : St} {F : Nat} (hO : okG P) (C : CX (OG P) X l cX3_init 4 RX3 none) (hm : X.2.2.2.2.2.2.2.2.2 = none) (hin2 : X.2.2.2.2.2.2.2.1.name = "<init>") {x0 : Nat}  : ∀ (n : Nat) (x2 : Int32) (S : St), VF (OG P) X 4 1 34 S0 f_mv (C_X3_init_148 F x0 n x2 S) S 148 [(0, .ref x0), (2, .int x2)] [] := by
  intro n
  induction n with
  | zero => intro x2 S; exact VF.none
  | succ n ih =>
    intro x2 S
    unfold C_X3_init_148
    refine v_iload_n C dX3_init_148 1 rfl ?_
    refine v_aload_n C dX3_init_149 0 rfl ?_
    refine g_getI C dX3_init_150 cls_3 (Nat.le_of_ble_eq_true rfl) fl_X3_21 fs_X3_21 (fun y32 hy32 => ?_)
    refine v_icmp_ge C (tgt := 217) dX3_init_153 rfl (fun _ => ?_) (fun _ => ?_)
    · exact v_vreturn C hm dX3_init_217 rfl
    · refine v_iconst C dX3_init_156 ci_0 ?_
      refine v_istore_n C (lv' := [(3, .int 0), (0, .ref x0), (2, .int x2)]) dX3_init_157 (Nat.le_of_ble_eq_true rfl) rfl ?_
      exact v_sub [1, 2, 0] rfl (w_X3_init_158 hO C hm hin2 (C_X3_init_148 F x0 n) ih F 0 S)
theorem w_X3_init_146 {P : GP} {X : Ctx} {l : Launch} {S0 : St} {F : Nat} (hO : okG P) (C : CX (OG P) X l cX3_init 4 RX3 none) (hm : X.2.2.2.2.2.2.2.2.2 = none) (hin2 : X.2.2.2.2.2.2.2.1.name = "<init>") {x0 : Nat}  (S : St) : VF (OG P) X 4 1 34 S0 f_mv (C_X3_init_146 F x0 S) S 146 [(0, .ref x0)] [] := by
  unfold C_X3_init_146
  refine v_iconst C dX3_init_146 ci_0 ?_
  refine v_istore_n C (lv' := [(2, .int 0), (0, .ref x0)]) dX3_init_147 (Nat.le_of_ble_eq_true rfl) rfl ?_
  exact v_sub [1, 0] rfl (w_X3_init_148 hO C hm hin2 F 0 S)
theorem w_X3_init_78 {P : GP} {X : Ctx} {l : Launch} {S0 : St} {F : Nat} (hO : okG P) (C : CX (OG P) X l cX3_init 4 RX3 none) (hm : X.2.2.2.2.2.2.2.2.2 = none) (hin2 : X.2.2.2.2.2.2.2.1.name = "<init>") {x0 : Nat} {x1 : Nat}  : ∀ (n : Nat) (x2 : Int32) (S : St), VF (OG P) X 4 1 34 S0 f_mv (C_X3_init_78 F x0 x1 n x2 S) S 78 [(0, .ref x0), (1, .ref x1), (2, .int x2)] [] := by
  intro n
  induction n with
  | zero => intro x2 S; exact VF.none
  | succ n ih =>
    intro x2 S
    unfold C_X3_init_78
    refine v_iload_n C dX3_init_78 2 rfl ?_
    refine v_aload_n C dX3_init_79 1 rfl ?_
    refine g_getA C dX3_init_80 cls_2 (Nat.le_of_ble_eq_true rfl) fl_X3_30 fs_X3_30 (fun y15 hy15 => ?_)
    refine g_alen (kd := 3) (fun _ => rfl) C dX3_init_83 (fun y16 hy16 => ?_)
    refine v_icmp_ge C (tgt := 146) dX3_init_84 rfl (fun _ => ?_) (fun _ => ?_)
    · exact v_sub [0] rfl (w_X3_init_146 hO C hm hin2 S)
    · refine v_aload_n C dX3_init_87 1 rfl ?_
      refine g_getA C dX3_init_88 cls_2 (Nat.le_of_ble_eq_true rfl) fl_X3_30 fs_X3_30 (fun y17 hy17 => ?_)
      refine v_iload_n C dX3_init_91 2 rfl ?_
      refine g_aalA3 C dX3_init_92 (fun y18 hy18 => ?_)
      refine v_astore_n C (lv' := [(3, .ref y18), (0, .ref x0), (1, .ref x1), (2, .int x2)]) dX3_init_93 (Nat.le_of_ble_eq_true rfl) rfl ?_
      refine v_aload_n C dX3_init_94 1 rfl ?_
      refine g_getA C dX3_init_95 cls_3 (Nat.le_of_ble_eq_true rfl) fl_X3_25 fs_X3_25 (fun y19 hy19 => ?_)
      refine v_aload_n C dX3_init_98 1 rfl ?_
      refine g_getI C dX3_init_99 cls_3 (Nat.le_of_ble_eq_true rfl) fl_X3_21 fs_X3_21 (fun y20 hy20 => ?_)
      refine v_aload_n C dX3_init_102 0 rfl ?_
      refine g_getI C dX3_init_103 cls_4 (Nat.le_of_ble_eq_true rfl) fl_X3_34 fs_X3_34 (fun y21 hy21 => ?_)
      refine v_imul C dX3_init_106 ?_
      refine v_aload_n C dX3_init_107 0 rfl ?_
      refine g_getI C dX3_init_108 cls_4 (Nat.le_of_ble_eq_true rfl) fl_X3_39 fs_X3_39 (fun y22 hy22 => ?_)
      refine v_iadd C dX3_init_111 ?_
      refine v_aload_n C dX3_init_112 0 rfl ?_
      refine g_getI C dX3_init_113 cls_4 (Nat.le_of_ble_eq_true rfl) fl_X3_42 fs_X3_42 (fun y23 hy23 => ?_)
      refine g_ias C dX3_init_116 (fun S24 hS24 => ?_)
      refine v_aload_n C dX3_init_117 1 rfl ?_
      refine g_getA C dX3_init_118 cls_3 (Nat.le_of_ble_eq_true rfl) fl_X3_25 fs_X3_25 (fun y25 hy25 => ?_)
      refine v_aload_n C dX3_init_121 1 rfl ?_
      refine g_getI C dX3_init_122 cls_3 (Nat.le_of_ble_eq_true rfl) fl_X3_21 fs_X3_21 (fun y26 hy26 => ?_)
      refine v_aload_n C dX3_init_125 0 rfl ?_
      refine g_getI C dX3_init_126 cls_4 (Nat.le_of_ble_eq_true rfl) fl_X3_39 fs_X3_39 (fun y27 hy27 => ?_)
      refine v_imul C dX3_init_129 ?_
      refine v_aload_n C dX3_init_130 0 rfl ?_
      refine g_getI C dX3_init_131 cls_4 (Nat.le_of_ble_eq_true rfl) fl_X3_34 fs_X3_34 (fun y28 hy28 => ?_)
      refine v_iadd C dX3_init_134 ?_
      refine v_aload_n C dX3_init_135 0 rfl ?_
      refine g_getI C dX3_init_136 cls_4 (Nat.le_of_ble_eq_true rfl) fl_X3_42 fs_X3_42 (fun y29 hy29 => ?_)
      refine g_ias C dX3_init_139 (fun S30 hS30 => ?_)
      refine v_iincN C (lv' := fun y31 => [(2, .int y31), (3, .ref y18), (0, .ref x0), (1, .ref x1)]) dX3_init_140 3 rfl ci_1 (Nat.le_of_ble_eq_true rfl) (fun _ => rfl) (fun y31 hy31 => ?_)
      refine v_goto C (tgt := 78) dX3_init_143 rfl ?_
      exact v_sub [2, 3, 0] rfl (ih y31 S30)
theorem w_X3_init_76 {P : GP} {X : Ctx} {l : Launch} {S0 : St} {F : Nat} (hO : okG P) (C : CX (OG P) X l cX3_init 4 RX3 none) (hm : X.2.2.2.2.2.2.2.2.2 = none) (hin2 : X.2.2.2.2.2.2.2.1.name = "<init>") {x0 : Nat} {x1 : Nat}  (S : St) : VF (OG P) X 4 1 34 S0 f_mv (C_X3_init_76 F x0 x1 S) S 76 [(0, .ref x0), (1, .ref x1)] [] := by
  unfold C_X3_init_76
  refine v_iconst C dX3_init_76 ci_0 ?_
  refine v_istore_n C (lv' := [(2, .int 0), (0, .ref x0), (1, .ref x1)]) dX3_init_77 (Nat.le_of_ble_eq_true rfl) rfl ?_
  exact v_sub [1, 2, 0] rfl (w_X3_init_78 hO C hm hin2 F 0 S)
theorem w_X3_init_34 {P : GP} {X : Ctx} {l : Launch} {S0 : St} {F : Nat} (hO : okG P) (C : CX (OG P) X l cX3_init 4 RX3 none) (hm : X.2.2.2.2.2.2.2.2.2 = none) (hin2 : X.2.2.2.2.2.2.2.1.name = "<init>") {x0 : Nat} {x1 : Nat}  : ∀ (n : Nat) (x2 : Int32) (S : St), VF (OG P) X 4 1 34 S0 f_mv (C_X3_init_34 F x0 x1 n x2 S) S 34 [(0, .ref x0), (1, .ref x1), (2, .int x2)] [] := by
  intro n
  induction n with
  | zero => intro x2 S; exact VF.none
  | succ n ih =>
    intro x2 S
    unfold C_X3_init_34
    refine v_iload_n C dX3_init_34 2 rfl ?_
    refine v_aload_n C dX3_init_35 0 rfl ?_
    refine g_getA C dX3_init_36 cls_3 (Nat.le_of_ble_eq_true rfl) fl_X3_25 fs_X3_25 (fun y8 hy8 => ?_)
    refine g_alen (kd := 0) (fun _ => rfl) C dX3_init_39 (fun y9 hy9 => ?_)
    refine v_icmp_ge C (tgt := 76) dX3_init_40 rfl (fun _ => ?_) (fun _ => ?_)
    · exact v_sub [0, 1] rfl (w_X3_init_76 hO C hm hin2 S)
    · refine v_aload_n C dX3_init_43 0 rfl ?_
      refine g_getA C dX3_init_44 cls_3 (Nat.le_of_ble_eq_true rfl) fl_X3_25 fs_X3_25 (fun y10 hy10 => ?_)
      refine v_iload_n C dX3_init_47 2 rfl ?_
      refine v_iload_n C dX3_init_48 2 rfl ?_
      refine v_aload_n C dX3_init_49 0 rfl ?_
      refine g_getI C dX3_init_50 cls_3 (Nat.le_of_ble_eq_true rfl) fl_X3_21 fs_X3_21 (fun y11 hy11 => ?_)
      refine v_idiv C dX3_init_53 (fun _ => ?_)
      refine v_iload_n C dX3_init_54 2 rfl ?_
      refine v_aload_n C dX3_init_55 0 rfl ?_
      refine g_getI C dX3_init_56 cls_3 (Nat.le_of_ble_eq_true rfl) fl_X3_21 fs_X3_21 (fun y12 hy12 => ?_)
      refine v_irem C dX3_init_59 (fun _ => ?_)
      refine v_icmp_ne C (tgt := 67) dX3_init_60 rfl (fun _ => ?_) (fun _ => ?_)
      · refine v_iconst C dX3_init_63 ci_0 ?_
        refine v_goto C (tgt := 69) dX3_init_64 rfl ?_
        exact v_sub [0, 1, 2] rfl (w_X3_init_69 hO C hm hin2 (C_X3_init_34 F x0 x1 n) ih y10 x2 0 S)
      · refine v_ldc C dX3_init_67 q205 ?_
        exact v_sub [0, 1, 2] rfl (w_X3_init_69 hO C hm hin2 (C_X3_init_34 F x0 x1 n) ih y10 x2 100000 S)
theorem met_X3_init {P : GP} {l : Launch} (hO : okG P) (F : Nat) (S : St) (x0 : Nat) (x1 : Nat) {r : St} (h : C_X3_init F S x0 x1 = some r) : FM l (OG P) yX3_init (ws_ yX3_init cX3_init 4 none) 1 34 [.ref x0, .ref x1] S (f_mv r) := by
  refine FM.ofI (own := RX3) (lv := [(0, .ref x0), (1, .ref x1)]) hO pl_X3 rfl rfl (Nat.le_of_ble_eq_true rfl) rfl h (mono_X3_init h).LE (fun X C hm hin2 => ?_)
  unfold C_X3_init
  refine v_aload_n C dX3_init_0 0 rfl ?_
  refine g_objInit C dX3_init_1 lkO_X3_3 (Nat.le_of_ble_eq_true rfl) (Nat.le_of_ble_eq_true rfl) ?_
  refine v_aload_n C dX3_init_4 0 rfl ?_
  refine v_aload_n C dX3_init_5 1 rfl ?_
  refine g_putFV C hin2 dX3_init_6 cls_3 (Nat.le_of_ble_eq_true rfl) q213 rfl rfl rfl rfl (fun S1 hS1 => ?_)
  refine v_aload_n C dX3_init_9 0 rfl ?_
  refine v_aload_n C dX3_init_10 1 rfl ?_
  refine g_callV_ri C (As := []) (st := [.ref x0]) lk_X3_15 dX3_init_11 rfl (Nat.le_of_ble_eq_true rfl) (Nat.le_of_ble_eq_true rfl) (Nat.le_of_ble_eq_true rfl) cls_2.1 rfl (fun _ z => rc_X2_size z) (fun _ z => met_X2_size hO S1 x1 z) (fun r2 hr2 => ?_)
  refine g_putFV C hin2 dX3_init_14 cls_3 (Nat.le_of_ble_eq_true rfl) q214 rfl rfl rfl rfl (fun S3 hS3 => ?_)
  refine v_aload_n C dX3_init_17 0 rfl ?_
  refine v_aload_n C dX3_init_18 0 rfl ?_
  refine g_getI C dX3_init_19 cls_3 (Nat.le_of_ble_eq_true rfl) fl_X3_21 fs_X3_21 (fun y4 hy4 => ?_)
  refine v_aload_n C dX3_init_22 0 rfl ?_
  refine g_getI C dX3_init_23 cls_3 (Nat.le_of_ble_eq_true rfl) fl_X3_21 fs_X3_21 (fun y5 hy5 => ?_)
  refine v_imul C dX3_init_26 ?_
  refine g_naI C dX3_init_27 q194 (fun r6 hr6 => ?_)
  refine g_putFV C hin2 dX3_init_29 cls_3 (Nat.le_of_ble_eq_true rfl) q215 rfl rfl rfl rfl (fun S7 hS7 => ?_)
  refine v_iconst C dX3_init_32 ci_0 ?_
  refine v_istore_n C (lv' := [(2, .int 0), (0, .ref x0), (1, .ref x1)]) dX3_init_33 (Nat.le_of_ble_eq_true rfl) rfl ?_
  exact v_sub [1, 2, 0] rfl (w_X3_init_34 hO C hm hin2 F 0 S7)
theorem mono_X1_init {F : Nat} {S : St} {x0 : Nat} {r : St} (h : C_X1_init F S x0 = some r) : leG S r := by
  have q : MF mf_s (C_X1_init F S x0) S := by
    unfold C_X1_init
    refine mf_new (fun r1 hr1 => ?_)
    refine mf_callv (fun _ z => mono_X2_init z) (fun r2 hr2 => ?_)
    refine mf_put (fun S3 hS3 => ?_)
    refine mf_new (fun r4 hr4 => ?_)
    refine mf_bind (fun y5 hy5 => ?_)
    refine mf_callv (fun _ z => mono_X3_init z) (fun r6 hr6 => ?_)
    refine mf_put (fun S7 hS7 => ?_)
    refine mf_new (fun r8 hr8 => ?_)
    refine mf_callv (fun _ z => mono_J2_init z) (fun r9 hr9 => ?_)
    refine mf_put (fun S10 hS10 => ?_)
    refine mf_new (fun r11 hr11 => ?_)
    refine mf_callv (fun _ z => mono_J4_init z) (fun r12 hr12 => ?_)
    refine mf_put (fun S13 hS13 => ?_)
    exact mf_ret leG.rf
  exact q r h
theorem met_X1_init {P : GP} {l : Launch} (hO : okG P) (F : Nat) (S : St) (x0 : Nat) {r : St} (h : C_X1_init F S x0 = some r) : FM l (OG P) yX1_init (ws_ yX1_init cX1_init 1 none) 3 80 [.ref x0] S (f_mv r) := by
  refine FM.ofI (own := RX1) (lv := [(0, .ref x0)]) hO pl_X1 rfl rfl (Nat.le_of_ble_eq_true rfl) rfl h (mono_X1_init h).LE (fun X C hm hin2 => ?_)
  unfold C_X1_init
  refine v_aload_n C dX1_init_0 0 rfl ?_
  refine g_objInit C dX1_init_1 lkO_X1_28 (Nat.le_of_ble_eq_true rfl) (Nat.le_of_ble_eq_true rfl) ?_
  refine v_aload_n C dX1_init_4 0 rfl ?_
  refine g_new C dX1_init_5 cls_2 q159 q160 q106 dfok_2 (fun r1 hr1 => ?_)
  refine v_dup C dX1_init_8 rfl ?_
  refine v_iconst C dX1_init_9 ci_4 ?_
  refine v_callI_mv C (As := [.int 4]) (st := [.ref (r1.1), .ref x0]) lk_X1_36 dX1_init_10 rfl (Nat.le_of_ble_eq_true rfl) (Nat.le_of_ble_eq_true rfl) (Nat.le_of_ble_eq_true rfl) (fun _ z => met_X2_init hO F r1.2 (r1.1) 4 z) (fun r2 hr2 => ?_)
  refine g_putV C dX1_init_13 cls_1 (Nat.le_of_ble_eq_true rfl) fl_X1_39 fs_X1_39 rfl rfl rfl (fun S3 hS3 => ?_)
  refine v_aload_n C dX1_init_16 0 rfl ?_
  refine g_new C dX1_init_17 cls_3 q195 q196 q107 dfok_3 (fun r4 hr4 => ?_)
  refine v_dup C dX1_init_20 rfl ?_
  refine v_aload_n C dX1_init_21 0 rfl ?_
  refine g_getA C dX1_init_22 cls_1 (Nat.le_of_ble_eq_true rfl) fl_X1_39 fs_X1_39 (fun y5 hy5 => ?_)
  refine v_callI_mv C (As := [.ref y5]) (st := [.ref (r4.1), .ref x0]) lk_X1_45 dX1_init_25 rfl (Nat.le_of_ble_eq_true rfl) (Nat.le_of_ble_eq_true rfl) (Nat.le_of_ble_eq_true rfl) (fun _ z => met_X3_init hO F r4.2 (r4.1) y5 z) (fun r6 hr6 => ?_)
  refine g_putV C dX1_init_28 cls_1 (Nat.le_of_ble_eq_true rfl) fl_X1_48 fs_X1_48 rfl rfl rfl (fun S7 hS7 => ?_)
  refine v_aload_n C dX1_init_31 0 rfl ?_
  refine g_new C dX1_init_32 cls_11 q237 q238 q110 dfok_11 (fun r8 hr8 => ?_)
  refine v_dup C dX1_init_35 rfl ?_
  refine v_callI_mv C (As := []) (st := [.ref (r8.1), .ref x0]) lk_X1_54 dX1_init_36 rfl (Nat.le_of_ble_eq_true rfl) (Nat.le_of_ble_eq_true rfl) (Nat.le_of_ble_eq_true rfl) (fun _ z => met_J2_init hO r8.2 (r8.1) z) (fun r9 hr9 => ?_)
  refine g_putFV C hin2 dX1_init_39 cls_1 (Nat.le_of_ble_eq_true rfl) q293 rfl rfl rfl rfl (fun S10 hS10 => ?_)
  refine v_aload_n C dX1_init_42 0 rfl ?_
  refine g_new C dX1_init_43 cls_12 q258 q259 q112 dfok_12 (fun r11 hr11 => ?_)
  refine v_dup C dX1_init_46 rfl ?_
  refine v_callI_mv C (As := []) (st := [.ref (r11.1), .ref x0]) lk_X1_61 dX1_init_47 rfl (Nat.le_of_ble_eq_true rfl) (Nat.le_of_ble_eq_true rfl) (Nat.le_of_ble_eq_true rfl) (fun _ z => met_J4_init hO r11.2 (r11.1) z) (fun r12 hr12 => ?_)
  refine g_putFV C hin2 dX1_init_50 cls_1 (Nat.le_of_ble_eq_true rfl) q294 rfl rfl rfl rfl (fun S13 hS13 => ?_)
  exact v_vreturn C hm dX1_init_53 rfl
theorem w_X1_diameter_36 {P : GP} {X : Ctx} {l : Launch} {F : Nat} {S : St} (hO : okG P) (C : CX (OG P) X l cX1_diameter 3 RX1 (some .int)) (hm : X.2.2.2.2.2.2.2.2.2 = none) {x1 : Int32}   : VF (OG P) X 3 1 34 S (f_ri S) (C_X1_diameter_36 F S x1) S 36 [(1, .int x1)] [] := by
  unfold C_X1_diameter_36
  refine v_iload_n C dX1_diameter_36 0 rfl ?_
  refine v_ldc C dX1_diameter_37 q314 ?_
  refine v_icmp_ge C (tgt := 46) dX1_diameter_39 rfl (fun _ => ?_) (fun _ => ?_)
  · refine v_iconst C dX1_diameter_46 ci_m1 ?_
    exact v_ireturn C hm dX1_diameter_47 rfl
  · refine v_iload_n C dX1_diameter_42 0 rfl ?_
    refine v_goto C (tgt := 47) dX1_diameter_43 rfl ?_
    exact v_ireturn C hm dX1_diameter_47 rfl
theorem w_X1_diameter_4 {P : GP} {X : Ctx} {l : Launch} {F : Nat} {S : St} (hO : okG P) (C : CX (OG P) X l cX1_diameter 3 RX1 (some .int)) (hm : X.2.2.2.2.2.2.2.2.2 = none) {x0 : Nat}  : ∀ (n : Nat) (x1 : Int32) (x2 : Int32), VF (OG P) X 3 1 34 S (f_ri S) (C_X1_diameter_4 F S x0 n x1 x2) S 4 [(0, .ref x0), (1, .int x1), (2, .int x2)] [] := by
  intro n
  induction n with
  | zero => intro x1 x2; exact VF.none
  | succ n ih =>
    intro x1 x2
    unfold C_X1_diameter_4
    refine v_iload_n C dX1_diameter_4 2 rfl ?_
    refine v_aload_n C dX1_diameter_5 0 rfl ?_
    refine g_getA C dX1_diameter_6 cls_1 (Nat.le_of_ble_eq_true rfl) fl_X1_48 fs_X1_48 (fun y1 hy1 => ?_)
    refine g_getA C dX1_diameter_9 cls_3 (Nat.le_of_ble_eq_true rfl) fl_X1_214 fs_X1_214 (fun y2 hy2 => ?_)
    refine g_alen (kd := 0) (fun _ => rfl) C dX1_diameter_12 (fun y3 hy3 => ?_)
    refine v_icmp_ge C (tgt := 36) dX1_diameter_13 rfl (fun _ => ?_) (fun _ => ?_)
    · exact v_sub [1] rfl (w_X1_diameter_36 hO C hm)
    · refine v_iload_n C dX1_diameter_16 1 rfl ?_
      refine v_aload_n C dX1_diameter_17 0 rfl ?_
      refine g_getA C dX1_diameter_18 cls_1 (Nat.le_of_ble_eq_true rfl) fl_X1_48 fs_X1_48 (fun y4 hy4 => ?_)
      refine g_getA C dX1_diameter_21 cls_3 (Nat.le_of_ble_eq_true rfl) fl_X1_214 fs_X1_214 (fun y5 hy5 => ?_)
      refine v_iload_n C dX1_diameter_24 2 rfl ?_
      refine g_ial C dX1_diameter_25 (fun y6 hy6 => ?_)
      refine g_mmax C dX1_diameter_26 q311 q312 q108 q313 (Nat.le_of_ble_eq_true rfl) (Nat.le_of_ble_eq_true rfl) ?_
      refine v_leti (fun y7 hy7 => ?_)
      refine v_istore_n C (lv' := [(1, .int y7), (0, .ref x0), (2, .int x2)]) dX1_diameter_29 (Nat.le_of_ble_eq_true rfl) rfl ?_
      refine v_iincN C (lv' := fun y8 => [(2, .int y8), (1, .int y7), (0, .ref x0)]) dX1_diameter_30 2 rfl ci_1 (Nat.le_of_ble_eq_true rfl) (fun _ => rfl) (fun y8 hy8 => ?_)
      refine v_goto C (tgt := 4) dX1_diameter_33 rfl ?_
      exact v_sub [2, 1, 0] rfl (ih y7 y8)
theorem met_X1_diameter {P : GP} {l : Launch} (hO : okG P) (F : Nat) (S : St) (x0 : Nat) {r : Int32} (h : C_X1_diameter F S x0 = some r) : FM l (OG P) yX1_diameter (ws_ yX1_diameter cX1_diameter 3 (some .int)) 1 34 [.ref x0] S ((f_ri S) r) := by
  refine FM.of (own := RX1) (lv := [(0, .ref x0)]) (OG_ok P hO) pl_X1 rfl (Nat.le_of_ble_eq_true rfl) rfl h LE.rf (fun X C hm => ?_)
  unfold C_X1_diameter
  refine VF.bind (fun _ _ => ?_)
  refine v_iconst C dX1_diameter_0 ci_0 ?_
  refine v_istore_n C (lv' := [(1, .int 0), (0, .ref x0)]) dX1_diameter_1 (Nat.le_of_ble_eq_true rfl) rfl ?_
  refine v_iconst C dX1_diameter_2 ci_0 ?_
  refine v_istore_n C (lv' := [(2, .int 0), (1, .int 0), (0, .ref x0)]) dX1_diameter_3 (Nat.le_of_ble_eq_true rfl) rfl ?_
  exact v_sub [2, 1, 0] rfl (w_X1_diameter_4 hO C hm F 0 0)
theorem mono_X1_clearText {F : Nat} {S : St} {x0 : Nat} {r : Int32 × St} (h : C_X1_clearText F S x0 = some r) : leG S r.2 := by
  have q : MF mf_p (C_X1_clearText F S x0) S := by
    unfold C_X1_clearText
    refine mf_bind (fun _ _ => ?_)
    refine mf_bind (fun y1 hy1 => ?_)
    refine mf_bind (fun r2 hr2 => ?_)
    refine mf_bind (fun y3 hy3 => ?_)
    refine mf_callv (fun _ z => mono_J4_setLength z) (fun r4 hr4 => ?_)
    exact mf_ret leG.rf
  exact q r h
theorem met_X1_clearText {P : GP} {l : Launch} (hO : okG P) (F : Nat) (S : St) (x0 : Nat) {r : Int32 × St} (h : C_X1_clearText F S x0 = some r) : FM l (OG P) yX1_clearText (ws_ yX1_clearText cX1_clearText 2 (some .int)) 12 279 [.ref x0] S (f_mi r) := by
  refine FM.of (own := RX1) (lv := [(0, .ref x0)]) (OG_ok P hO) pl_X1 rfl (Nat.le_of_ble_eq_true rfl) rfl h (mono_X1_clearText h).LE (fun X C hm => ?_)
  unfold C_X1_clearText
  refine VF.bind (fun _ _ => ?_)
  refine v_aload_n C dX1_clearText_0 0 rfl ?_
  refine g_getA C dX1_clearText_1 cls_1 (Nat.le_of_ble_eq_true rfl) fl_X1_62 fs_X1_62 (fun y1 hy1 => ?_)
  refine g_callV_ri C (As := []) (st := []) lk_X1_307 dX1_clearText_4 rfl (Nat.le_of_ble_eq_true rfl) (Nat.le_of_ble_eq_true rfl) (Nat.le_of_ble_eq_true rfl) cls_12.1 rfl (fun _ z => rc_J4_length z) (fun _ z => met_J4_length hO S y1 z) (fun r2 hr2 => ?_)
  refine v_istore_n C (lv' := [(1, .int r2), (0, .ref x0)]) dX1_clearText_7 (Nat.le_of_ble_eq_true rfl) rfl ?_
  refine v_aload_n C dX1_clearText_8 1 rfl ?_
  refine g_getA C dX1_clearText_9 cls_1 (Nat.le_of_ble_eq_true rfl) fl_X1_62 fs_X1_62 (fun y3 hy3 => ?_)
  refine v_iconst C dX1_clearText_12 ci_0 ?_
  refine g_callV_mv C (As := [.int 0]) (st := []) lk_X1_313 dX1_clearText_13 rfl (Nat.le_of_ble_eq_true rfl) (Nat.le_of_ble_eq_true rfl) (Nat.le_of_ble_eq_true rfl) cls_12.1 rfl (fun _ z => rc_J4_setLength z) (fun _ z => met_J4_setLength hO F S y3 0 z) (fun r4 hr4 => ?_)
  refine v_iload_n C dX1_clearText_16 0 rfl ?_
  exact v_ireturn C hm dX1_clearText_17 rfl
theorem met_X1_isIn {P : GP} {l : Launch} (hO : okG P) (S : St) (x0 : Int32) (x1 : Int32) (x2 : Int32) {r : Int32} (h : C_X1_isIn x0 x1 x2 = some r) : FM l (OG P) yX1_isIn (ws_ yX1_isIn cX1_isIn 3 (some .boolean)) 0 0 [.int x0, .int x1, .int x2] S ((f_ri S) r) := by
  refine FM.of (own := RX1) (lv := [(0, .int x0), (1, .int x1), (2, .int x2)]) (OG_ok P hO) pl_X1 rfl (Nat.le_of_ble_eq_true rfl) rfl h LE.rf (fun X C hm => ?_)
  unfold C_X1_isIn
  refine v_iload_n C dX1_isIn_0 0 rfl ?_
  refine v_iload_n C dX1_isIn_1 1 rfl ?_
  refine v_icmp_lt C (tgt := 14) dX1_isIn_2 rfl (fun _ => ?_) (fun _ => ?_)
  · refine v_iconst C dX1_isIn_14 ci_0 ?_
    exact v_zreturn C hm dX1_isIn_15 (Or.inl rfl) rfl
  · refine v_iload_n C dX1_isIn_5 0 rfl ?_
    refine v_iload_n C dX1_isIn_6 2 rfl ?_
    refine v_icmp_gt C (tgt := 14) dX1_isIn_7 rfl (fun _ => ?_) (fun _ => ?_)
    · refine v_iconst C dX1_isIn_14 ci_0 ?_
      exact v_zreturn C hm dX1_isIn_15 (Or.inl rfl) rfl
    · refine v_iconst C dX1_isIn_10 ci_1 ?_
      refine v_goto C (tgt := 15) dX1_isIn_11 rfl ?_
      exact v_zreturn C hm dX1_isIn_15 (Or.inr rfl) rfl
theorem w_X3_isConnected_29 {P : GP} {X : Ctx} {l : Launch} {F : Nat} {S : St} (hO : okG P) (C : CX (OG P) X l cX3_isConnected 3 RX3 (some .boolean)) (hm : X.2.2.2.2.2.2.2.2.2 = none) {x0 : Nat} {x2 : Int32} (k4 : Int32 → Int32 → Option Int32) (hk4 : ∀ (z1 : Int32) (z2 : Int32), VF (OG P) X 3 1 22 S (f_ri S) (k4 z1 z2) S 4 [(0, .ref x0), (1, .int z1), (2, .int z2)] []) (s0 : Int32) (s1 : Int32) : VF (OG P) X 3 1 22 S (f_ri S) (C_X3_isConnected_29 F k4 S x0 x2 s0 s1) S 29 [(0, .ref x0), (2, .int x2)] [.int s1, .int s0] := by
  unfold C_X3_isConnected_29
  refine v_iand C dX3_isConnected_29 ?_
  refine v_leti (fun y4 hy4 => ?_)
  refine v_istore_n C (lv' := [(1, .int y4), (0, .ref x0), (2, .int x2)]) dX3_isConnected_30 (Nat.le_of_ble_eq_true rfl) rfl ?_
  refine v_iincN C (lv' := fun y5 => [(2, .int y5), (1, .int y4), (0, .ref x0)]) dX3_isConnected_31 2 rfl ci_1 (Nat.le_of_ble_eq_true rfl) (fun _ => rfl) (fun y5 hy5 => ?_)
  refine v_goto C (tgt := 4) dX3_isConnected_34 rfl ?_
  exact v_sub [2, 1, 0] rfl (hk4 y4 y5)
theorem w_X3_isConnected_4 {P : GP} {X : Ctx} {l : Launch} {F : Nat} {S : St} (hO : okG P) (C : CX (OG P) X l cX3_isConnected 3 RX3 (some .boolean)) (hm : X.2.2.2.2.2.2.2.2.2 = none) {x0 : Nat}  : ∀ (n : Nat) (x1 : Int32) (x2 : Int32), VF (OG P) X 3 1 22 S (f_ri S) (C_X3_isConnected_4 F S x0 n x1 x2) S 4 [(0, .ref x0), (1, .int x1), (2, .int x2)] [] := by
  intro n
  induction n with
  | zero => intro x1 x2; exact VF.none
  | succ n ih =>
    intro x1 x2
    unfold C_X3_isConnected_4
    refine v_iload_n C dX3_isConnected_4 2 rfl ?_
    refine v_aload_n C dX3_isConnected_5 0 rfl ?_
    refine g_getI C dX3_isConnected_6 cls_3 (Nat.le_of_ble_eq_true rfl) fl_X3_21 fs_X3_21 (fun y1 hy1 => ?_)
    refine v_icmp_ge C (tgt := 37) dX3_isConnected_9 rfl (fun _ => ?_) (fun _ => ?_)
    · refine v_iload_n C dX3_isConnected_37 1 rfl ?_
      refine v_zz (fun b2 hb2 => ?_)
      exact v_zreturn C hm dX3_isConnected_38 hb2 rfl
    · refine v_iload_n C dX3_isConnected_12 1 rfl ?_
      refine v_aload_n C dX3_isConnected_13 0 rfl ?_
      refine v_iconst C dX3_isConnected_14 ci_0 ?_
      refine v_iload_n C dX3_isConnected_15 2 rfl ?_
      refine g_callV_ri C (As := [.int 0, .int x2]) (st := [.int x1]) lk_X3_45 dX3_isConnected_16 rfl (Nat.le_of_ble_eq_true rfl) (Nat.le_of_ble_eq_true rfl) (Nat.le_of_ble_eq_true rfl) cls_3.1 rfl (fun _ z => rc_X3_distance z) (fun _ z => met_X3_distance hO S x0 0 x2 z) (fun r3 hr3 => ?_)
      refine v_ldc C dX3_isConnected_19 q205 ?_
      refine v_icmp_ge C (tgt := 28) dX3_isConnected_21 rfl (fun _ => ?_) (fun _ => ?_)
      · refine v_iconst C dX3_isConnected_28 ci_0 ?_
        exact v_sub [0, 2] rfl (w_X3_isConnected_29 hO C hm (C_X3_isConnected_4 F S x0 n) ih x1 0)
      · refine v_iconst C dX3_isConnected_24 ci_1 ?_
        refine v_goto C (tgt := 29) dX3_isConnected_25 rfl ?_
        exact v_sub [0, 2] rfl (w_X3_isConnected_29 hO C hm (C_X3_isConnected_4 F S x0 n) ih x1 1)
theorem met_X3_isConnected {P : GP} {l : Launch} (hO : okG P) (F : Nat) (S : St) (x0 : Nat) {r : Int32} (h : C_X3_isConnected F S x0 = some r) : FM l (OG P) yX3_isConnected (ws_ yX3_isConnected cX3_isConnected 3 (some .boolean)) 1 22 [.ref x0] S ((f_ri S) r) := by
  refine FM.of (own := RX3) (lv := [(0, .ref x0)]) (OG_ok P hO) pl_X3 rfl (Nat.le_of_ble_eq_true rfl) rfl h LE.rf (fun X C hm => ?_)
  unfold C_X3_isConnected
  refine VF.bind (fun _ _ => ?_)
  refine v_iconst C dX3_isConnected_0 ci_1 ?_
  refine v_istore_n C (lv' := [(1, .int 1), (0, .ref x0)]) dX3_isConnected_1 (Nat.le_of_ble_eq_true rfl) rfl ?_
  refine v_iconst C dX3_isConnected_2 ci_0 ?_
  refine v_istore_n C (lv' := [(2, .int 0), (1, .int 1), (0, .ref x0)]) dX3_isConnected_3 (Nat.le_of_ble_eq_true rfl) rfl ?_
  exact v_sub [2, 1, 0] rfl (w_X3_isConnected_4 hO C hm F 1 0)
theorem met_X1_counted {P : GP} {l : Launch} (hO : okG P) (F : Nat) (S : St) (x0 : Nat) (x1 : Int32) {r : Int32} (h : C_X1_counted F S x0 x1 = some r) : FM l (OG P) yX1_counted (ws_ yX1_counted cX1_counted 2 (some .int)) 2 44 [.ref x0, .int x1] S ((f_ri S) r) := by
  refine FM.of (own := RX1) (lv := [(0, .ref x0), (1, .int x1)]) (OG_ok P hO) pl_X1 rfl (Nat.le_of_ble_eq_true rfl) rfl h LE.rf (fun X C hm => ?_)
  unfold C_X1_counted
  refine VF.bind (fun _ _ => ?_)
  refine v_iload_n C dX1_counted_0 1 rfl ?_
  refine VF.ite (fun e0 => ?_) (fun n0 => ?_)
  · refine g_tabI C (tgt := 28) (k := 0) dX1_counted_1 (by rw [e0]; decide) (by decide) (by decide) rfl rfl ?_
    refine v_aload_n C dX1_counted_28 0 rfl ?_
    refine g_getA C dX1_counted_29 cls_1 (Nat.le_of_ble_eq_true rfl) fl_X1_39 fs_X1_39 (fun y1 hy1 => ?_)
    refine g_callV_ri C (As := []) (st := []) lk_X1_96 dX1_counted_32 rfl (Nat.le_of_ble_eq_true rfl) (Nat.le_of_ble_eq_true rfl) (Nat.le_of_ble_eq_true rfl) cls_2.1 rfl (fun _ z => rc_X2_size z) (fun _ z => met_X2_size hO S y1 z) (fun r2 hr2 => ?_)
    exact v_ireturn C hm dX1_counted_35 rfl
  · refine VF.ite (fun e1 => ?_) (fun n1 => ?_)
    · refine g_tabI C (tgt := 36) (k := 1) dX1_counted_1 (by rw [e1]; decide) (by decide) (by decide) rfl rfl ?_
      refine v_aload_n C dX1_counted_36 0 rfl ?_
      refine g_getA C dX1_counted_37 cls_1 (Nat.le_of_ble_eq_true rfl) fl_X1_39 fs_X1_39 (fun y3 hy3 => ?_)
      refine g_getA C dX1_counted_40 cls_2 (Nat.le_of_ble_eq_true rfl) fl_X1_83 fs_X1_83 (fun y4 hy4 => ?_)
      refine g_alen (kd := 3) (fun _ => rfl) C dX1_counted_43 (fun y5 hy5 => ?_)
      exact v_ireturn C hm dX1_counted_44 rfl
    · refine VF.ite (fun e2 => ?_) (fun n2 => ?_)
      · refine g_tabI C (tgt := 45) (k := 2) dX1_counted_1 (by rw [e2]; decide) (by decide) (by decide) rfl rfl ?_
        refine v_aload_n C dX1_counted_45 0 rfl ?_
        refine g_getA C dX1_counted_46 cls_1 (Nat.le_of_ble_eq_true rfl) fl_X1_39 fs_X1_39 (fun y6 hy6 => ?_)
        refine g_getA C dX1_counted_49 cls_2 (Nat.le_of_ble_eq_true rfl) fl_X1_144 fs_X1_144 (fun y7 hy7 => ?_)
        refine g_alen (kd := 4) (fun _ => rfl) C dX1_counted_52 (fun y8 hy8 => ?_)
        exact v_ireturn C hm dX1_counted_53 rfl
      · refine g_tabO C (tgt := 54) dX1_counted_1 (by have n0 := i_ne n0; have n1 := i_ne n1; have n2 := i_ne n2; rw [show ((0 : Int32).toInt) = 0 from by decide] at n0; rw [show ((1 : Int32).toInt) = 1 from by decide] at n1; rw [show ((2 : Int32).toInt) = 2 from by decide] at n2; omega) rfl ?_
        refine v_aload_n C dX1_counted_54 0 rfl ?_
        refine g_getA C dX1_counted_55 cls_1 (Nat.le_of_ble_eq_true rfl) fl_X1_48 fs_X1_48 (fun y9 hy9 => ?_)
        refine g_callV_ri C (As := []) (st := []) lk_X1_185 dX1_counted_58 rfl (Nat.le_of_ble_eq_true rfl) (Nat.le_of_ble_eq_true rfl) (Nat.le_of_ble_eq_true rfl) cls_3.1 rfl (fun _ z => rc_X3_isConnected z) (fun _ z => met_X3_isConnected hO F S y9 z) (fun r10 hr10 => ?_)
        refine v_if_eq C (tgt := 68) dX1_counted_61 rfl (fun _ => ?_) (fun _ => ?_)
        · refine v_iconst C dX1_counted_68 ci_0 ?_
          exact v_ireturn C hm dX1_counted_69 rfl
        · refine v_iconst C dX1_counted_64 ci_1 ?_
          refine v_goto C (tgt := 69) dX1_counted_65 rfl ?_
          exact v_ireturn C hm dX1_counted_69 rfl
theorem mono_X1_mix {S : St} {x0 : Nat} {x1 : Int32} {r : St} (h : C_X1_mix S x0 x1 = some r) : leG S r := by
  have q : MF mf_s (C_X1_mix S x0 x1) S := by
    unfold C_X1_mix
    refine mf_bind (fun _ _ => ?_)
    refine mf_bind (fun y1 hy1 => ?_)
    refine mf_put (fun S2 hS2 => ?_)
    exact mf_ret leG.rf
  exact q r h
theorem met_X1_mix {P : GP} {l : Launch} (hO : okG P) (S : St) (x0 : Nat) (x1 : Int32) {r : St} (h : C_X1_mix S x0 x1 = some r) : FM l (OG P) yX1_mix (ws_ yX1_mix cX1_mix 2 none) 0 0 [.ref x0, .int x1] S (f_mv r) := by
  refine FM.of (own := RX1) (lv := [(0, .ref x0), (1, .int x1)]) (OG_ok P hO) pl_X1 rfl (Nat.le_of_ble_eq_true rfl) rfl h (mono_X1_mix h).LE (fun X C hm => ?_)
  unfold C_X1_mix
  refine VF.bind (fun _ _ => ?_)
  refine v_aload_n C dX1_mix_0 0 rfl ?_
  refine v_ldc2 C dX1_mix_1 q826 ?_
  refine v_aload_n C dX1_mix_4 0 rfl ?_
  refine g_getJ C dX1_mix_5 cls_1 (Nat.le_of_ble_eq_true rfl) fl_X1_356 fs_X1_356 (fun y1 hy1 => ?_)
  refine v_lmul C dX1_mix_8 ?_
  refine v_iload_n C dX1_mix_9 1 rfl ?_
  refine v_i2l C dX1_mix_10 ?_
  refine v_ladd C dX1_mix_11 ?_
  refine g_putV C dX1_mix_12 cls_1 (Nat.le_of_ble_eq_true rfl) fl_X1_356 fs_X1_356 rfl rfl rfl (fun S2 hS2 => ?_)
  exact v_vreturn C hm dX1_mix_15 rfl
theorem met_X1_divisor_b {P : GP} {l : Launch} (hO : okG P) {frd lod : Nat} {kR : Int64 → Int64 → Option Int64} (hkR : (∀ (_S : St) (x0 : Int64) (x2 : Int64) r, kR x0 x2 = some r → FM l (OG P) yX1_divisor (ws_ yX1_divisor cX1_divisor 4 (some .long)) frd lod [.long x0, .long x2] _S ((f_rl _S) r)) ∧ True ∧ True) (S : St) (x0 : Int64) (x2 : Int64) {r : Int64} (h : C_X1_divisor_b  kR x0 x2 = some r) : FM l (OG P) yX1_divisor (ws_ yX1_divisor cX1_divisor 4 (some .long)) (frd + 1) (lod + 34) [.long x0, .long x2] S ((f_rl S) r) := by
  refine FM.of (own := RX1) (lv := [(0, .long x0), (2, .long x2)]) (OG_ok P hO) pl_X1 rfl (Nat.le_of_ble_eq_true rfl) rfl h LE.rf (fun X C hm => ?_)
  unfold C_X1_divisor_b
  refine v_lload_n C dX1_divisor_0 1 rfl ?_
  refine v_lconst C dX1_divisor_1 cl_0 ?_
  refine v_lcmp_ne C (tgt := 13) dX1_divisor_2 dX1_divisor_3 rfl (fun _ => ?_) (fun _ => ?_)
  · refine v_lload_n C dX1_divisor_6 0 rfl ?_
    refine g_mabsL C dX1_divisor_7 q947 q948 q108 q949 (by omega) (Nat.le_trans (Nat.le_of_ble_eq_true rfl) (Nat.le_add_left _ _)) ?_
    refine v_goto C (tgt := 20) dX1_divisor_10 rfl ?_
    exact v_lreturn C hm dX1_divisor_20 rfl
  · refine v_lload_n C dX1_divisor_13 1 rfl ?_
    refine v_lload_n C dX1_divisor_14 0 rfl ?_
    refine v_lload_n C dX1_divisor_15 1 rfl ?_
    refine v_lrem C dX1_divisor_16 (fun _ => ?_)
    refine v_callS_rl C (As := [.long x2, .long (x0 - x0 / x2 * x2)]) (st := []) lk_X1_7 dX1_divisor_17 rfl (by omega) (by omega) (Nat.le_of_ble_eq_true rfl) (fun _ z => hkR.1 S x2 (x0 - x0 / x2 * x2) _ z) (fun r1 hr1 => ?_)
    exact v_lreturn C hm dX1_divisor_20 rfl
theorem met_X1_divisor_d {P : GP} {l : Launch} (hO : okG P) : ∀ (d : Nat) (_S : St) (x0 : Int64) (x2 : Int64) {r : Int64} (h : C_X1_divisor_d  d x0 x2 = some r), FM l (OG P) yX1_divisor (ws_ yX1_divisor cX1_divisor 4 (some .long)) (1 * d) (34 * d) [.long x0, .long x2] _S ((f_rl _S) r) := by
  intro d
  induction d with
  | zero => intro _S x0 x2 r h; cases h
  | succ d ih => intro _S x0 x2 r h; exact met_X1_divisor_b hO (frd := 1 * d) (lod := 34 * d) (kR := C_X1_divisor_d  d) ⟨fun _S x0 x2 r z => ih _S x0 x2 z, trivial, trivial⟩ _S x0 x2 h
theorem met_X1_divisor {P : GP} {l : Launch} (hO : okG P) (S : St) (x0 : Int64) (x2 : Int64) {r : Int64} (h : C_X1_divisor x0 x2 = some r) : FM l (OG P) yX1_divisor (ws_ yX1_divisor cX1_divisor 4 (some .long)) 40 1360 [.long x0, .long x2] S ((f_rl S) r) := met_X1_divisor_d hO 40 S x0 x2 h
theorem met_X1_partOf {P : GP} {l : Launch} (hO : okG P) (S : St) (x0 : Int64) (x2 : Int64) (x4 : Int32) {r : Int32} (h : C_X1_partOf x0 x2 x4 = some r) : FM l (OG P) yX1_partOf (ws_ yX1_partOf cX1_partOf 7 (some .int)) 41 1383 [.long x0, .long x2, .int x4] S ((f_ri S) r) := by
  refine FM.of (own := RX1) (lv := [(0, .long x0), (2, .long x2), (4, .int x4)]) (OG_ok P hO) pl_X1 rfl (Nat.le_of_ble_eq_true rfl) rfl h LE.rf (fun X C hm => ?_)
  unfold C_X1_partOf
  refine v_lload_n C dX1_partOf_0 0 rfl ?_
  refine v_lload_n C dX1_partOf_1 1 rfl ?_
  refine v_callS_rl C (As := [.long x0, .long x2]) (st := []) lk_X1_7 dX1_partOf_2 rfl (Nat.le_of_ble_eq_true rfl) (Nat.le_of_ble_eq_true rfl) (Nat.le_of_ble_eq_true rfl) (fun _ z => met_X1_divisor hO S x0 x2 z) (fun r1 hr1 => ?_)
  refine v_lstore C (lv' := [(5, .long r1), (0, .long x0), (2, .long x2), (4, .int x4)]) dX1_partOf_5 (Nat.le_of_ble_eq_true rfl) rfl ?_
  refine v_iload C dX1_partOf_7 3 rfl ?_
  refine v_if_ne C (tgt := 19) dX1_partOf_9 rfl (fun _ => ?_) (fun _ => ?_)
  · refine v_lload_n C dX1_partOf_12 1 rfl ?_
    refine v_lload C dX1_partOf_13 0 rfl ?_
    refine v_ldiv C dX1_partOf_15 (fun _ => ?_)
    refine v_goto C (tgt := 23) dX1_partOf_16 rfl ?_
    refine v_l2i C dX1_partOf_23 ?_
    exact v_ireturn C hm dX1_partOf_24 rfl
  · refine v_lload_n C dX1_partOf_19 2 rfl ?_
    refine v_lload C dX1_partOf_20 0 rfl ?_
    refine v_ldiv C dX1_partOf_22 (fun _ => ?_)
    refine v_l2i C dX1_partOf_23 ?_
    exact v_ireturn C hm dX1_partOf_24 rfl
theorem met_X6_contains {P : GP} {l : Launch} (hO : okG P) (S : St) (x0 : Nat) (x1 : Int32) (x2 : Int64) (x4 : Int64) {r : Int32} (h : C_X6_contains S x0 x1 x2 x4 = some r) : FM l (OG P) yX6_contains (ws_ yX6_contains cX6_contains 6 (some .boolean)) 0 0 [.ref x0, .int x1, .long x2, .long x4] S ((f_ri S) r) := by
  refine FM.of (own := RX6) (lv := [(0, .ref x0), (1, .int x1), (2, .long x2), (4, .long x4)]) (OG_ok P hO) pl_X6 rfl (Nat.le_of_ble_eq_true rfl) rfl h LE.rf (fun X C hm => ?_)
  unfold C_X6_contains
  refine VF.bind (fun _ _ => ?_)
  refine v_aload_n C dX6_contains_0 0 rfl ?_
  refine g_getI C dX6_contains_1 cls_5 (Nat.le_of_ble_eq_true rfl) fl_X6_7 fs_X6_7 (fun y1 hy1 => ?_)
  refine v_iload_n C dX6_contains_4 1 rfl ?_
  refine v_icmp_ne C (tgt := 38) dX6_contains_5 rfl (fun _ => ?_) (fun _ => ?_)
  · refine v_lload_n C dX6_contains_8 2 rfl ?_
    refine v_aload_n C dX6_contains_9 0 rfl ?_
    refine g_getI C dX6_contains_10 cls_5 (Nat.le_of_ble_eq_true rfl) fl_X6_13 fs_X6_13 (fun y2 hy2 => ?_)
    refine v_i2l C dX6_contains_13 ?_
    refine v_lload C dX6_contains_14 3 rfl ?_
    refine v_lmul C dX6_contains_16 ?_
    refine v_lcmp_le C (tgt := 38) dX6_contains_17 dX6_contains_18 rfl (fun _ => ?_) (fun _ => ?_)
    · refine v_iconst C dX6_contains_38 ci_0 ?_
      exact v_zreturn C hm dX6_contains_39 (Or.inl rfl) rfl
    · refine v_lload_n C dX6_contains_21 2 rfl ?_
      refine v_aload_n C dX6_contains_22 0 rfl ?_
      refine g_getI C dX6_contains_23 cls_5 (Nat.le_of_ble_eq_true rfl) fl_X6_16 fs_X6_16 (fun y3 hy3 => ?_)
      refine v_i2l C dX6_contains_26 ?_
      refine v_lload C dX6_contains_27 3 rfl ?_
      refine v_lmul C dX6_contains_29 ?_
      refine v_lcmp_ge C (tgt := 38) dX6_contains_30 dX6_contains_31 rfl (fun _ => ?_) (fun _ => ?_)
      · refine v_iconst C dX6_contains_38 ci_0 ?_
        exact v_zreturn C hm dX6_contains_39 (Or.inl rfl) rfl
      · refine v_iconst C dX6_contains_34 ci_1 ?_
        refine v_goto C (tgt := 39) dX6_contains_35 rfl ?_
        exact v_zreturn C hm dX6_contains_39 (Or.inr rfl) rfl
  · refine v_iconst C dX6_contains_38 ci_0 ?_
    exact v_zreturn C hm dX6_contains_39 (Or.inl rfl) rfl
theorem w_X2_isAllowed_40 {P : GP} {X : Ctx} {l : Launch} {F : Nat} {S : St} (hO : okG P) (C : CX (OG P) X l cX2_isAllowed 8 RX2 (some .boolean)) (hm : X.2.2.2.2.2.2.2.2.2 = none) {x0 : Nat} {x1 : Int32} {x2 : Int64} {x4 : Int64} {x7 : Int32} (k6 : Int32 → Int32 → Option Int32) (hk6 : ∀ (z6 : Int32) (z7 : Int32), VF (OG P) X 8 1 25 S (f_ri S) (k6 z6 z7) S 6 [(0, .ref x0), (1, .int x1), (2, .long x2), (4, .long x4), (6, .int z6), (7, .int z7)] []) (s0 : Int32) (s1 : Int32) : VF (OG P) X 8 1 25 S (f_ri S) (C_X2_isAllowed_40 F k6 S x0 x1 x2 x4 x7 s0 s1) S 40 [(0, .ref x0), (1, .int x1), (2, .long x2), (4, .long x4), (7, .int x7)] [.int s1, .int s0] := by
  unfold C_X2_isAllowed_40
  refine v_iand C dX2_isAllowed_40 ?_
  refine v_leti (fun y7 hy7 => ?_)
  refine v_istore C (lv' := [(6, .int y7), (0, .ref x0), (1, .int x1), (2, .long x2), (4, .long x4), (7, .int x7)]) dX2_isAllowed_41 (Nat.le_of_ble_eq_true rfl) rfl ?_
  refine v_iincN C (lv' := fun y8 => [(7, .int y8), (6, .int y7), (0, .ref x0), (1, .int x1), (2, .long x2), (4, .long x4)]) dX2_isAllowed_43 5 rfl ci_1 (Nat.le_of_ble_eq_true rfl) (fun _ => rfl) (fun y8 hy8 => ?_)
  refine v_goto C (tgt := 6) dX2_isAllowed_46 rfl ?_
  exact v_sub [2, 3, 4, 5, 1, 0] rfl (hk6 y7 y8)
theorem w_X2_isAllowed_6 {P : GP} {X : Ctx} {l : Launch} {F : Nat} {S : St} (hO : okG P) (C : CX (OG P) X l cX2_isAllowed 8 RX2 (some .boolean)) (hm : X.2.2.2.2.2.2.2.2.2 = none) {x0 : Nat} {x1 : Int32} {x2 : Int64} {x4 : Int64}  : ∀ (n : Nat) (x6 : Int32) (x7 : Int32), VF (OG P) X 8 1 25 S (f_ri S) (C_X2_isAllowed_6 F S x0 x1 x2 x4 n x6 x7) S 6 [(0, .ref x0), (1, .int x1), (2, .long x2), (4, .long x4), (6, .int x6), (7, .int x7)] [] := by
  intro n
  induction n with
  | zero => intro x6 x7; exact VF.none
  | succ n ih =>
    intro x6 x7
    unfold C_X2_isAllowed_6
    refine v_iload C dX2_isAllowed_6 5 rfl ?_
    refine v_aload_n C dX2_isAllowed_8 0 rfl ?_
    refine g_getA C dX2_isAllowed_9 cls_2 (Nat.le_of_ble_eq_true rfl) fl_X2_29 fs_X2_29 (fun y1 hy1 => ?_)
    refine g_alen (kd := 4) (fun _ => rfl) C dX2_isAllowed_12 (fun y2 hy2 => ?_)
    refine v_icmp_ge C (tgt := 49) dX2_isAllowed_13 rfl (fun _ => ?_) (fun _ => ?_)
    · refine v_iload C dX2_isAllowed_49 4 rfl ?_
      refine v_zz (fun b3 hb3 => ?_)
      exact v_zreturn C hm dX2_isAllowed_51 hb3 rfl
    · refine v_iload C dX2_isAllowed_16 4 rfl ?_
      refine v_aload_n C dX2_isAllowed_18 0 rfl ?_
      refine g_getA C dX2_isAllowed_19 cls_2 (Nat.le_of_ble_eq_true rfl) fl_X2_29 fs_X2_29 (fun y4 hy4 => ?_)
      refine v_iload C dX2_isAllowed_22 5 rfl ?_
      refine g_aalA4 C dX2_isAllowed_24 (fun y5 hy5 => ?_)
      refine v_iload_n C dX2_isAllowed_25 1 rfl ?_
      refine v_lload_n C dX2_isAllowed_26 2 rfl ?_
      refine v_lload C dX2_isAllowed_27 3 rfl ?_
      refine g_callV_ri C (As := [.int x1, .long x2, .long x4]) (st := [.int x6]) lk_X2_102 dX2_isAllowed_29 rfl (Nat.le_of_ble_eq_true rfl) (Nat.le_of_ble_eq_true rfl) (Nat.le_of_ble_eq_true rfl) cls_5.1 rfl (fun _ z => rc_X6_contains z) (fun _ z => met_X6_contains hO S y5 x1 x2 x4 z) (fun r6 hr6 => ?_)
      refine v_if_ne C (tgt := 39) dX2_isAllowed_32 rfl (fun _ => ?_) (fun _ => ?_)
      · refine v_iconst C dX2_isAllowed_35 ci_1 ?_
        refine v_goto C (tgt := 40) dX2_isAllowed_36 rfl ?_
        exact v_sub [0, 1, 2, 3, 5] rfl (w_X2_isAllowed_40 hO C hm (C_X2_isAllowed_6 F S x0 x1 x2 x4 n) ih x6 1)
      · refine v_iconst C dX2_isAllowed_39 ci_0 ?_
        exact v_sub [0, 1, 2, 3, 5] rfl (w_X2_isAllowed_40 hO C hm (C_X2_isAllowed_6 F S x0 x1 x2 x4 n) ih x6 0)
theorem met_X2_isAllowed {P : GP} {l : Launch} (hO : okG P) (F : Nat) (S : St) (x0 : Nat) (x1 : Int32) (x2 : Int64) (x4 : Int64) {r : Int32} (h : C_X2_isAllowed F S x0 x1 x2 x4 = some r) : FM l (OG P) yX2_isAllowed (ws_ yX2_isAllowed cX2_isAllowed 8 (some .boolean)) 1 25 [.ref x0, .int x1, .long x2, .long x4] S ((f_ri S) r) := by
  refine FM.of (own := RX2) (lv := [(0, .ref x0), (1, .int x1), (2, .long x2), (4, .long x4)]) (OG_ok P hO) pl_X2 rfl (Nat.le_of_ble_eq_true rfl) rfl h LE.rf (fun X C hm => ?_)
  unfold C_X2_isAllowed
  refine VF.bind (fun _ _ => ?_)
  refine v_iconst C dX2_isAllowed_0 ci_1 ?_
  refine v_istore C (lv' := [(6, .int 1), (0, .ref x0), (1, .int x1), (2, .long x2), (4, .long x4)]) dX2_isAllowed_1 (Nat.le_of_ble_eq_true rfl) rfl ?_
  refine v_iconst C dX2_isAllowed_3 ci_0 ?_
  refine v_istore C (lv' := [(7, .int 0), (6, .int 1), (0, .ref x0), (1, .int x1), (2, .long x2), (4, .long x4)]) dX2_isAllowed_4 (Nat.le_of_ble_eq_true rfl) rfl ?_
  exact v_sub [2, 3, 4, 5, 1, 0] rfl (w_X2_isAllowed_6 hO C hm F 1 0)
theorem mono_X9_init {S : St} {x0 : Nat} {x1 : Int32} {x2 : Int32} {r : St} (h : C_X9_init S x0 x1 x2 = some r) : leG S r := by
  have q : MF mf_s (C_X9_init S x0 x1 x2) S := by
    unfold C_X9_init
    refine mf_put (fun S1 hS1 => ?_)
    refine mf_put (fun S2 hS2 => ?_)
    exact mf_ret leG.rf
  exact q r h
theorem met_X9_init {P : GP} {l : Launch} (hO : okG P) (S : St) (x0 : Nat) (x1 : Int32) (x2 : Int32) {r : St} (h : C_X9_init S x0 x1 x2 = some r) : FM l (OG P) yX9_init (ws_ yX9_init cX9_init 3 none) 1 34 [.ref x0, .int x1, .int x2] S (f_mv r) := by
  refine FM.ofI (own := RX9) (lv := [(0, .ref x0), (1, .int x1), (2, .int x2)]) hO pl_X9 rfl rfl (Nat.le_of_ble_eq_true rfl) rfl h (mono_X9_init h).LE (fun X C hm hin2 => ?_)
  unfold C_X9_init
  refine v_aload_n C dX9_init_0 0 rfl ?_
  refine g_objInit C dX9_init_1 lkO_X9_1 (Nat.le_of_ble_eq_true rfl) (Nat.le_of_ble_eq_true rfl) ?_
  refine v_aload_n C dX9_init_4 0 rfl ?_
  refine v_iload_n C dX9_init_5 1 rfl ?_
  refine g_putFV C hin2 dX9_init_6 cls_8 (Nat.le_of_ble_eq_true rfl) q928 rfl rfl rfl rfl (fun S1 hS1 => ?_)
  refine v_aload_n C dX9_init_9 0 rfl ?_
  refine v_iload_n C dX9_init_10 2 rfl ?_
  refine g_putFV C hin2 dX9_init_11 cls_8 (Nat.le_of_ble_eq_true rfl) q930 rfl rfl rfl rfl (fun S2 hS2 => ?_)
  exact v_vreturn C hm dX9_init_14 rfl
theorem mono_X7_longer {S : St} {x0 : Nat} {r : Nat × St} (h : C_X7_longer S x0 = some r) : leG S r.2 := by
  have q : MF mf_p (C_X7_longer S x0) S := by
    unfold C_X7_longer
    refine mf_bind (fun y1 hy1 => ?_)
    refine mf_nI_ (fun r2 hr2 => ?_)
    refine mf_bind (fun y3 hy3 => ?_)
    refine mf_cI (fun S4 hS4 => ?_)
    exact mf_ret leG.rf
  exact q r h
theorem met_X7_longer {P : GP} {l : Launch} (hO : okG P) (S : St) (x0 : Nat) {r : Nat × St} (h : C_X7_longer S x0 = some r) : FM l (OG P) yX7_longer (ws_ yX7_longer cX7_longer 2 (some (.array .int))) 1 34 [.ref x0] S (f_ma r) := by
  refine FM.of (own := RX7) (lv := [(0, .ref x0)]) (OG_ok P hO) pl_X7 rfl (Nat.le_of_ble_eq_true rfl) rfl h (mono_X7_longer h).LE (fun X C hm => ?_)
  unfold C_X7_longer
  refine v_iconst C dX7_longer_0 ci_2 ?_
  refine v_aload_n C dX7_longer_1 0 rfl ?_
  refine g_alen (kd := 0) (fun _ => rfl) C dX7_longer_2 (fun y1 hy1 => ?_)
  refine v_imul C dX7_longer_3 ?_
  refine g_naI C dX7_longer_4 q194 (fun r2 hr2 => ?_)
  refine v_astore_n C (lv' := [(1, .ref (r2.1)), (0, .ref x0)]) dX7_longer_6 (Nat.le_of_ble_eq_true rfl) rfl ?_
  refine v_aload_n C dX7_longer_7 1 rfl ?_
  refine v_iconst C dX7_longer_8 ci_0 ?_
  refine v_aload_n C dX7_longer_9 0 rfl ?_
  refine v_iconst C dX7_longer_10 ci_0 ?_
  refine v_aload_n C dX7_longer_11 1 rfl ?_
  refine g_alen (kd := 0) (fun _ => rfl) C dX7_longer_12 (fun y3 hy3 => ?_)
  refine g_cpI C dX7_longer_13 lkC_X7_38 (Nat.le_of_ble_eq_true rfl) (Nat.le_of_ble_eq_true rfl) (fun S4 hS4 => ?_)
  refine v_aload_n C dX7_longer_16 0 rfl ?_
  exact v_areturn C hm dX7_longer_17 (Or.inr ⟨_, rfl⟩) (Or.inr ⟨_, rfl⟩) rfl
theorem o_X7_enter_225 {F : Nat} {x0 : Nat} {x1 : Int32} {x8 : Int32} {x9 : Int32} {x10 : Int32}  (S : St) : MF mf_s (C_X7_enter_225 F x0 x1 x8 x9 x10 S) S := by
  unfold C_X7_enter_225
  refine mf_bind (fun y39 hy39 => ?_)
  refine mf_bind (fun y40 hy40 => ?_)
  refine mf_tI (fun S41 hS41 => ?_)
  refine mf_bind (fun y42 hy42 => ?_)
  refine mf_tI (fun S43 hS43 => ?_)
  refine mf_bind (fun y44 hy44 => ?_)
  refine mf_tI (fun S45 hS45 => ?_)
  refine mf_bind (fun y46 hy46 => ?_)
  refine mf_put (fun S47 hS47 => ?_)
  exact mf_ret leG.rf
theorem o_X7_enter_180 {F : Nat} {x0 : Nat} {x1 : Int32} {x8 : Int32} {x9 : Int32} {x10 : Int32}  : ∀ (n : Nat) (x11 : Int32) (S : St), MF mf_s (C_X7_enter_180 F x0 x1 x8 x9 x10 n x11 S) S := by
  intro n
  induction n with
  | zero => intro x11 S; exact mf_none
  | succ n ih =>
    intro x11 S
    unfold C_X7_enter_180
    refine mf_ite ?_ ?_
    · exact (o_X7_enter_225 S)
    · refine mf_bind (fun y30 hy30 => ?_)
      refine mf_bind (fun y31 hy31 => ?_)
      refine mf_bind (fun y32 hy32 => ?_)
      refine mf_tI (fun S33 hS33 => ?_)
      refine mf_bind (fun y34 hy34 => ?_)
      refine mf_bind (fun y35 hy35 => ?_)
      refine mf_bind (fun y36 hy36 => ?_)
      refine mf_tI (fun S37 hS37 => ?_)
      refine mf_bind (fun y38 hy38 => ?_)
      exact (ih y38 S37)
theorem o_X7_enter_174 {F : Nat} {x0 : Nat} {x1 : Int32} {x8 : Int32} {x9 : Int32} {x10 : Int32}  (S : St) : MF mf_s (C_X7_enter_174 F x0 x1 x8 x9 x10 S) S := by
  unfold C_X7_enter_174
  refine mf_bind (fun y29 hy29 => ?_)
  exact (o_X7_enter_180 F y29 S)
theorem o_X7_enter_129 {F : Nat} {x0 : Nat} {x1 : Int32} {x8 : Int32} {x9 : Int32} {x10 : Int32}  (S : St) : MF mf_s (C_X7_enter_129 F x0 x1 x8 x9 x10 S) S := by
  unfold C_X7_enter_129
  refine mf_bind (fun y17 hy17 => ?_)
  refine mf_bind (fun y18 hy18 => ?_)
  refine mf_bind (fun y19 hy19 => ?_)
  refine mf_ite ?_ ?_
  · refine mf_bind (fun y20 hy20 => ?_)
    refine mf_call (fun _ z => mono_X7_longer z) (fun r21 hr21 => ?_)
    refine mf_put (fun S22 hS22 => ?_)
    refine mf_bind (fun y23 hy23 => ?_)
    refine mf_call (fun _ z => mono_X7_longer z) (fun r24 hr24 => ?_)
    refine mf_put (fun S25 hS25 => ?_)
    refine mf_bind (fun y26 hy26 => ?_)
    refine mf_call (fun _ z => mono_X7_longer z) (fun r27 hr27 => ?_)
    refine mf_put (fun S28 hS28 => ?_)
    exact (o_X7_enter_174 S28)
  · exact (o_X7_enter_174 S)
theorem o_X7_enter_91 {F : Nat} {x0 : Nat} {x1 : Int32} {x8 : Int32} {x9 : Int32} {x10 : Int32}  (S : St) : MF mf_s (C_X7_enter_91 F x0 x1 x8 x9 x10 S) S := by
  unfold C_X7_enter_91
  refine mf_bind (fun y12 hy12 => ?_)
  refine mf_ite ?_ ?_
  · exact (o_X7_enter_129 S)
  · refine mf_bind (fun y13 hy13 => ?_)
    refine mf_bind (fun y14 hy14 => ?_)
    refine mf_ite ?_ ?_
    · refine mf_bind (fun y15 hy15 => ?_)
      refine mf_bind (fun y16 hy16 => ?_)
      refine mf_ite ?_ ?_
      · exact mf_ret leG.rf
      · exact (o_X7_enter_129 S)
    · exact (o_X7_enter_129 S)
theorem o_X7_enter_44 {F : Nat} {x0 : Nat} {x1 : Int32} {x8 : Int32} {x9 : Int32}  : ∀ (n : Nat) (x10 : Int32) (S : St), MF mf_s (C_X7_enter_44 F x0 x1 x8 x9 n x10 S) S := by
  intro n
  induction n with
  | zero => intro x10 S; exact mf_none
  | succ n ih =>
    intro x10 S
    unfold C_X7_enter_44
    refine mf_bind (fun y6 hy6 => ?_)
    refine mf_ite ?_ ?_
    · exact (o_X7_enter_91 S)
    · refine mf_bind (fun y7 hy7 => ?_)
      refine mf_bind (fun y8 hy8 => ?_)
      refine mf_bind (fun y9 hy9 => ?_)
      refine mf_bind (fun y10 hy10 => ?_)
      refine mf_ite ?_ ?_
      · exact (o_X7_enter_91 S)
      · refine mf_bind (fun y11 hy11 => ?_)
        exact (ih y11 S)
theorem o_X7_enter_20 {F : Nat} {x0 : Nat} {x1 : Int32} {x2 : Int64} {x4 : Int64}  (s0 : Int64) (s1 : Int64) (S : St) : MF mf_s (C_X7_enter_20 F x0 x1 x2 x4 s0 s1 S) S := by
  unfold C_X7_enter_20
  refine mf_bind (fun y2 hy2 => ?_)
  refine mf_ite mf_none ?_
  refine mf_bind (fun y3 hy3 => ?_)
  refine mf_ite mf_none ?_
  refine mf_bind (fun y4 hy4 => ?_)
  refine mf_bind (fun y5 hy5 => ?_)
  exact (o_X7_enter_44 F y5 S)
theorem mono_X7_enter {F : Nat} {S : St} {x0 : Nat} {x1 : Int32} {x2 : Int64} {x4 : Int64} {r : St} (h : C_X7_enter F S x0 x1 x2 x4 = some r) : leG S r := by
  have q : MF mf_s (C_X7_enter F S x0 x1 x2 x4) S := by
    unfold C_X7_enter
    refine mf_bind (fun _ _ => ?_)
    refine mf_bind (fun r1 hr1 => ?_)
    refine mf_ite ?_ ?_
    · exact (o_X7_enter_20 r1 1 S)
    · exact (o_X7_enter_20 r1 (-1) S)
  exact q r h
theorem w_X7_enter_225 {P : GP} {X : Ctx} {l : Launch} {S0 : St} {F : Nat} (hO : okG P) (C : CX (OG P) X l cX7_enter 12 RX7 none) (hm : X.2.2.2.2.2.2.2.2.2 = none) {x0 : Nat} {x1 : Int32} {x8 : Int32} {x9 : Int32} {x10 : Int32}  (S : St) : VF (OG P) X 12 41 1383 S0 f_mv (C_X7_enter_225 F x0 x1 x8 x9 x10 S) S 225 [(0, .ref x0), (1, .int x1), (8, .int x8), (9, .int x9), (10, .int x10)] [] := by
  unfold C_X7_enter_225
  refine v_aload_n C dX7_enter_225 0 rfl ?_
  refine g_getA C dX7_enter_226 cls_6 (Nat.le_of_ble_eq_true rfl) fl_X7_7 fs_X7_7 (fun y39 hy39 => ?_)
  refine v_aload_n C dX7_enter_229 0 rfl ?_
  refine g_getI C dX7_enter_230 cls_6 (Nat.le_of_ble_eq_true rfl) fl_X7_27 fs_X7_27 (fun y40 hy40 => ?_)
  refine v_iload_n C dX7_enter_233 1 rfl ?_
  refine g_ias C dX7_enter_234 (fun S41 hS41 => ?_)
  refine v_aload_n C dX7_enter_235 0 rfl ?_
  refine g_getA C dX7_enter_236 cls_6 (Nat.le_of_ble_eq_true rfl) fl_X7_13 fs_X7_13 (fun y42 hy42 => ?_)
  refine v_iload C dX7_enter_239 4 rfl ?_
  refine v_iload C dX7_enter_241 2 rfl ?_
  refine g_ias C dX7_enter_243 (fun S43 hS43 => ?_)
  refine v_aload_n C dX7_enter_244 0 rfl ?_
  refine g_getA C dX7_enter_245 cls_6 (Nat.le_of_ble_eq_true rfl) fl_X7_16 fs_X7_16 (fun y44 hy44 => ?_)
  refine v_iload C dX7_enter_248 4 rfl ?_
  refine v_iload C dX7_enter_250 3 rfl ?_
  refine g_ias C dX7_enter_252 (fun S45 hS45 => ?_)
  refine v_aload_n C dX7_enter_253 0 rfl ?_
  refine v_dup C dX7_enter_254 rfl ?_
  refine g_getI C dX7_enter_255 cls_6 (Nat.le_of_ble_eq_true rfl) fl_X7_27 fs_X7_27 (fun y46 hy46 => ?_)
  refine v_iconst C dX7_enter_258 ci_1 ?_
  refine v_iadd C dX7_enter_259 ?_
  refine g_putV C dX7_enter_260 cls_6 (Nat.le_of_ble_eq_true rfl) fl_X7_27 fs_X7_27 rfl rfl rfl (fun S47 hS47 => ?_)
  exact v_vreturn C hm dX7_enter_263 rfl
theorem w_X7_enter_180 {P : GP} {X : Ctx} {l : Launch} {S0 : St} {F : Nat} (hO : okG P) (C : CX (OG P) X l cX7_enter 12 RX7 none) (hm : X.2.2.2.2.2.2.2.2.2 = none) {x0 : Nat} {x1 : Int32} {x8 : Int32} {x9 : Int32} {x10 : Int32}  : ∀ (n : Nat) (x11 : Int32) (S : St), VF (OG P) X 12 41 1383 S0 f_mv (C_X7_enter_180 F x0 x1 x8 x9 x10 n x11 S) S 180 [(0, .ref x0), (1, .int x1), (8, .int x8), (9, .int x9), (10, .int x10), (11, .int x11)] [] := by
  intro n
  induction n with
  | zero => intro x11 S; exact VF.none
  | succ n ih =>
    intro x11 S
    unfold C_X7_enter_180
    refine v_iload C dX7_enter_180 5 rfl ?_
    refine v_iload C dX7_enter_182 4 rfl ?_
    refine v_icmp_le C (tgt := 225) dX7_enter_184 rfl (fun _ => ?_) (fun _ => ?_)
    · exact v_sub [0, 1, 2, 3, 4] rfl (w_X7_enter_225 hO C hm S)
    · refine v_aload_n C dX7_enter_187 0 rfl ?_
      refine g_getA C dX7_enter_188 cls_6 (Nat.le_of_ble_eq_true rfl) fl_X7_13 fs_X7_13 (fun y30 hy30 => ?_)
      refine v_iload C dX7_enter_191 5 rfl ?_
      refine v_aload_n C dX7_enter_193 0 rfl ?_
      refine g_getA C dX7_enter_194 cls_6 (Nat.le_of_ble_eq_true rfl) fl_X7_13 fs_X7_13 (fun y31 hy31 => ?_)
      refine v_iload C dX7_enter_197 5 rfl ?_
      refine v_iconst C dX7_enter_199 ci_1 ?_
      refine v_isub C dX7_enter_200 ?_
      refine g_ial C dX7_enter_201 (fun y32 hy32 => ?_)
      refine g_ias C dX7_enter_202 (fun S33 hS33 => ?_)
      refine v_aload_n C dX7_enter_203 0 rfl ?_
      refine g_getA C dX7_enter_204 cls_6 (Nat.le_of_ble_eq_true rfl) fl_X7_16 fs_X7_16 (fun y34 hy34 => ?_)
      refine v_iload C dX7_enter_207 5 rfl ?_
      refine v_aload_n C dX7_enter_209 0 rfl ?_
      refine g_getA C dX7_enter_210 cls_6 (Nat.le_of_ble_eq_true rfl) fl_X7_16 fs_X7_16 (fun y35 hy35 => ?_)
      refine v_iload C dX7_enter_213 5 rfl ?_
      refine v_iconst C dX7_enter_215 ci_1 ?_
      refine v_isub C dX7_enter_216 ?_
      refine g_ial C dX7_enter_217 (fun y36 hy36 => ?_)
      refine g_ias C dX7_enter_218 (fun S37 hS37 => ?_)
      refine v_iincN C (lv' := fun y38 => [(11, .int y38), (0, .ref x0), (1, .int x1), (8, .int x8), (9, .int x9), (10, .int x10)]) dX7_enter_219 5 rfl ci_m1 (Nat.le_of_ble_eq_true rfl) (fun _ => rfl) (fun y38 hy38 => ?_)
      refine v_goto C (tgt := 180) dX7_enter_222 rfl ?_
      exact v_sub [1, 2, 3, 4, 5, 0] rfl (ih y38 S37)
theorem w_X7_enter_174 {P : GP} {X : Ctx} {l : Launch} {S0 : St} {F : Nat} (hO : okG P) (C : CX (OG P) X l cX7_enter 12 RX7 none) (hm : X.2.2.2.2.2.2.2.2.2 = none) {x0 : Nat} {x1 : Int32} {x8 : Int32} {x9 : Int32} {x10 : Int32}  (S : St) : VF (OG P) X 12 41 1383 S0 f_mv (C_X7_enter_174 F x0 x1 x8 x9 x10 S) S 174 [(0, .ref x0), (1, .int x1), (8, .int x8), (9, .int x9), (10, .int x10)] [] := by
  unfold C_X7_enter_174
  refine v_aload_n C dX7_enter_174 0 rfl ?_
  refine g_getI C dX7_enter_175 cls_6 (Nat.le_of_ble_eq_true rfl) fl_X7_27 fs_X7_27 (fun y29 hy29 => ?_)
  refine v_istore C (lv' := [(11, .int y29), (0, .ref x0), (1, .int x1), (8, .int x8), (9, .int x9), (10, .int x10)]) dX7_enter_178 (Nat.le_of_ble_eq_true rfl) rfl ?_
  exact v_sub [1, 2, 3, 4, 5, 0] rfl (w_X7_enter_180 hO C hm F y29 S)
theorem w_X7_enter_129 {P : GP} {X : Ctx} {l : Launch} {S0 : St} {F : Nat} (hO : okG P) (C : CX (OG P) X l cX7_enter 12 RX7 none) (hm : X.2.2.2.2.2.2.2.2.2 = none) {x0 : Nat} {x1 : Int32} {x8 : Int32} {x9 : Int32} {x10 : Int32}  (S : St) : VF (OG P) X 12 41 1383 S0 f_mv (C_X7_enter_129 F x0 x1 x8 x9 x10 S) S 129 [(0, .ref x0), (1, .int x1), (8, .int x8), (9, .int x9), (10, .int x10)] [] := by
  unfold C_X7_enter_129
  refine v_aload_n C dX7_enter_129 0 rfl ?_
  refine g_getI C dX7_enter_130 cls_6 (Nat.le_of_ble_eq_true rfl) fl_X7_27 fs_X7_27 (fun y17 hy17 => ?_)
  refine v_aload_n C dX7_enter_133 0 rfl ?_
  refine g_getA C dX7_enter_134 cls_6 (Nat.le_of_ble_eq_true rfl) fl_X7_7 fs_X7_7 (fun y18 hy18 => ?_)
  refine g_alen (kd := 0) (fun _ => rfl) C dX7_enter_137 (fun y19 hy19 => ?_)
  refine v_icmp_ne C (tgt := 174) dX7_enter_138 rfl (fun _ => ?_) (fun _ => ?_)
  · refine v_aload_n C dX7_enter_141 0 rfl ?_
    refine v_aload_n C dX7_enter_142 0 rfl ?_
    refine g_getA C dX7_enter_143 cls_6 (Nat.le_of_ble_eq_true rfl) fl_X7_7 fs_X7_7 (fun y20 hy20 => ?_)
    refine v_callS_ma C (As := [.ref y20]) (st := [.ref x0]) lk_X7_34 dX7_enter_146 rfl (Nat.le_of_ble_eq_true rfl) (Nat.le_of_ble_eq_true rfl) (Nat.le_of_ble_eq_true rfl) (fun _ z => met_X7_longer hO S y20 z) (fun r21 hr21 => ?_)
    refine g_putV C dX7_enter_149 cls_6 (Nat.le_of_ble_eq_true rfl) fl_X7_7 fs_X7_7 rfl rfl rfl (fun S22 hS22 => ?_)
    refine v_aload_n C dX7_enter_152 0 rfl ?_
    refine v_aload_n C dX7_enter_153 0 rfl ?_
    refine g_getA C dX7_enter_154 cls_6 (Nat.le_of_ble_eq_true rfl) fl_X7_13 fs_X7_13 (fun y23 hy23 => ?_)
    refine v_callS_ma C (As := [.ref y23]) (st := [.ref x0]) lk_X7_34 dX7_enter_157 rfl (Nat.le_of_ble_eq_true rfl) (Nat.le_of_ble_eq_true rfl) (Nat.le_of_ble_eq_true rfl) (fun _ z => met_X7_longer hO S22 y23 z) (fun r24 hr24 => ?_)
    refine g_putV C dX7_enter_160 cls_6 (Nat.le_of_ble_eq_true rfl) fl_X7_13 fs_X7_13 rfl rfl rfl (fun S25 hS25 => ?_)
    refine v_aload_n C dX7_enter_163 0 rfl ?_
    refine v_aload_n C dX7_enter_164 0 rfl ?_
    refine g_getA C dX7_enter_165 cls_6 (Nat.le_of_ble_eq_true rfl) fl_X7_16 fs_X7_16 (fun y26 hy26 => ?_)
    refine v_callS_ma C (As := [.ref y26]) (st := [.ref x0]) lk_X7_34 dX7_enter_168 rfl (Nat.le_of_ble_eq_true rfl) (Nat.le_of_ble_eq_true rfl) (Nat.le_of_ble_eq_true rfl) (fun _ z => met_X7_longer hO S25 y26 z) (fun r27 hr27 => ?_)
    refine g_putV C dX7_enter_171 cls_6 (Nat.le_of_ble_eq_true rfl) fl_X7_16 fs_X7_16 rfl rfl rfl (fun S28 hS28 => ?_)
    exact v_sub [0, 1, 2, 3, 4] rfl (w_X7_enter_174 hO C hm S28)
  · exact v_sub [0, 1, 2, 3, 4] rfl (w_X7_enter_174 hO C hm S)
theorem w_X7_enter_91 {P : GP} {X : Ctx} {l : Launch} {S0 : St} {F : Nat} (hO : okG P) (C : CX (OG P) X l cX7_enter 12 RX7 none) (hm : X.2.2.2.2.2.2.2.2.2 = none) {x0 : Nat} {x1 : Int32} {x8 : Int32} {x9 : Int32} {x10 : Int32}  (S : St) : VF (OG P) X 12 41 1383 S0 f_mv (C_X7_enter_91 F x0 x1 x8 x9 x10 S) S 91 [(0, .ref x0), (1, .int x1), (8, .int x8), (9, .int x9), (10, .int x10)] [] := by
  unfold C_X7_enter_91
  refine v_iload C dX7_enter_91 4 rfl ?_
  refine v_aload_n C dX7_enter_93 0 rfl ?_
  refine g_getI C dX7_enter_94 cls_6 (Nat.le_of_ble_eq_true rfl) fl_X7_31 fs_X7_31 (fun y12 hy12 => ?_)
  refine v_icmp_le C (tgt := 129) dX7_enter_97 rfl (fun _ => ?_) (fun _ => ?_)
  · exact v_sub [0, 1, 2, 3, 4] rfl (w_X7_enter_129 hO C hm S)
  · refine v_aload_n C dX7_enter_100 0 rfl ?_
    refine g_getA C dX7_enter_101 cls_6 (Nat.le_of_ble_eq_true rfl) fl_X7_13 fs_X7_13 (fun y13 hy13 => ?_)
    refine v_iload C dX7_enter_104 4 rfl ?_
    refine v_iconst C dX7_enter_106 ci_1 ?_
    refine v_isub C dX7_enter_107 ?_
    refine g_ial C dX7_enter_108 (fun y14 hy14 => ?_)
    refine v_iload C dX7_enter_109 2 rfl ?_
    refine v_icmp_ne C (tgt := 129) dX7_enter_111 rfl (fun _ => ?_) (fun _ => ?_)
    · refine v_aload_n C dX7_enter_114 0 rfl ?_
      refine g_getA C dX7_enter_115 cls_6 (Nat.le_of_ble_eq_true rfl) fl_X7_16 fs_X7_16 (fun y15 hy15 => ?_)
      refine v_iload C dX7_enter_118 4 rfl ?_
      refine v_iconst C dX7_enter_120 ci_1 ?_
      refine v_isub C dX7_enter_121 ?_
      refine g_ial C dX7_enter_122 (fun y16 hy16 => ?_)
      refine v_iload C dX7_enter_123 3 rfl ?_
      refine v_icmp_ne C (tgt := 129) dX7_enter_125 rfl (fun _ => ?_) (fun _ => ?_)
      · exact v_vreturn C hm dX7_enter_128 rfl
      · exact v_sub [0, 1, 2, 3, 4] rfl (w_X7_enter_129 hO C hm S)
    · exact v_sub [0, 1, 2, 3, 4] rfl (w_X7_enter_129 hO C hm S)
theorem w_X7_enter_44 {P : GP} {X : Ctx} {l : Launch} {S0 : St} {F : Nat} (hO : okG P) (C : CX (OG P) X l cX7_enter 12 RX7 none) (hm : X.2.2.2.2.2.2.2.2.2 = none) {x0 : Nat} {x1 : Int32} {x8 : Int32} {x9 : Int32}  : ∀ (n : Nat) (x10 : Int32) (S : St), VF (OG P) X 12 41 1383 S0 f_mv (C_X7_enter_44 F x0 x1 x8 x9 n x10 S) S 44 [(0, .ref x0), (1, .int x1), (8, .int x8), (9, .int x9), (10, .int x10)] [] := by
  intro n
  induction n with
  | zero => intro x10 S; exact VF.none
  | succ n ih =>
    intro x10 S
    unfold C_X7_enter_44
    refine v_iload C dX7_enter_44 4 rfl ?_
    refine v_aload_n C dX7_enter_46 0 rfl ?_
    refine g_getI C dX7_enter_47 cls_6 (Nat.le_of_ble_eq_true rfl) fl_X7_31 fs_X7_31 (fun y6 hy6 => ?_)
    refine v_icmp_le C (tgt := 91) dX7_enter_50 rfl (fun _ => ?_) (fun _ => ?_)
    · exact v_sub [0, 1, 2, 3, 4] rfl (w_X7_enter_91 hO C hm S)
    · refine v_iload C dX7_enter_53 2 rfl ?_
      refine v_i2l C dX7_enter_55 ?_
      refine v_aload_n C dX7_enter_56 0 rfl ?_
      refine g_getA C dX7_enter_57 cls_6 (Nat.le_of_ble_eq_true rfl) fl_X7_16 fs_X7_16 (fun y7 hy7 => ?_)
      refine v_iload C dX7_enter_60 4 rfl ?_
      refine v_iconst C dX7_enter_62 ci_1 ?_
      refine v_isub C dX7_enter_63 ?_
      refine g_ial C dX7_enter_64 (fun y8 hy8 => ?_)
      refine v_i2l C dX7_enter_65 ?_
      refine v_lmul C dX7_enter_66 ?_
      refine v_aload_n C dX7_enter_67 0 rfl ?_
      refine g_getA C dX7_enter_68 cls_6 (Nat.le_of_ble_eq_true rfl) fl_X7_13 fs_X7_13 (fun y9 hy9 => ?_)
      refine v_iload C dX7_enter_71 4 rfl ?_
      refine v_iconst C dX7_enter_73 ci_1 ?_
      refine v_isub C dX7_enter_74 ?_
      refine g_ial C dX7_enter_75 (fun y10 hy10 => ?_)
      refine v_i2l C dX7_enter_76 ?_
      refine v_iload C dX7_enter_77 3 rfl ?_
      refine v_i2l C dX7_enter_79 ?_
      refine v_lmul C dX7_enter_80 ?_
      refine v_lcmp_ge C (tgt := 91) dX7_enter_81 dX7_enter_82 rfl (fun _ => ?_) (fun _ => ?_)
      · exact v_sub [0, 1, 2, 3, 4] rfl (w_X7_enter_91 hO C hm S)
      · refine v_iincN C (lv' := fun y11 => [(10, .int y11), (0, .ref x0), (1, .int x1), (8, .int x8), (9, .int x9)]) dX7_enter_85 4 rfl ci_m1 (Nat.le_of_ble_eq_true rfl) (fun _ => rfl) (fun y11 hy11 => ?_)
        refine v_goto C (tgt := 44) dX7_enter_88 rfl ?_
        exact v_sub [1, 2, 3, 4, 0] rfl (ih y11 S)
theorem w_X7_enter_20 {P : GP} {X : Ctx} {l : Launch} {S0 : St} {F : Nat} (hO : okG P) (C : CX (OG P) X l cX7_enter 12 RX7 none) (hm : X.2.2.2.2.2.2.2.2.2 = none) {x0 : Nat} {x1 : Int32} {x2 : Int64} {x4 : Int64}  (s0 : Int64) (s1 : Int64) (S : St) : VF (OG P) X 12 41 1383 S0 f_mv (C_X7_enter_20 F x0 x1 x2 x4 s0 s1 S) S 20 [(0, .ref x0), (1, .int x1), (2, .long x2), (4, .long x4)] [.long s1, .long s0] := by
  unfold C_X7_enter_20
  refine v_lmul C dX7_enter_20 ?_
  refine v_letl (fun y2 hy2 => ?_)
  refine v_lstore C (lv' := [(6, .long y2), (0, .ref x0), (1, .int x1), (2, .long x2), (4, .long x4)]) dX7_enter_21 (Nat.le_of_ble_eq_true rfl) rfl ?_
  refine v_lload_n C dX7_enter_23 3 rfl ?_
  refine v_lload C dX7_enter_24 0 rfl ?_
  refine v_ldiv C dX7_enter_26 (fun _ => ?_)
  refine v_l2i C dX7_enter_27 ?_
  refine v_leti (fun y3 hy3 => ?_)
  refine v_istore C (lv' := [(8, .int y3), (6, .long y2), (0, .ref x0), (1, .int x1), (2, .long x2), (4, .long x4)]) dX7_enter_28 (Nat.le_of_ble_eq_true rfl) rfl ?_
  refine v_lload C dX7_enter_30 5 rfl ?_
  refine v_lload C dX7_enter_32 1 rfl ?_
  refine v_ldiv C dX7_enter_34 (fun _ => ?_)
  refine v_l2i C dX7_enter_35 ?_
  refine v_leti (fun y4 hy4 => ?_)
  refine v_istore C (lv' := [(9, .int y4), (8, .int y3), (6, .long y2), (0, .ref x0), (1, .int x1), (2, .long x2), (4, .long x4)]) dX7_enter_36 (Nat.le_of_ble_eq_true rfl) rfl ?_
  refine v_aload_n C dX7_enter_38 3 rfl ?_
  refine g_getI C dX7_enter_39 cls_6 (Nat.le_of_ble_eq_true rfl) fl_X7_27 fs_X7_27 (fun y5 hy5 => ?_)
  refine v_istore C (lv' := [(10, .int y5), (9, .int y4), (8, .int y3), (6, .long y2), (0, .ref x0), (1, .int x1), (2, .long x2), (4, .long x4)]) dX7_enter_42 (Nat.le_of_ble_eq_true rfl) rfl ?_
  exact v_sub [4, 5, 2, 1, 0] rfl (w_X7_enter_44 hO C hm F y5 S)
theorem met_X7_enter {P : GP} {l : Launch} (hO : okG P) (F : Nat) (S : St) (x0 : Nat) (x1 : Int32) (x2 : Int64) (x4 : Int64) {r : St} (h : C_X7_enter F S x0 x1 x2 x4 = some r) : FM l (OG P) yX7_enter (ws_ yX7_enter cX7_enter 12 none) 41 1383 [.ref x0, .int x1, .long x2, .long x4] S (f_mv r) := by
  refine FM.of (own := RX7) (lv := [(0, .ref x0), (1, .int x1), (2, .long x2), (4, .long x4)]) (OG_ok P hO) pl_X7 rfl (Nat.le_of_ble_eq_true rfl) rfl h (mono_X7_enter h).LE (fun X C hm => ?_)
  unfold C_X7_enter
  refine VF.bind (fun _ _ => ?_)
  refine v_lload_n C dX7_enter_0 2 rfl ?_
  refine v_lload C dX7_enter_1 3 rfl ?_
  refine g_callSN_rl C (As := [.long x2, .long x4]) (st := []) lk_X7_19 dX7_enter_3 rfl (Nat.le_of_ble_eq_true rfl) (Nat.le_of_ble_eq_true rfl) (Nat.le_of_ble_eq_true rfl) (fun _ z => met_X1_divisor hO S x2 x4 z) (fun r1 hr1 => ?_)
  refine v_lload C dX7_enter_6 3 rfl ?_
  refine v_lconst C dX7_enter_8 cl_0 ?_
  refine v_lcmp_ge C (tgt := 19) dX7_enter_9 dX7_enter_10 rfl (fun _ => ?_) (fun _ => ?_)
  · refine v_lconst C dX7_enter_19 cl_1 ?_
    exact v_sub [0, 1, 2, 3] rfl (w_X7_enter_20 hO C hm r1 1 S)
  · refine v_ldc2 C dX7_enter_13 q951 ?_
    refine v_goto C (tgt := 20) dX7_enter_16 rfl ?_
    exact v_sub [0, 1, 2, 3] rfl (w_X7_enter_20 hO C hm r1 (-1) S)
theorem mono_X3_lambda_layEdge_0 {F : Nat} {S : St} {x0 : Nat} {x1 : Int32} {x2 : Int64} {x4 : Int64} {r : St} (h : C_X3_lambda_layEdge_0 F S x0 x1 x2 x4 = some r) : leG S r := by
  have q : MF mf_s (C_X3_lambda_layEdge_0 F S x0 x1 x2 x4) S := by
    unfold C_X3_lambda_layEdge_0
    refine mf_bind (fun _ _ => ?_)
    refine mf_bind (fun y1 hy1 => ?_)
    refine mf_bind (fun a2 ha2 => ?_)
    refine mf_callv (fun _ z => mono_X7_enter z) (fun r3 hr3 => ?_)
    exact mf_ret leG.rf
  exact q r h
theorem met_X3_lambda_layEdge_0 {P : GP} {l : Launch} (hO : okG P) (F : Nat) (S : St) (x0 : Nat) (x1 : Int32) (x2 : Int64) (x4 : Int64) {r : St} (h : C_X3_lambda_layEdge_0 F S x0 x1 x2 x4 = some r) : FM l (OG P) yX3_lambda_layEdge_0 (ws_ yX3_lambda_layEdge_0 cX3_lambda_layEdge_0 6 none) 42 1414 [.ref x0, .int x1, .long x2, .long x4] S (f_mv r) := by
  refine FM.of (own := RX3) (lv := [(0, .ref x0), (1, .int x1), (2, .long x2), (4, .long x4)]) (OG_ok P hO) pl_X3 rfl (Nat.le_of_ble_eq_true rfl) rfl h (mono_X3_lambda_layEdge_0 h).LE (fun X C hm => ?_)
  unfold C_X3_lambda_layEdge_0
  refine VF.bind (fun _ _ => ?_)
  refine v_aload_n C dX3_lambda_layEdge_0_0 0 rfl ?_
  refine g_getQ C dX3_lambda_layEdge_0_1 cls_3 (Nat.le_of_ble_eq_true rfl) fl_X3_88 fs_X3_88 (fun y1 hy1 => ?_)
  refine v_iload_n C dX3_lambda_layEdge_0_4 1 rfl ?_
  refine v_lload_n C dX3_lambda_layEdge_0_5 2 rfl ?_
  refine v_lload C dX3_lambda_layEdge_0_6 3 rfl ?_
  refine VF.bind (fun a2 ha2 => ?_)
  subst ha2
  refine g_callV_mv C (As := [.int x1, .long x2, .long x4]) (st := []) lk_X3_219 dX3_lambda_layEdge_0_8 rfl (Nat.le_of_ble_eq_true rfl) (Nat.le_of_ble_eq_true rfl) (Nat.le_of_ble_eq_true rfl) cls_6.1 rfl (fun _ z => rc_X7_enter z) (fun _ z => met_X7_enter hO F S a2 x1 x2 x4 z) (fun r3 hr3 => ?_)
  exact v_vreturn C hm dX3_lambda_layEdge_0_11 rfl
theorem met_X1_atFirst {P : GP} {l : Launch} (hO : okG P) (S : St) (x0 : Nat) {r : Int32} (h : C_X1_atFirst S x0 = some r) : FM l (OG P) yX1_atFirst (ws_ yX1_atFirst cX1_atFirst 2 (some .int)) 0 0 [.ref x0] S ((f_ri S) r) := by
  refine FM.of (own := RX1) (lv := [(0, .ref x0)]) (OG_ok P hO) pl_X1 rfl (Nat.le_of_ble_eq_true rfl) rfl h LE.rf (fun X C hm => ?_)
  unfold C_X1_atFirst
  refine v_aload_n C dX1_atFirst_0 0 rfl ?_
  refine g_inst C dX1_atFirst_1 cls_8.1 cls_7.1 q967 (by simp [ncG]) (fun y1 hy1 => ?_)
  refine v_if_eq C (tgt := 22) dX1_atFirst_4 rfl (fun _ => ?_) (fun _ => ?_)
  · refine v_aload_n C dX1_atFirst_22 0 rfl ?_
    refine g_castS C dX1_atFirst_23 cls_7.1 q966 (fun y2 hy2 => ?_)
    refine v_astore_n C (lv' := [(1, .ref x0), (0, .ref x0)]) dX1_atFirst_26 (Nat.le_of_ble_eq_true rfl) rfl ?_
    refine v_aload_n C dX1_atFirst_27 0 rfl ?_
    refine g_getI C dX1_atFirst_28 cls_7 (Nat.le_of_ble_eq_true rfl) fl_X1_15 fs_X1_15 (fun y3 hy3 => ?_)
    refine v_aload_n C dX1_atFirst_31 0 rfl ?_
    refine g_getI C dX1_atFirst_32 cls_7 (Nat.le_of_ble_eq_true rfl) fl_X1_25 fs_X1_25 (fun y4 hy4 => ?_)
    refine v_imul C dX1_atFirst_35 ?_
    exact v_ireturn C hm dX1_atFirst_36 rfl
  · refine v_aload_n C dX1_atFirst_7 0 rfl ?_
    refine g_castS C dX1_atFirst_8 cls_8.1 q967 (fun y5 hy5 => ?_)
    refine v_astore_n C (lv' := [(1, .ref x0), (0, .ref x0)]) dX1_atFirst_11 (Nat.le_of_ble_eq_true rfl) rfl ?_
    refine v_aload_n C dX1_atFirst_12 0 rfl ?_
    refine g_getI C dX1_atFirst_13 cls_8 (Nat.le_of_ble_eq_true rfl) fl_X1_21 fs_X1_21 (fun y6 hy6 => ?_)
    refine v_aload_n C dX1_atFirst_16 0 rfl ?_
    refine g_getI C dX1_atFirst_17 cls_8 (Nat.le_of_ble_eq_true rfl) fl_X1_22 fs_X1_22 (fun y7 hy7 => ?_)
    refine v_imul C dX1_atFirst_20 ?_
    exact v_ireturn C hm dX1_atFirst_21 rfl
theorem met_X1_slope {P : GP} {l : Launch} (hO : okG P) (S : St) (x0 : Nat) {r : Int32} (h : C_X1_slope S x0 = some r) : FM l (OG P) yX1_slope (ws_ yX1_slope cX1_slope 1 (some .int)) 0 0 [.ref x0] S ((f_ri S) r) := by
  refine FM.of (own := RX1) (lv := [(0, .ref x0)]) (OG_ok P hO) pl_X1 rfl (Nat.le_of_ble_eq_true rfl) rfl h LE.rf (fun X C hm => ?_)
  unfold C_X1_slope
  refine v_aload_n C dX1_slope_0 0 rfl ?_
  refine g_inst C dX1_slope_1 cls_7.1 cls_8.1 q966 (by simp [ncG]) (fun y1 hy1 => ?_)
  refine v_if_eq C (tgt := 17) dX1_slope_4 rfl (fun _ => ?_) (fun _ => ?_)
  · refine v_aload_n C dX1_slope_17 0 rfl ?_
    refine g_castS C dX1_slope_18 cls_8.1 q967 (fun y2 hy2 => ?_)
    refine g_getI C dX1_slope_21 cls_8 (Nat.le_of_ble_eq_true rfl) fl_X1_21 fs_X1_21 (fun y3 hy3 => ?_)
    refine v_ineg C dX1_slope_24 ?_
    exact v_ireturn C hm dX1_slope_25 rfl
  · refine v_aload_n C dX1_slope_7 0 rfl ?_
    refine g_castS C dX1_slope_8 cls_7.1 q966 (fun y4 hy4 => ?_)
    refine g_getI C dX1_slope_11 cls_7 (Nat.le_of_ble_eq_true rfl) fl_X1_15 fs_X1_15 (fun y5 hy5 => ?_)
    refine v_goto C (tgt := 25) dX1_slope_14 rfl ?_
    exact v_ireturn C hm dX1_slope_25 rfl
theorem o_X3_meet_87 {F : Nat} {x3 : Nat} {x4 : Int64} {x6 : Int64}  (s0 : Int32) (S : St) : MF mf_s (C_X3_meet_87 F x3 x4 x6 s0 S) S := by
  unfold C_X3_meet_87
  refine mf_ite ?_ ?_
  · exact mf_ret leG.rf
  · refine mf_bind (fun t7 ht7 => ?_)
    refine mf_bind (fun y8 hy8 => ?_)
    refine mf_callv (fun _ z => mono_X3_lambda_layEdge_0 z) (fun r9 hr9 => ?_)
    exact mf_ret leG.rf
theorem o_X3_meet_53 {F : Nat} {x3 : Nat} {x4 : Int64} {x6 : Int64}  (S : St) : MF mf_s (C_X3_meet_53 F x3 x4 x6 S) S := by
  unfold C_X3_meet_53
  exact (o_X3_meet_87 0 S)
theorem o_X3_meet_86 {F : Nat} {x3 : Nat} {x4 : Int64} {x6 : Int64}  (S : St) : MF mf_s (C_X3_meet_86 F x3 x4 x6 S) S := by
  unfold C_X3_meet_86
  exact (o_X3_meet_87 0 S)
theorem mono_X3_meet {F : Nat} {S : St} {x0 : Nat} {x1 : Nat} {x2 : Int32} {x3 : Nat} {r : St} (h : C_X3_meet F S x0 x1 x2 x3 = some r) : leG S r := by
  have q : MF mf_s (C_X3_meet F S x0 x1 x2 x3) S := by
    unfold C_X3_meet
    refine mf_bind (fun r1 hr1 => ?_)
    refine mf_bind (fun r2 hr2 => ?_)
    refine mf_bind (fun y3 hy3 => ?_)
    refine mf_bind (fun r4 hr4 => ?_)
    refine mf_bind (fun r5 hr5 => ?_)
    refine mf_bind (fun y6 hy6 => ?_)
    refine mf_ite ?_ ?_
    · refine mf_ite ?_ ?_
      · exact (o_X3_meet_86 S)
      · refine mf_ite ?_ ?_
        · exact (o_X3_meet_86 S)
        · refine mf_ite ?_ ?_
          · exact (o_X3_meet_86 S)
          · exact (o_X3_meet_87 1 S)
    · refine mf_ite ?_ ?_
      · exact (o_X3_meet_53 S)
      · refine mf_ite ?_ ?_
        · exact (o_X3_meet_53 S)
        · exact (o_X3_meet_87 1 S)
  exact q r h
theorem w_X3_meet_87 {P : GP} {X : Ctx} {l : Launch} {S0 : St} {F : Nat} (hO : okG P) (C : CX (OG P) X l cX3_meet 9 RX3 none) (hm : X.2.2.2.2.2.2.2.2.2 = none) {x3 : Nat} {x4 : Int64} {x6 : Int64}  (s0 : Int32) (S : St) : VF (OG P) X 9 44 1463 S0 f_mv (C_X3_meet_87 F x3 x4 x6 s0 S) S 87 [(3, .ref x3), (4, .long x4), (6, .long x6)] [.int s0] := by
  unfold C_X3_meet_87
  refine v_istore C (lv' := [(8, .int s0), (3, .ref x3), (4, .long x4), (6, .long x6)]) dX3_meet_87 (Nat.le_of_ble_eq_true rfl) rfl ?_
  refine v_iload C dX3_meet_89 0 rfl ?_
  refine v_if_eq C (tgt := 104) dX3_meet_91 rfl (fun _ => ?_) (fun _ => ?_)
  · exact v_vreturn C hm dX3_meet_104 rfl
  · refine v_aload_n C dX3_meet_94 1 rfl ?_
    refine v_lload C dX3_meet_95 3 rfl ?_
    refine v_lload C dX3_meet_97 2 rfl ?_
    refine g_take (st := []) hO C dX3_meet_99 (Nat.le_of_ble_eq_true rfl) (Nat.le_of_ble_eq_true rfl) (Nat.le_of_ble_eq_true rfl) (fun _ _ _ z => rc_X3_lambda_layEdge_0 z) (fun th kk _ z => met_X3_lambda_layEdge_0 hO F S th kk x6 x4 z) (fun t7 y8 r9 => ?_)
    exact v_vreturn C hm dX3_meet_104 rfl
theorem w_X3_meet_53 {P : GP} {X : Ctx} {l : Launch} {S0 : St} {F : Nat} (hO : okG P) (C : CX (OG P) X l cX3_meet 9 RX3 none) (hm : X.2.2.2.2.2.2.2.2.2 = none) {x3 : Nat} {x4 : Int64} {x6 : Int64}  (S : St) : VF (OG P) X 9 44 1463 S0 f_mv (C_X3_meet_53 F x3 x4 x6 S) S 53 [(3, .ref x3), (4, .long x4), (6, .long x6)] [] := by
  unfold C_X3_meet_53
  refine v_iconst C dX3_meet_53 ci_0 ?_
  refine v_goto C (tgt := 87) dX3_meet_54 rfl ?_
  exact v_sub [0, 1, 2] rfl (w_X3_meet_87 hO C hm 0 S)
theorem w_X3_meet_86 {P : GP} {X : Ctx} {l : Launch} {S0 : St} {F : Nat} (hO : okG P) (C : CX (OG P) X l cX3_meet 9 RX3 none) (hm : X.2.2.2.2.2.2.2.2.2 = none) {x3 : Nat} {x4 : Int64} {x6 : Int64}  (S : St) : VF (OG P) X 9 44 1463 S0 f_mv (C_X3_meet_86 F x3 x4 x6 S) S 86 [(3, .ref x3), (4, .long x4), (6, .long x6)] [] := by
  unfold C_X3_meet_86
  refine v_iconst C dX3_meet_86 ci_0 ?_
  exact v_sub [0, 1, 2] rfl (w_X3_meet_87 hO C hm 0 S)
theorem met_X3_meet {P : GP} {l : Launch} (hO : okG P) (F : Nat) (S : St) (x0 : Nat) (x1 : Nat) (x2 : Int32) (x3 : Nat) {r : St} (h : C_X3_meet F S x0 x1 x2 x3 = some r) : FM l (OG P) yX3_meet (ws_ yX3_meet cX3_meet 9 none) 44 1463 [.ref x0, .ref x1, .int x2, .ref x3] S (f_mv r) := by
  refine FM.of (own := RX3) (lv := [(0, .ref x0), (1, .ref x1), (2, .int x2), (3, .ref x3)]) (OG_ok P hO) pl_X3 rfl (Nat.le_of_ble_eq_true rfl) rfl h (mono_X3_meet h).LE (fun X C hm => ?_)
  unfold C_X3_meet
  refine v_aload_n C dX3_meet_0 0 rfl ?_
  refine g_callSN_ri C (As := [.ref x0]) (st := []) lk_X3_75 dX3_meet_1 rfl (Nat.le_of_ble_eq_true rfl) (Nat.le_of_ble_eq_true rfl) (Nat.le_of_ble_eq_true rfl) (fun _ z => met_X1_slope hO S x0 z) (fun r1 hr1 => ?_)
  refine v_aload_n C dX3_meet_4 1 rfl ?_
  refine g_callSN_ri C (As := [.ref x1]) (st := [.int r1]) lk_X3_75 dX3_meet_5 rfl (Nat.le_of_ble_eq_true rfl) (Nat.le_of_ble_eq_true rfl) (Nat.le_of_ble_eq_true rfl) (fun _ z => met_X1_slope hO S x1 z) (fun r2 hr2 => ?_)
  refine v_isub C dX3_meet_8 ?_
  refine v_i2l C dX3_meet_9 ?_
  refine v_letl (fun y3 hy3 => ?_)
  refine v_lstore C (lv' := [(4, .long y3), (0, .ref x0), (1, .ref x1), (2, .int x2), (3, .ref x3)]) dX3_meet_10 (Nat.le_of_ble_eq_true rfl) rfl ?_
  refine v_aload_n C dX3_meet_12 2 rfl ?_
  refine g_callSN_ri C (As := [.ref x1]) (st := []) lk_X3_79 dX3_meet_13 rfl (Nat.le_of_ble_eq_true rfl) (Nat.le_of_ble_eq_true rfl) (Nat.le_of_ble_eq_true rfl) (fun _ z => met_X1_atFirst hO S x1 z) (fun r4 hr4 => ?_)
  refine v_aload_n C dX3_meet_16 1 rfl ?_
  refine g_callSN_ri C (As := [.ref x0]) (st := [.int r4]) lk_X3_79 dX3_meet_17 rfl (Nat.le_of_ble_eq_true rfl) (Nat.le_of_ble_eq_true rfl) (Nat.le_of_ble_eq_true rfl) (fun _ z => met_X1_atFirst hO S x0 z) (fun r5 hr5 => ?_)
  refine v_isub C dX3_meet_20 ?_
  refine v_i2l C dX3_meet_21 ?_
  refine v_letl (fun y6 hy6 => ?_)
  refine v_lstore C (lv' := [(6, .long y6), (4, .long y3), (0, .ref x0), (1, .ref x1), (2, .int x2), (3, .ref x3)]) dX3_meet_22 (Nat.le_of_ble_eq_true rfl) rfl ?_
  refine v_lload C dX3_meet_24 1 rfl ?_
  refine v_lconst C dX3_meet_26 cl_0 ?_
  refine v_lcmp_le C (tgt := 57) dX3_meet_27 dX3_meet_28 rfl (fun _ => ?_) (fun _ => ?_)
  · refine v_lload C dX3_meet_57 1 rfl ?_
    refine v_lconst C dX3_meet_59 cl_0 ?_
    refine v_lcmp_ge C (tgt := 86) dX3_meet_60 dX3_meet_61 rfl (fun _ => ?_) (fun _ => ?_)
    · exact v_sub [5, 1, 0] rfl (w_X3_meet_86 hO C hm S)
    · refine v_lload C dX3_meet_64 0 rfl ?_
      refine v_lconst C dX3_meet_66 cl_0 ?_
      refine v_lcmp_gt C (tgt := 86) dX3_meet_67 dX3_meet_68 rfl (fun _ => ?_) (fun _ => ?_)
      · exact v_sub [5, 1, 0] rfl (w_X3_meet_86 hO C hm S)
      · refine v_lload C dX3_meet_71 0 rfl ?_
        refine v_iload_n C dX3_meet_73 4 rfl ?_
        refine v_i2l C dX3_meet_74 ?_
        refine v_lload C dX3_meet_75 1 rfl ?_
        refine v_lmul C dX3_meet_77 ?_
        refine v_lcmp_lt C (tgt := 86) dX3_meet_78 dX3_meet_79 rfl (fun _ => ?_) (fun _ => ?_)
        · exact v_sub [5, 1, 0] rfl (w_X3_meet_86 hO C hm S)
        · refine v_iconst C dX3_meet_82 ci_1 ?_
          refine v_goto C (tgt := 87) dX3_meet_83 rfl ?_
          exact v_sub [5, 1, 0] rfl (w_X3_meet_87 hO C hm 1 S)
  · refine v_lload C dX3_meet_31 0 rfl ?_
    refine v_lconst C dX3_meet_33 cl_0 ?_
    refine v_lcmp_lt C (tgt := 53) dX3_meet_34 dX3_meet_35 rfl (fun _ => ?_) (fun _ => ?_)
    · exact v_sub [5, 1, 0] rfl (w_X3_meet_53 hO C hm S)
    · refine v_lload C dX3_meet_38 0 rfl ?_
      refine v_iload_n C dX3_meet_40 4 rfl ?_
      refine v_i2l C dX3_meet_41 ?_
      refine v_lload C dX3_meet_42 1 rfl ?_
      refine v_lmul C dX3_meet_44 ?_
      refine v_lcmp_gt C (tgt := 53) dX3_meet_45 dX3_meet_46 rfl (fun _ => ?_) (fun _ => ?_)
      · exact v_sub [5, 1, 0] rfl (w_X3_meet_53 hO C hm S)
      · refine v_iconst C dX3_meet_49 ci_1 ?_
        refine v_goto C (tgt := 87) dX3_meet_50 rfl ?_
        exact v_sub [5, 1, 0] rfl (w_X3_meet_87 hO C hm 1 S)
theorem mono_X8_init {S : St} {x0 : Nat} {x1 : Int32} {x2 : Int32} {r : St} (h : C_X8_init S x0 x1 x2 = some r) : leG S r := by
  have q : MF mf_s (C_X8_init S x0 x1 x2) S := by
    unfold C_X8_init
    refine mf_put (fun S1 hS1 => ?_)
    refine mf_put (fun S2 hS2 => ?_)
    exact mf_ret leG.rf
  exact q r h
theorem met_X8_init {P : GP} {l : Launch} (hO : okG P) (S : St) (x0 : Nat) (x1 : Int32) (x2 : Int32) {r : St} (h : C_X8_init S x0 x1 x2 = some r) : FM l (OG P) yX8_init (ws_ yX8_init cX8_init 3 none) 1 34 [.ref x0, .int x1, .int x2] S (f_mv r) := by
  refine FM.ofI (own := RX8) (lv := [(0, .ref x0), (1, .int x1), (2, .int x2)]) hO pl_X8 rfl rfl (Nat.le_of_ble_eq_true rfl) rfl h (mono_X8_init h).LE (fun X C hm hin2 => ?_)
  unfold C_X8_init
  refine v_aload_n C dX8_init_0 0 rfl ?_
  refine g_objInit C dX8_init_1 lkO_X8_1 (Nat.le_of_ble_eq_true rfl) (Nat.le_of_ble_eq_true rfl) ?_
  refine v_aload_n C dX8_init_4 0 rfl ?_
  refine v_iload_n C dX8_init_5 1 rfl ?_
  refine g_putFV C hin2 dX8_init_6 cls_7 (Nat.le_of_ble_eq_true rfl) q913 rfl rfl rfl rfl (fun S1 hS1 => ?_)
  refine v_aload_n C dX8_init_9 0 rfl ?_
  refine v_iload_n C dX8_init_10 2 rfl ?_
  refine g_putFV C hin2 dX8_init_11 cls_7 (Nat.le_of_ble_eq_true rfl) q915 rfl rfl rfl rfl (fun S2 hS2 => ?_)
  exact v_vreturn C hm dX8_init_14 rfl
theorem o_X3_layEdge_185 {F : Nat} {x0 : Nat} {x1 : Int32} {x2 : Nat} {x3 : Nat} {x4 : Nat} {x5 : Int32} (k145 : Int32 → St → Option St) (hk145 : ∀ (z5 : Int32) (τ : St), MF mf_s (k145 z5 τ) τ) (S : St) : MF mf_s (C_X3_layEdge_185 F k145 x0 x1 x2 x3 x4 x5 S) S := by
  unfold C_X3_layEdge_185
  refine mf_bind (fun y60 hy60 => ?_)
  exact (hk145 y60 S)
theorem o_X3_layEdge_155 {F : Nat} {x0 : Nat} {x1 : Int32} {x2 : Nat} {x3 : Nat} {x4 : Nat} {x5 : Int32} (k145 : Int32 → St → Option St) (hk145 : ∀ (z5 : Int32) (τ : St), MF mf_s (k145 z5 τ) τ) : ∀ (n : Nat) (x6 : Int32) (S : St), MF mf_s (C_X3_layEdge_155 F k145 x0 x1 x2 x3 x4 x5 n x6 S) S := by
  intro n
  induction n with
  | zero => intro x6 S; exact mf_none
  | succ n ih =>
    intro x6 S
    unfold C_X3_layEdge_155
    refine mf_ite ?_ ?_
    · exact (o_X3_layEdge_185 k145 hk145 S)
    · refine mf_bind (fun y34 hy34 => ?_)
      refine mf_bind (fun y35 hy35 => ?_)
      refine mf_bind (fun y36 hy36 => ?_)
      refine mf_callv (fun _ z => mono_X3_meet z) (fun r37 hr37 => ?_)
      refine mf_bind (fun y38 hy38 => ?_)
      exact (ih y38 r37)
theorem o_X3_layEdge_268 {F : Nat} {x0 : Nat} {x1 : Int32} {x4 : Nat} {x5 : Int32} (k194 : Int32 → St → Option St) (hk194 : ∀ (z5 : Int32) (τ : St), MF mf_s (k194 z5 τ) τ) (S : St) : MF mf_s (C_X3_layEdge_268 F k194 x0 x1 x4 x5 S) S := by
  unfold C_X3_layEdge_268
  refine mf_bind (fun y61 hy61 => ?_)
  exact (hk194 y61 S)
theorem o_X3_layEdge_194 {F : Nat} {x0 : Nat} {x1 : Int32} {x4 : Nat}  : ∀ (n : Nat) (x5 : Int32) (S : St), MF mf_s (C_X3_layEdge_194 F x0 x1 x4 n x5 S) S := by
  intro n
  induction n with
  | zero => intro x5 S; exact mf_none
  | succ n ih =>
    intro x5 S
    unfold C_X3_layEdge_194
    refine mf_bind (fun y39 hy39 => ?_)
    refine mf_bind (fun y40 hy40 => ?_)
    refine mf_bind (fun y41 hy41 => ?_)
    refine mf_ite ?_ ?_
    · exact mf_ret leG.rf
    · refine mf_bind (fun y42 hy42 => ?_)
      refine mf_bind (fun y43 hy43 => ?_)
      refine mf_bind (fun y44 hy44 => ?_)
      refine mf_bind (fun y45 hy45 => ?_)
      refine mf_ite ?_ ?_
      · refine mf_bind (fun y46 hy46 => ?_)
        refine mf_bind (fun y47 hy47 => ?_)
        refine mf_bind (fun y48 hy48 => ?_)
        refine mf_bind (fun y49 hy49 => ?_)
        refine mf_bind (fun t50 ht50 => ?_)
        refine mf_bind (fun y51 hy51 => ?_)
        refine mf_callv (fun _ z => mono_X3_lambda_layEdge_0 z) (fun r52 hr52 => ?_)
        refine mf_bind (fun y53 hy53 => ?_)
        refine mf_bind (fun y54 hy54 => ?_)
        refine mf_bind (fun y55 hy55 => ?_)
        refine mf_bind (fun y56 hy56 => ?_)
        refine mf_bind (fun t57 ht57 => ?_)
        refine mf_bind (fun y58 hy58 => ?_)
        refine mf_callv (fun _ z => mono_X3_lambda_layEdge_0 z) (fun r59 hr59 => ?_)
        exact (o_X3_layEdge_268 (C_X3_layEdge_194 F x0 x1 x4 n) ih r59)
      · exact (o_X3_layEdge_268 (C_X3_layEdge_194 F x0 x1 x4 n) ih S)
theorem o_X3_layEdge_191 {F : Nat} {x0 : Nat} {x1 : Int32} {x4 : Nat}  (S : St) : MF mf_s (C_X3_layEdge_191 F x0 x1 x4 S) S := by
  unfold C_X3_layEdge_191
  exact (o_X3_layEdge_194 F 0 S)
theorem o_X3_layEdge_145 {F : Nat} {x0 : Nat} {x1 : Int32} {x2 : Nat} {x3 : Nat} {x4 : Nat}  : ∀ (n : Nat) (x5 : Int32) (S : St), MF mf_s (C_X3_layEdge_145 F x0 x1 x2 x3 x4 n x5 S) S := by
  intro n
  induction n with
  | zero => intro x5 S; exact mf_none
  | succ n ih =>
    intro x5 S
    unfold C_X3_layEdge_145
    refine mf_bind (fun y33 hy33 => ?_)
    refine mf_ite ?_ ?_
    · exact (o_X3_layEdge_191 S)
    · exact (o_X3_layEdge_155 (C_X3_layEdge_145 F x0 x1 x2 x3 x4 n) ih F 0 S)
theorem o_X3_layEdge_111 {F : Nat} {x0 : Nat} {x1 : Int32} {x2 : Nat} {x3 : Nat}  (S : St) : MF mf_s (C_X3_layEdge_111 F x0 x1 x2 x3 S) S := by
  unfold C_X3_layEdge_111
  refine mf_new (fun r25 hr25 => ?_)
  refine mf_bind (fun t26 ht26 => ?_)
  refine mf_bind (fun y27 hy27 => ?_)
  refine mf_callv (fun _ z => mono_X3_lambda_layEdge_0 z) (fun r28 hr28 => ?_)
  refine mf_bind (fun y29 hy29 => ?_)
  refine mf_bind (fun t30 ht30 => ?_)
  refine mf_bind (fun y31 hy31 => ?_)
  refine mf_callv (fun _ z => mono_X3_lambda_layEdge_0 z) (fun r32 hr32 => ?_)
  exact (o_X3_layEdge_145 F 0 r32)
theorem o_X3_layEdge_23 {F : Nat} {x0 : Nat} {x1 : Int32} {x2 : Nat} {x3 : Nat}  : ∀ (n : Nat) (x4 : Int32) (S : St), MF mf_s (C_X3_layEdge_23 F x0 x1 x2 x3 n x4 S) S := by
  intro n
  induction n with
  | zero => intro x4 S; exact mf_none
  | succ n ih =>
    intro x4 S
    unfold C_X3_layEdge_23
    refine mf_bind (fun y6 hy6 => ?_)
    refine mf_ite ?_ ?_
    · exact (o_X3_layEdge_111 S)
    · refine mf_new (fun r7 hr7 => ?_)
      refine mf_bind (fun y8 hy8 => ?_)
      refine mf_bind (fun y9 hy9 => ?_)
      refine mf_bind (fun y10 hy10 => ?_)
      refine mf_bind (fun y11 hy11 => ?_)
      refine mf_bind (fun r12 hr12 => ?_)
      refine mf_callv (fun _ z => mono_X8_init z) (fun r13 hr13 => ?_)
      refine mf_tA (fun S14 hS14 => ?_)
      refine mf_new (fun r15 hr15 => ?_)
      refine mf_bind (fun y16 hy16 => ?_)
      refine mf_bind (fun y17 hy17 => ?_)
      refine mf_bind (fun y18 hy18 => ?_)
      refine mf_bind (fun y19 hy19 => ?_)
      refine mf_bind (fun r20 hr20 => ?_)
      refine mf_bind (fun y21 hy21 => ?_)
      refine mf_callv (fun _ z => mono_X9_init z) (fun r22 hr22 => ?_)
      refine mf_tA (fun S23 hS23 => ?_)
      refine mf_bind (fun y24 hy24 => ?_)
      exact (ih y24 S23)
theorem mono_X3_layEdge {F : Nat} {S : St} {x0 : Nat} {x1 : Int32} {r : St} (h : C_X3_layEdge F S x0 x1 = some r) : leG S r := by
  have q : MF mf_s (C_X3_layEdge F S x0 x1) S := by
    unfold C_X3_layEdge
    refine mf_bind (fun _ _ => ?_)
    refine mf_bind (fun y1 hy1 => ?_)
    refine mf_bind (fun y2 hy2 => ?_)
    refine mf_bind (fun y3 hy3 => ?_)
    refine mf_bind (fun y4 hy4 => ?_)
    refine mf_nQ_ (fun r5 hr5 => ?_)
    exact (o_X3_layEdge_23 F 0 r5.2)
  exact q r h
theorem w_X3_layEdge_185 {P : GP} {X : Ctx} {l : Launch} {S0 : St} {F : Nat} (hO : okG P) (C : CX (OG P) X l cX3_layEdge 7 RX3 none) (hm : X.2.2.2.2.2.2.2.2.2 = none) (hn : X.2.2.2.1.methodNamed? yX3_layEdge = some X.2.2.2.2.1) {x0 : Nat} {x1 : Int32} {x2 : Nat} {x3 : Nat} {x4 : Nat} {x5 : Int32} (k145 : Int32 → St → Option St) (hk145 : ∀ (z5 : Int32) (τ : St), VF (OG P) X 7 45 3090 S0 f_mv (k145 z5 τ) τ 145 [(0, .ref x0), (1, .int x1), (2, .ref x2), (3, .ref x3), (4, .ref x4), (5, .int z5)] []) (S : St) : VF (OG P) X 7 45 3090 S0 f_mv (C_X3_layEdge_185 F k145 x0 x1 x2 x3 x4 x5 S) S 185 [(0, .ref x0), (1, .int x1), (2, .ref x2), (3, .ref x3), (4, .ref x4), (5, .int x5)] [] := by
  unfold C_X3_layEdge_185
  refine v_iincN C (lv' := fun y60 => [(5, .int y60), (0, .ref x0), (1, .int x1), (2, .ref x2), (3, .ref x3), (4, .ref x4)]) dX3_layEdge_185 5 rfl ci_1 (Nat.le_of_ble_eq_true rfl) (fun _ => rfl) (fun y60 hy60 => ?_)
  refine v_goto C (tgt := 145) dX3_layEdge_188 rfl ?_
  exact v_sub [1, 2, 3, 4, 5, 0] rfl (hk145 y60 S)
theorem w_X3_layEdge_155 {P : GP} {X : Ctx} {l : Launch} {S0 : St} {F : Nat} (hO : okG P) (C : CX (OG P) X l cX3_layEdge 7 RX3 none) (hm : X.2.2.2.2.2.2.2.2.2 = none) (hn : X.2.2.2.1.methodNamed? yX3_layEdge = some X.2.2.2.2.1) {x0 : Nat} {x1 : Int32} {x2 : Nat} {x3 : Nat} {x4 : Nat} {x5 : Int32} (k145 : Int32 → St → Option St) (hk145 : ∀ (z5 : Int32) (τ : St), VF (OG P) X 7 45 3090 S0 f_mv (k145 z5 τ) τ 145 [(0, .ref x0), (1, .int x1), (2, .ref x2), (3, .ref x3), (4, .ref x4), (5, .int z5)] []) : ∀ (n : Nat) (x6 : Int32) (S : St), VF (OG P) X 7 45 3090 S0 f_mv (C_X3_layEdge_155 F k145 x0 x1 x2 x3 x4 x5 n x6 S) S 155 [(0, .ref x0), (1, .int x1), (2, .ref x2), (3, .ref x3), (4, .ref x4), (5, .int x5), (6, .int x6)] [] := by
  intro n
  induction n with
  | zero => intro x6 S; exact VF.none
  | succ n ih =>
    intro x6 S
    unfold C_X3_layEdge_155
    refine v_iload C dX3_layEdge_155 6 rfl ?_
    refine v_iload C dX3_layEdge_157 5 rfl ?_
    refine v_icmp_ge C (tgt := 185) dX3_layEdge_159 rfl (fun _ => ?_) (fun _ => ?_)
    · exact v_sub [0, 1, 2, 3, 4, 5] rfl (w_X3_layEdge_185 hO C hm hn k145 hk145 S)
    · refine v_aload_n C dX3_layEdge_162 3 rfl ?_
      refine v_iload C dX3_layEdge_163 5 rfl ?_
      refine g_aalA5 C dX3_layEdge_165 (fun y34 hy34 => ?_)
      refine v_aload_n C dX3_layEdge_166 3 rfl ?_
      refine v_iload C dX3_layEdge_167 6 rfl ?_
      refine g_aalA5 C dX3_layEdge_169 (fun y35 hy35 => ?_)
      refine v_aload_n C dX3_layEdge_170 2 rfl ?_
      refine g_getI C dX3_layEdge_171 cls_4 (Nat.le_of_ble_eq_true rfl) fl_X3_42 fs_X3_42 (fun y36 hy36 => ?_)
      refine v_aload C dX3_layEdge_174 4 rfl ?_
      refine v_callS_mv C (As := [.ref y34, .ref y35, .int y36, .ref x4]) (st := []) lk_X3_140 dX3_layEdge_176 rfl (Nat.le_of_ble_eq_true rfl) (Nat.le_of_ble_eq_true rfl) (Nat.le_of_ble_eq_true rfl) (fun _ z => met_X3_meet hO F S y34 y35 y36 x4 z) (fun r37 hr37 => ?_)
      refine v_iincN C (lv' := fun y38 => [(6, .int y38), (0, .ref x0), (1, .int x1), (2, .ref x2), (3, .ref x3), (4, .ref x4), (5, .int x5)]) dX3_layEdge_179 6 rfl ci_1 (Nat.le_of_ble_eq_true rfl) (fun _ => rfl) (fun y38 hy38 => ?_)
      refine v_goto C (tgt := 155) dX3_layEdge_182 rfl ?_
      exact v_sub [1, 2, 3, 4, 5, 6, 0] rfl (ih y38 r37)
theorem w_X3_layEdge_268 {P : GP} {X : Ctx} {l : Launch} {S0 : St} {F : Nat} (hO : okG P) (C : CX (OG P) X l cX3_layEdge 7 RX3 none) (hm : X.2.2.2.2.2.2.2.2.2 = none) (hn : X.2.2.2.1.methodNamed? yX3_layEdge = some X.2.2.2.2.1) {x0 : Nat} {x1 : Int32} {x4 : Nat} {x5 : Int32} (k194 : Int32 → St → Option St) (hk194 : ∀ (z5 : Int32) (τ : St), VF (OG P) X 7 45 3090 S0 f_mv (k194 z5 τ) τ 194 [(0, .ref x0), (1, .int x1), (4, .ref x4), (5, .int z5)] []) (S : St) : VF (OG P) X 7 45 3090 S0 f_mv (C_X3_layEdge_268 F k194 x0 x1 x4 x5 S) S 268 [(0, .ref x0), (1, .int x1), (4, .ref x4), (5, .int x5)] [] := by
  unfold C_X3_layEdge_268
  refine v_iincN C (lv' := fun y61 => [(5, .int y61), (0, .ref x0), (1, .int x1), (4, .ref x4)]) dX3_layEdge_268 3 rfl ci_1 (Nat.le_of_ble_eq_true rfl) (fun _ => rfl) (fun y61 hy61 => ?_)
  refine v_goto C (tgt := 194) dX3_layEdge_271 rfl ?_
  exact v_sub [1, 2, 3, 0] rfl (hk194 y61 S)
theorem w_X3_layEdge_194 {P : GP} {X : Ctx} {l : Launch} {S0 : St} {F : Nat} (hO : okG P) (C : CX (OG P) X l cX3_layEdge 7 RX3 none) (hm : X.2.2.2.2.2.2.2.2.2 = none) (hn : X.2.2.2.1.methodNamed? yX3_layEdge = some X.2.2.2.2.1) {x0 : Nat} {x1 : Int32} {x4 : Nat}  : ∀ (n : Nat) (x5 : Int32) (S : St), VF (OG P) X 7 45 3090 S0 f_mv (C_X3_layEdge_194 F x0 x1 x4 n x5 S) S 194 [(0, .ref x0), (1, .int x1), (4, .ref x4), (5, .int x5)] [] := by
  intro n
  induction n with
  | zero => intro x5 S; exact VF.none
  | succ n ih =>
    intro x5 S
    unfold C_X3_layEdge_194
    refine v_iload C dX3_layEdge_194 3 rfl ?_
    refine v_aload_n C dX3_layEdge_196 0 rfl ?_
    refine g_getA C dX3_layEdge_197 cls_3 (Nat.le_of_ble_eq_true rfl) fl_X3_9 fs_X3_9 (fun y39 hy39 => ?_)
    refine g_getA C dX3_layEdge_200 cls_2 (Nat.le_of_ble_eq_true rfl) fl_X3_144 fs_X3_144 (fun y40 hy40 => ?_)
    refine g_alen (kd := 4) (fun _ => rfl) C dX3_layEdge_203 (fun y41 hy41 => ?_)
    refine v_icmp_ge C (tgt := 274) dX3_layEdge_204 rfl (fun _ => ?_) (fun _ => ?_)
    · exact v_vreturn C hm dX3_layEdge_274 rfl
    · refine v_aload_n C dX3_layEdge_207 0 rfl ?_
      refine g_getA C dX3_layEdge_208 cls_3 (Nat.le_of_ble_eq_true rfl) fl_X3_9 fs_X3_9 (fun y42 hy42 => ?_)
      refine g_getA C dX3_layEdge_211 cls_2 (Nat.le_of_ble_eq_true rfl) fl_X3_144 fs_X3_144 (fun y43 hy43 => ?_)
      refine v_iload C dX3_layEdge_214 3 rfl ?_
      refine g_aalA4 C dX3_layEdge_216 (fun y44 hy44 => ?_)
      refine g_getI C dX3_layEdge_217 cls_5 (Nat.le_of_ble_eq_true rfl) fl_X3_148 fs_X3_148 (fun y45 hy45 => ?_)
      refine v_iload_n C dX3_layEdge_220 1 rfl ?_
      refine v_icmp_ne C (tgt := 268) dX3_layEdge_221 rfl (fun _ => ?_) (fun _ => ?_)
      · refine v_aload C dX3_layEdge_224 2 rfl ?_
        refine v_aload_n C dX3_layEdge_226 0 rfl ?_
        refine g_getA C dX3_layEdge_227 cls_3 (Nat.le_of_ble_eq_true rfl) fl_X3_9 fs_X3_9 (fun y46 hy46 => ?_)
        refine g_getA C dX3_layEdge_230 cls_2 (Nat.le_of_ble_eq_true rfl) fl_X3_144 fs_X3_144 (fun y47 hy47 => ?_)
        refine v_iload C dX3_layEdge_233 3 rfl ?_
        refine g_aalA4 C dX3_layEdge_235 (fun y48 hy48 => ?_)
        refine g_getI C dX3_layEdge_236 cls_5 (Nat.le_of_ble_eq_true rfl) fl_X3_153 fs_X3_153 (fun y49 hy49 => ?_)
        refine v_i2l C dX3_layEdge_239 ?_
        refine v_lconst C dX3_layEdge_240 cl_1 ?_
        refine g_take (st := []) hO C dX3_layEdge_241 (Nat.le_of_ble_eq_true rfl) (Nat.le_of_ble_eq_true rfl) (Nat.le_of_ble_eq_true rfl) (fun _ _ _ z => rc_X3_lambda_layEdge_0 z) (fun th kk _ z => met_X3_lambda_layEdge_0 hO F S th kk (((y49) : Int32).toInt64) 1 z) (fun t50 y51 r52 => ?_)
        refine v_aload C dX3_layEdge_246 2 rfl ?_
        refine v_aload_n C dX3_layEdge_248 0 rfl ?_
        refine g_getA C dX3_layEdge_249 cls_3 (Nat.le_of_ble_eq_true rfl) fl_X3_9 fs_X3_9 (fun y53 hy53 => ?_)
        refine g_getA C dX3_layEdge_252 cls_2 (Nat.le_of_ble_eq_true rfl) fl_X3_144 fs_X3_144 (fun y54 hy54 => ?_)
        refine v_iload C dX3_layEdge_255 3 rfl ?_
        refine g_aalA4 C dX3_layEdge_257 (fun y55 hy55 => ?_)
        refine g_getI C dX3_layEdge_258 cls_5 (Nat.le_of_ble_eq_true rfl) fl_X3_154 fs_X3_154 (fun y56 hy56 => ?_)
        refine v_i2l C dX3_layEdge_261 ?_
        refine v_lconst C dX3_layEdge_262 cl_1 ?_
        refine g_take (st := []) hO C dX3_layEdge_263 (Nat.le_of_ble_eq_true rfl) (Nat.le_of_ble_eq_true rfl) (Nat.le_of_ble_eq_true rfl) (fun _ _ _ z => rc_X3_lambda_layEdge_0 z) (fun th kk _ z => met_X3_lambda_layEdge_0 hO F r52 th kk (((y56) : Int32).toInt64) 1 z) (fun t57 y58 r59 => ?_)
        exact v_sub [0, 1, 2, 3] rfl (w_X3_layEdge_268 hO C hm hn (C_X3_layEdge_194 F x0 x1 x4 n) ih r59)
      · exact v_sub [0, 1, 2, 3] rfl (w_X3_layEdge_268 hO C hm hn (C_X3_layEdge_194 F x0 x1 x4 n) ih S)
theorem w_X3_layEdge_191 {P : GP} {X : Ctx} {l : Launch} {S0 : St} {F : Nat} (hO : okG P) (C : CX (OG P) X l cX3_layEdge 7 RX3 none) (hm : X.2.2.2.2.2.2.2.2.2 = none) (hn : X.2.2.2.1.methodNamed? yX3_layEdge = some X.2.2.2.2.1) {x0 : Nat} {x1 : Int32} {x4 : Nat}  (S : St) : VF (OG P) X 7 45 3090 S0 f_mv (C_X3_layEdge_191 F x0 x1 x4 S) S 191 [(0, .ref x0), (1, .int x1), (4, .ref x4)] [] := by
  unfold C_X3_layEdge_191
  refine v_iconst C dX3_layEdge_191 ci_0 ?_
  refine v_istore C (lv' := [(5, .int 0), (0, .ref x0), (1, .int x1), (4, .ref x4)]) dX3_layEdge_192 (Nat.le_of_ble_eq_true rfl) rfl ?_
  exact v_sub [1, 2, 3, 0] rfl (w_X3_layEdge_194 hO C hm hn F 0 S)
theorem w_X3_layEdge_145 {P : GP} {X : Ctx} {l : Launch} {S0 : St} {F : Nat} (hO : okG P) (C : CX (OG P) X l cX3_layEdge 7 RX3 none) (hm : X.2.2.2.2.2.2.2.2.2 = none) (hn : X.2.2.2.1.methodNamed? yX3_layEdge = some X.2.2.2.2.1) {x0 : Nat} {x1 : Int32} {x2 : Nat} {x3 : Nat} {x4 : Nat}  : ∀ (n : Nat) (x5 : Int32) (S : St), VF (OG P) X 7 45 3090 S0 f_mv (C_X3_layEdge_145 F x0 x1 x2 x3 x4 n x5 S) S 145 [(0, .ref x0), (1, .int x1), (2, .ref x2), (3, .ref x3), (4, .ref x4), (5, .int x5)] [] := by
  intro n
  induction n with
  | zero => intro x5 S; exact VF.none
  | succ n ih =>
    intro x5 S
    unfold C_X3_layEdge_145
    refine v_iload C dX3_layEdge_145 5 rfl ?_
    refine v_aload_n C dX3_layEdge_147 3 rfl ?_
    refine g_alen (kd := 5) (fun _ => rfl) C dX3_layEdge_148 (fun y33 hy33 => ?_)
    refine v_icmp_ge C (tgt := 191) dX3_layEdge_149 rfl (fun _ => ?_) (fun _ => ?_)
    · exact v_sub [0, 1, 4] rfl (w_X3_layEdge_191 hO C hm hn S)
    · refine v_iconst C dX3_layEdge_152 ci_0 ?_
      refine v_istore C (lv' := [(6, .int 0), (0, .ref x0), (1, .int x1), (2, .ref x2), (3, .ref x3), (4, .ref x4), (5, .int x5)]) dX3_layEdge_153 (Nat.le_of_ble_eq_true rfl) rfl ?_
      exact v_sub [1, 2, 3, 4, 5, 6, 0] rfl (w_X3_layEdge_155 hO C hm hn (C_X3_layEdge_145 F x0 x1 x2 x3 x4 n) ih F 0 S)
theorem w_X3_layEdge_111 {P : GP} {X : Ctx} {l : Launch} {S0 : St} {F : Nat} (hO : okG P) (C : CX (OG P) X l cX3_layEdge 7 RX3 none) (hm : X.2.2.2.2.2.2.2.2.2 = none) (hn : X.2.2.2.1.methodNamed? yX3_layEdge = some X.2.2.2.2.1) {x0 : Nat} {x1 : Int32} {x2 : Nat} {x3 : Nat}  (S : St) : VF (OG P) X 7 45 3090 S0 f_mv (C_X3_layEdge_111 F x0 x1 x2 x3 S) S 111 [(0, .ref x0), (1, .int x1), (2, .ref x2), (3, .ref x3)] [] := by
  unfold C_X3_layEdge_111
  refine v_aload_n C dX3_layEdge_111 0 rfl ?_
  refine v_iload_n C dX3_layEdge_112 1 rfl ?_
  refine g_indy (st := []) hO C hn (Nat.le_of_ble_eq_true rfl) (Nat.le_of_ble_eq_true rfl) (fun r25 hr25 => ?_)
  refine v_astore C (lv' := [(4, .ref (r25.1)), (0, .ref x0), (1, .int x1), (2, .ref x2), (3, .ref x3)]) dX3_layEdge_118 (Nat.le_of_ble_eq_true rfl) rfl ?_
  refine v_aload C dX3_layEdge_120 0 rfl ?_
  refine v_lconst C dX3_layEdge_122 cl_0 ?_
  refine v_lconst C dX3_layEdge_123 cl_1 ?_
  refine g_take (st := []) hO C dX3_layEdge_124 (Nat.le_of_ble_eq_true rfl) (Nat.le_of_ble_eq_true rfl) (Nat.le_of_ble_eq_true rfl) (fun _ _ _ z => rc_X3_lambda_layEdge_0 z) (fun th kk _ z => met_X3_lambda_layEdge_0 hO F r25.2 th kk 0 1 z) (fun t26 y27 r28 => ?_)
  refine v_aload C dX3_layEdge_129 0 rfl ?_
  refine v_aload_n C dX3_layEdge_131 3 rfl ?_
  refine g_getI C dX3_layEdge_132 cls_4 (Nat.le_of_ble_eq_true rfl) fl_X3_42 fs_X3_42 (fun y29 hy29 => ?_)
  refine v_i2l C dX3_layEdge_135 ?_
  refine v_lconst C dX3_layEdge_136 cl_1 ?_
  refine g_take (st := []) hO C dX3_layEdge_137 (Nat.le_of_ble_eq_true rfl) (Nat.le_of_ble_eq_true rfl) (Nat.le_of_ble_eq_true rfl) (fun _ _ _ z => rc_X3_lambda_layEdge_0 z) (fun th kk _ z => met_X3_lambda_layEdge_0 hO F r28 th kk (((y29) : Int32).toInt64) 1 z) (fun t30 y31 r32 => ?_)
  refine v_iconst C dX3_layEdge_142 ci_0 ?_
  refine v_istore C (lv' := [(5, .int 0), (4, .ref (r25.1)), (0, .ref x0), (1, .int x1), (2, .ref x2), (3, .ref x3)]) dX3_layEdge_143 (Nat.le_of_ble_eq_true rfl) rfl ?_
  exact v_sub [2, 3, 4, 5, 1, 0] rfl (w_X3_layEdge_145 hO C hm hn F 0 r32)
theorem w_X3_layEdge_23 {P : GP} {X : Ctx} {l : Launch} {S0 : St} {F : Nat} (hO : okG P) (C : CX (OG P) X l cX3_layEdge 7 RX3 none) (hm : X.2.2.2.2.2.2.2.2.2 = none) (hn : X.2.2.2.1.methodNamed? yX3_layEdge = some X.2.2.2.2.1) {x0 : Nat} {x1 : Int32} {x2 : Nat} {x3 : Nat}  : ∀ (n : Nat) (x4 : Int32) (S : St), VF (OG P) X 7 45 3090 S0 f_mv (C_X3_layEdge_23 F x0 x1 x2 x3 n x4 S) S 23 [(0, .ref x0), (1, .int x1), (2, .ref x2), (3, .ref x3), (4, .int x4)] [] := by
  intro n
  induction n with
  | zero => intro x4 S; exact VF.none
  | succ n ih =>
    intro x4 S
    unfold C_X3_layEdge_23
    refine v_iload C dX3_layEdge_23 4 rfl ?_
    refine v_aload_n C dX3_layEdge_25 0 rfl ?_
    refine g_getI C dX3_layEdge_26 cls_3 (Nat.le_of_ble_eq_true rfl) fl_X3_21 fs_X3_21 (fun y6 hy6 => ?_)
    refine v_icmp_ge C (tgt := 111) dX3_layEdge_29 rfl (fun _ => ?_) (fun _ => ?_)
    · exact v_sub [0, 1, 2, 3] rfl (w_X3_layEdge_111 hO C hm hn S)
    · refine v_aload_n C dX3_layEdge_32 3 rfl ?_
      refine v_iconst C dX3_layEdge_33 ci_2 ?_
      refine v_iload C dX3_layEdge_34 4 rfl ?_
      refine v_imul C dX3_layEdge_36 ?_
      refine g_new C dX3_layEdge_37 cls_7 q907 q908 q142 dfok_7 (fun r7 hr7 => ?_)
      refine v_dup C dX3_layEdge_40 rfl ?_
      refine v_aload_n C dX3_layEdge_41 0 rfl ?_
      refine g_getA C dX3_layEdge_42 cls_3 (Nat.le_of_ble_eq_true rfl) fl_X3_9 fs_X3_9 (fun y8 hy8 => ?_)
      refine g_getA C dX3_layEdge_45 cls_2 (Nat.le_of_ble_eq_true rfl) fl_X3_65 fs_X3_65 (fun y9 hy9 => ?_)
      refine v_iload C dX3_layEdge_48 4 rfl ?_
      refine g_ial C dX3_layEdge_50 (fun y10 hy10 => ?_)
      refine v_aload_n C dX3_layEdge_51 0 rfl ?_
      refine v_iload C dX3_layEdge_52 4 rfl ?_
      refine v_aload_n C dX3_layEdge_54 2 rfl ?_
      refine g_getI C dX3_layEdge_55 cls_4 (Nat.le_of_ble_eq_true rfl) fl_X3_34 fs_X3_34 (fun y11 hy11 => ?_)
      refine g_callV_ri C (As := [.int x4, .int y11]) (st := [.int y10, .ref (r7.1), .ref (r7.1), .int (2 * x4), .ref x3]) lk_X3_45 dX3_layEdge_58 rfl (Nat.le_of_ble_eq_true rfl) (Nat.le_of_ble_eq_true rfl) (Nat.le_of_ble_eq_true rfl) cls_3.1 rfl (fun _ z => rc_X3_distance z) (fun _ z => met_X3_distance hO r7.2 x0 x4 y11 z) (fun r12 hr12 => ?_)
      refine v_callI_mv C (As := [.int y10, .int r12]) (st := [.ref (r7.1), .int (2 * x4), .ref x3]) lk_X3_131 dX3_layEdge_61 rfl (Nat.le_of_ble_eq_true rfl) (Nat.le_of_ble_eq_true rfl) (Nat.le_of_ble_eq_true rfl) (fun _ z => met_X8_init hO r7.2 (r7.1) y10 r12 z) (fun r13 hr13 => ?_)
      refine g_aas C dX3_layEdge_64 (fun _ => rfl) rfl (Or.inr q2568) (fun S14 hS14 => ?_)
      refine v_aload_n C dX3_layEdge_65 3 rfl ?_
      refine v_iconst C dX3_layEdge_66 ci_2 ?_
      refine v_iload C dX3_layEdge_67 4 rfl ?_
      refine v_imul C dX3_layEdge_69 ?_
      refine v_iconst C dX3_layEdge_70 ci_1 ?_
      refine v_iadd C dX3_layEdge_71 ?_
      refine g_new C dX3_layEdge_72 cls_8 q922 q923 q143 dfok_8 (fun r15 hr15 => ?_)
      refine v_dup C dX3_layEdge_75 rfl ?_
      refine v_aload_n C dX3_layEdge_76 0 rfl ?_
      refine g_getA C dX3_layEdge_77 cls_3 (Nat.le_of_ble_eq_true rfl) fl_X3_9 fs_X3_9 (fun y16 hy16 => ?_)
      refine g_getA C dX3_layEdge_80 cls_2 (Nat.le_of_ble_eq_true rfl) fl_X3_65 fs_X3_65 (fun y17 hy17 => ?_)
      refine v_iload C dX3_layEdge_83 4 rfl ?_
      refine g_ial C dX3_layEdge_85 (fun y18 hy18 => ?_)
      refine v_aload_n C dX3_layEdge_86 0 rfl ?_
      refine v_iload C dX3_layEdge_87 4 rfl ?_
      refine v_aload_n C dX3_layEdge_89 2 rfl ?_
      refine g_getI C dX3_layEdge_90 cls_4 (Nat.le_of_ble_eq_true rfl) fl_X3_39 fs_X3_39 (fun y19 hy19 => ?_)
      refine g_callV_ri C (As := [.int x4, .int y19]) (st := [.int y18, .ref (r15.1), .ref (r15.1), .int ((2 * x4) + 1), .ref x3]) lk_X3_45 dX3_layEdge_93 rfl (Nat.le_of_ble_eq_true rfl) (Nat.le_of_ble_eq_true rfl) (Nat.le_of_ble_eq_true rfl) cls_3.1 rfl (fun _ z => rc_X3_distance z) (fun _ z => met_X3_distance hO r15.2 x0 x4 y19 z) (fun r20 hr20 => ?_)
      refine v_aload_n C dX3_layEdge_96 2 rfl ?_
      refine g_getI C dX3_layEdge_97 cls_4 (Nat.le_of_ble_eq_true rfl) fl_X3_42 fs_X3_42 (fun y21 hy21 => ?_)
      refine v_iadd C dX3_layEdge_100 ?_
      refine v_callI_mv C (As := [.int y18, .int (r20 + y21)]) (st := [.ref (r15.1), .int ((2 * x4) + 1), .ref x3]) lk_X3_136 dX3_layEdge_101 rfl (Nat.le_of_ble_eq_true rfl) (Nat.le_of_ble_eq_true rfl) (Nat.le_of_ble_eq_true rfl) (fun _ z => met_X9_init hO r15.2 (r15.1) y18 (r20 + y21) z) (fun r22 hr22 => ?_)
      refine g_aas C dX3_layEdge_104 (fun _ => rfl) rfl (Or.inr q2569) (fun S23 hS23 => ?_)
      refine v_iincN C (lv' := fun y24 => [(4, .int y24), (0, .ref x0), (1, .int x1), (2, .ref x2), (3, .ref x3)]) dX3_layEdge_105 4 rfl ci_1 (Nat.le_of_ble_eq_true rfl) (fun _ => rfl) (fun y24 hy24 => ?_)
      refine v_goto C (tgt := 23) dX3_layEdge_108 rfl ?_
      exact v_sub [1, 2, 3, 4, 0] rfl (ih y24 S23)
theorem met_X3_layEdge {P : GP} {l : Launch} (hO : okG P) (F : Nat) (S : St) (x0 : Nat) (x1 : Int32) {r : St} (h : C_X3_layEdge F S x0 x1 = some r) : FM l (OG P) yX3_layEdge (ws_ yX3_layEdge cX3_layEdge 7 none) 45 3090 [.ref x0, .int x1] S (f_mv r) := by
  refine FM.ofN (own := RX3) (lv := [(0, .ref x0), (1, .int x1)]) hO pl_X3 rfl (Nat.le_of_ble_eq_true rfl) rfl h (mono_X3_layEdge h).LE (fun X C hm hn => ?_)
  unfold C_X3_layEdge
  refine VF.bind (fun _ _ => ?_)
  refine v_aload_n C dX3_layEdge_0 0 rfl ?_
  refine g_getA C dX3_layEdge_1 cls_3 (Nat.le_of_ble_eq_true rfl) fl_X3_9 fs_X3_9 (fun y1 hy1 => ?_)
  refine g_getA C dX3_layEdge_4 cls_2 (Nat.le_of_ble_eq_true rfl) fl_X3_30 fs_X3_30 (fun y2 hy2 => ?_)
  refine v_iload_n C dX3_layEdge_7 1 rfl ?_
  refine g_aalA3 C dX3_layEdge_8 (fun y3 hy3 => ?_)
  refine v_astore_n C (lv' := [(2, .ref y3), (0, .ref x0), (1, .int x1)]) dX3_layEdge_9 (Nat.le_of_ble_eq_true rfl) rfl ?_
  refine v_iconst C dX3_layEdge_10 ci_2 ?_
  refine v_aload_n C dX3_layEdge_11 1 rfl ?_
  refine g_getI C dX3_layEdge_12 cls_3 (Nat.le_of_ble_eq_true rfl) fl_X3_21 fs_X3_21 (fun y4 hy4 => ?_)
  refine v_imul C dX3_layEdge_15 ?_
  refine g_naQ5 C dX3_layEdge_16 q905 (fun r5 hr5 => ?_)
  refine v_astore_n C (lv' := [(3, .ref (r5.1)), (2, .ref y3), (0, .ref x0), (1, .int x1)]) dX3_layEdge_19 (Nat.le_of_ble_eq_true rfl) rfl ?_
  refine v_iconst C dX3_layEdge_20 ci_0 ?_
  refine v_istore C (lv' := [(4, .int 0), (3, .ref (r5.1)), (2, .ref y3), (0, .ref x0), (1, .int x1)]) dX3_layEdge_21 (Nat.le_of_ble_eq_true rfl) rfl ?_
  exact v_sub [3, 4, 2, 1, 0] rfl (w_X3_layEdge_23 hO C hm hn F 0 r5.2)
theorem mono_X7_init {S : St} {x0 : Nat} {r : St} (h : C_X7_init S x0 = some r) : leG S r := by
  have q : MF mf_s (C_X7_init S x0) S := by
    unfold C_X7_init
    refine mf_nI_ (fun r1 hr1 => ?_)
    refine mf_put (fun S2 hS2 => ?_)
    refine mf_nI_ (fun r3 hr3 => ?_)
    refine mf_put (fun S4 hS4 => ?_)
    refine mf_nI_ (fun r5 hr5 => ?_)
    refine mf_put (fun S6 hS6 => ?_)
    exact mf_ret leG.rf
  exact q r h
theorem met_X7_init {P : GP} {l : Launch} (hO : okG P) (S : St) (x0 : Nat) {r : St} (h : C_X7_init S x0 = some r) : FM l (OG P) yX7_init (ws_ yX7_init cX7_init 1 none) 1 34 [.ref x0] S (f_mv r) := by
  refine FM.ofI (own := RX7) (lv := [(0, .ref x0)]) hO pl_X7 rfl rfl (Nat.le_of_ble_eq_true rfl) rfl h (mono_X7_init h).LE (fun X C hm hin2 => ?_)
  unfold C_X7_init
  refine v_aload_n C dX7_init_0 0 rfl ?_
  refine g_objInit C dX7_init_1 lkO_X7_1 (Nat.le_of_ble_eq_true rfl) (Nat.le_of_ble_eq_true rfl) ?_
  refine v_aload_n C dX7_init_4 0 rfl ?_
  refine v_bipush C dX7_init_5 cb_64 ?_
  refine g_naI C dX7_init_7 q194 (fun r1 hr1 => ?_)
  refine g_putV C dX7_init_9 cls_6 (Nat.le_of_ble_eq_true rfl) fl_X7_7 fs_X7_7 rfl rfl rfl (fun S2 hS2 => ?_)
  refine v_aload_n C dX7_init_12 0 rfl ?_
  refine v_bipush C dX7_init_13 cb_64 ?_
  refine g_naI C dX7_init_15 q194 (fun r3 hr3 => ?_)
  refine g_putV C dX7_init_17 cls_6 (Nat.le_of_ble_eq_true rfl) fl_X7_13 fs_X7_13 rfl rfl rfl (fun S4 hS4 => ?_)
  refine v_aload_n C dX7_init_20 0 rfl ?_
  refine v_bipush C dX7_init_21 cb_64 ?_
  refine g_naI C dX7_init_23 q194 (fun r5 hr5 => ?_)
  refine g_putV C dX7_init_25 cls_6 (Nat.le_of_ble_eq_true rfl) fl_X7_16 fs_X7_16 rfl rfl rfl (fun S6 hS6 => ?_)
  exact v_vreturn C hm dX7_init_28 rfl
theorem mono_X7_turn {S : St} {x0 : Nat} {r : St} (h : C_X7_turn S x0 = some r) : leG S r := by
  have q : MF mf_s (C_X7_turn S x0) S := by
    unfold C_X7_turn
    refine mf_bind (fun _ _ => ?_)
    refine mf_bind (fun y1 hy1 => ?_)
    refine mf_put (fun S2 hS2 => ?_)
    exact mf_ret leG.rf
  exact q r h
theorem met_X7_turn {P : GP} {l : Launch} (hO : okG P) (S : St) (x0 : Nat) {r : St} (h : C_X7_turn S x0 = some r) : FM l (OG P) yX7_turn (ws_ yX7_turn cX7_turn 1 none) 0 0 [.ref x0] S (f_mv r) := by
  refine FM.of (own := RX7) (lv := [(0, .ref x0)]) (OG_ok P hO) pl_X7 rfl (Nat.le_of_ble_eq_true rfl) rfl h (mono_X7_turn h).LE (fun X C hm => ?_)
  unfold C_X7_turn
  refine VF.bind (fun _ _ => ?_)
  refine v_aload_n C dX7_turn_0 0 rfl ?_
  refine v_aload_n C dX7_turn_1 0 rfl ?_
  refine g_getI C dX7_turn_2 cls_6 (Nat.le_of_ble_eq_true rfl) fl_X7_27 fs_X7_27 (fun y1 hy1 => ?_)
  refine g_putV C dX7_turn_5 cls_6 (Nat.le_of_ble_eq_true rfl) fl_X7_31 fs_X7_31 rfl rfl rfl (fun S2 hS2 => ?_)
  exact v_vreturn C hm dX7_turn_8 rfl
theorem o_X3_layPoints_122 {F : Nat} {x0 : Nat} {x1 : Int32} (k64 : Int32 → St → Option St) (hk64 : ∀ (z1 : Int32) (τ : St), MF mf_s (k64 z1 τ) τ) (S : St) : MF mf_s (C_X3_layPoints_122 F k64 x0 x1 S) S := by
  unfold C_X3_layPoints_122
  refine mf_bind (fun y36 hy36 => ?_)
  exact (hk64 y36 S)
theorem o_X3_layPoints_64 {F : Nat} {x0 : Nat}  : ∀ (n : Nat) (x1 : Int32) (S : St), MF mf_s (C_X3_layPoints_64 F x0 n x1 S) S := by
  intro n
  induction n with
  | zero => intro x1 S; exact mf_none
  | succ n ih =>
    intro x1 S
    unfold C_X3_layPoints_64
    refine mf_bind (fun y16 hy16 => ?_)
    refine mf_bind (fun a17 ha17 => ?_)
    refine mf_bind (fun y18 hy18 => ?_)
    refine mf_ite ?_ ?_
    · exact mf_ret leG.rf
    · refine mf_bind (fun y19 hy19 => ?_)
      refine mf_bind (fun y20 hy20 => ?_)
      refine mf_bind (fun a21 ha21 => ?_)
      refine mf_bind (fun y22 hy22 => ?_)
      refine mf_bind (fun y23 hy23 => ?_)
      refine mf_bind (fun y24 hy24 => ?_)
      refine mf_bind (fun a25 ha25 => ?_)
      refine mf_bind (fun y26 hy26 => ?_)
      refine mf_bind (fun y27 hy27 => ?_)
      refine mf_bind (fun y28 hy28 => ?_)
      refine mf_bind (fun a29 ha29 => ?_)
      refine mf_bind (fun y30 hy30 => ?_)
      refine mf_bind (fun y31 hy31 => ?_)
      refine mf_bind (fun r32 hr32 => ?_)
      refine mf_ite ?_ ?_
      · exact (o_X3_layPoints_122 (C_X3_layPoints_64 F x0 n) ih S)
      · refine mf_bind (fun y33 hy33 => ?_)
        refine mf_bind (fun a34 ha34 => ?_)
        refine mf_callv (fun _ z => mono_J27_set z) (fun r35 hr35 => ?_)
        exact (o_X3_layPoints_122 (C_X3_layPoints_64 F x0 n) ih r35)
theorem o_X3_layPoints_51 {F : Nat} {x0 : Nat}  (S : St) : MF mf_s (C_X3_layPoints_51 F x0 S) S := by
  unfold C_X3_layPoints_51
  refine mf_new (fun r13 hr13 => ?_)
  refine mf_callv (fun _ z => mono_J27_init z) (fun r14 hr14 => ?_)
  refine mf_put (fun S15 hS15 => ?_)
  exact (o_X3_layPoints_64 F 0 S15)
theorem o_X3_layPoints_21 {F : Nat} {x0 : Nat}  : ∀ (n : Nat) (x1 : Int32) (S : St), MF mf_s (C_X3_layPoints_21 F x0 n x1 S) S := by
  intro n
  induction n with
  | zero => intro x1 S; exact mf_none
  | succ n ih =>
    intro x1 S
    unfold C_X3_layPoints_21
    refine mf_bind (fun y5 hy5 => ?_)
    refine mf_bind (fun y6 hy6 => ?_)
    refine mf_bind (fun y7 hy7 => ?_)
    refine mf_ite ?_ ?_
    · exact (o_X3_layPoints_51 S)
    · refine mf_callv (fun _ z => mono_X3_layEdge z) (fun r8 hr8 => ?_)
      refine mf_bind (fun y9 hy9 => ?_)
      refine mf_bind (fun a10 ha10 => ?_)
      refine mf_callv (fun _ z => mono_X7_turn z) (fun r11 hr11 => ?_)
      refine mf_bind (fun y12 hy12 => ?_)
      exact (ih y12 r11)
theorem mono_X3_layPoints {F : Nat} {S : St} {x0 : Nat} {r : St} (h : C_X3_layPoints F S x0 = some r) : leG S r := by
  have q : MF mf_s (C_X3_layPoints F S x0) S := by
    unfold C_X3_layPoints
    refine mf_bind (fun _ _ => ?_)
    refine mf_bind (fun y1 hy1 => ?_)
    refine mf_ite ?_ ?_
    · refine mf_new (fun r2 hr2 => ?_)
      refine mf_callv (fun _ z => mono_X7_init z) (fun r3 hr3 => ?_)
      refine mf_put (fun S4 hS4 => ?_)
      exact (o_X3_layPoints_21 F 0 S4)
    · exact mf_ret leG.rf
  exact q r h
theorem w_X3_layPoints_122 {P : GP} {X : Ctx} {l : Launch} {S0 : St} {F : Nat} (hO : okG P) (C : CX (OG P) X l cX3_layPoints 2 RX3 none) (hm : X.2.2.2.2.2.2.2.2.2 = none) {x0 : Nat} {x1 : Int32} (k64 : Int32 → St → Option St) (hk64 : ∀ (z1 : Int32) (τ : St), VF (OG P) X 2 46 3116 S0 f_mv (k64 z1 τ) τ 64 [(0, .ref x0), (1, .int z1)] []) (S : St) : VF (OG P) X 2 46 3116 S0 f_mv (C_X3_layPoints_122 F k64 x0 x1 S) S 122 [(0, .ref x0), (1, .int x1)] [] := by
  unfold C_X3_layPoints_122
  refine v_iincN C (lv' := fun y36 => [(1, .int y36), (0, .ref x0)]) dX3_layPoints_122 1 rfl ci_1 (Nat.le_of_ble_eq_true rfl) (fun _ => rfl) (fun y36 hy36 => ?_)
  refine v_goto C (tgt := 64) dX3_layPoints_125 rfl ?_
  exact v_sub [1, 0] rfl (hk64 y36 S)
theorem w_X3_layPoints_64 {P : GP} {X : Ctx} {l : Launch} {S0 : St} {F : Nat} (hO : okG P) (C : CX (OG P) X l cX3_layPoints 2 RX3 none) (hm : X.2.2.2.2.2.2.2.2.2 = none) {x0 : Nat}  : ∀ (n : Nat) (x1 : Int32) (S : St), VF (OG P) X 2 46 3116 S0 f_mv (C_X3_layPoints_64 F x0 n x1 S) S 64 [(0, .ref x0), (1, .int x1)] [] := by
  intro n
  induction n with
  | zero => intro x1 S; exact VF.none
  | succ n ih =>
    intro x1 S
    unfold C_X3_layPoints_64
    refine v_iload_n C dX3_layPoints_64 1 rfl ?_
    refine v_aload_n C dX3_layPoints_65 0 rfl ?_
    refine g_getQ C dX3_layPoints_66 cls_3 (Nat.le_of_ble_eq_true rfl) fl_X3_88 fs_X3_88 (fun y16 hy16 => ?_)
    refine VF.bind (fun a17 ha17 => ?_)
    subst ha17
    refine g_getI C dX3_layPoints_69 cls_6 (Nat.le_of_ble_eq_true rfl) fl_X3_109 fs_X3_109 (fun y18 hy18 => ?_)
    refine v_icmp_ge C (tgt := 128) dX3_layPoints_72 rfl (fun _ => ?_) (fun _ => ?_)
    · exact v_vreturn C hm dX3_layPoints_128 rfl
    · refine v_aload_n C dX3_layPoints_75 0 rfl ?_
      refine g_getA C dX3_layPoints_76 cls_3 (Nat.le_of_ble_eq_true rfl) fl_X3_9 fs_X3_9 (fun y19 hy19 => ?_)
      refine v_aload_n C dX3_layPoints_79 0 rfl ?_
      refine g_getQ C dX3_layPoints_80 cls_3 (Nat.le_of_ble_eq_true rfl) fl_X3_88 fs_X3_88 (fun y20 hy20 => ?_)
      refine VF.bind (fun a21 ha21 => ?_)
      subst ha21
      refine g_getA C dX3_layPoints_83 cls_6 (Nat.le_of_ble_eq_true rfl) fl_X3_112 fs_X3_112 (fun y22 hy22 => ?_)
      refine v_iload_n C dX3_layPoints_86 1 rfl ?_
      refine g_ial C dX3_layPoints_87 (fun y23 hy23 => ?_)
      refine v_aload_n C dX3_layPoints_88 0 rfl ?_
      refine g_getQ C dX3_layPoints_89 cls_3 (Nat.le_of_ble_eq_true rfl) fl_X3_88 fs_X3_88 (fun y24 hy24 => ?_)
      refine VF.bind (fun a25 ha25 => ?_)
      subst ha25
      refine g_getA C dX3_layPoints_92 cls_6 (Nat.le_of_ble_eq_true rfl) fl_X3_114 fs_X3_114 (fun y26 hy26 => ?_)
      refine v_iload_n C dX3_layPoints_95 1 rfl ?_
      refine g_ial C dX3_layPoints_96 (fun y27 hy27 => ?_)
      refine v_i2l C dX3_layPoints_97 ?_
      refine v_aload_n C dX3_layPoints_98 0 rfl ?_
      refine g_getQ C dX3_layPoints_99 cls_3 (Nat.le_of_ble_eq_true rfl) fl_X3_88 fs_X3_88 (fun y28 hy28 => ?_)
      refine VF.bind (fun a29 ha29 => ?_)
      subst ha29
      refine g_getA C dX3_layPoints_102 cls_6 (Nat.le_of_ble_eq_true rfl) fl_X3_117 fs_X3_117 (fun y30 hy30 => ?_)
      refine v_iload_n C dX3_layPoints_105 1 rfl ?_
      refine g_ial C dX3_layPoints_106 (fun y31 hy31 => ?_)
      refine v_i2l C dX3_layPoints_107 ?_
      refine g_callV_ri C (As := [.int y23, .long (((y27) : Int32).toInt64), .long (((y31) : Int32).toInt64)]) (st := []) lk_X3_120 dX3_layPoints_108 rfl (Nat.le_of_ble_eq_true rfl) (Nat.le_of_ble_eq_true rfl) (Nat.le_of_ble_eq_true rfl) cls_2.1 rfl (fun _ z => rc_X2_isAllowed z) (fun _ z => met_X2_isAllowed hO F S y19 y23 (((y27) : Int32).toInt64) (((y31) : Int32).toInt64) z) (fun r32 hr32 => ?_)
      refine v_if_eq C (tgt := 122) dX3_layPoints_111 rfl (fun _ => ?_) (fun _ => ?_)
      · exact v_sub [0, 1] rfl (w_X3_layPoints_122 hO C hm (C_X3_layPoints_64 F x0 n) ih S)
      · refine v_aload_n C dX3_layPoints_114 0 rfl ?_
        refine g_getQ C dX3_layPoints_115 cls_3 (Nat.le_of_ble_eq_true rfl) fl_X3_105 fs_X3_105 (fun y33 hy33 => ?_)
        refine v_iload_n C dX3_layPoints_118 1 rfl ?_
        refine VF.bind (fun a34 ha34 => ?_)
        subst ha34
        refine g_callV_mv C (As := [.int x1]) (st := []) lk_X3_124 dX3_layPoints_119 rfl (Nat.le_of_ble_eq_true rfl) (Nat.le_of_ble_eq_true rfl) (Nat.le_of_ble_eq_true rfl) cls_16.1 rfl (fun _ z => rc_J27_set z) (fun _ z => met_J27_set hO F S a34 x1 z) (fun r35 hr35 => ?_)
        exact v_sub [0, 1] rfl (w_X3_layPoints_122 hO C hm (C_X3_layPoints_64 F x0 n) ih r35)
theorem w_X3_layPoints_51 {P : GP} {X : Ctx} {l : Launch} {S0 : St} {F : Nat} (hO : okG P) (C : CX (OG P) X l cX3_layPoints 2 RX3 none) (hm : X.2.2.2.2.2.2.2.2.2 = none) {x0 : Nat}  (S : St) : VF (OG P) X 2 46 3116 S0 f_mv (C_X3_layPoints_51 F x0 S) S 51 [(0, .ref x0)] [] := by
  unfold C_X3_layPoints_51
  refine v_aload_n C dX3_layPoints_51 0 rfl ?_
  refine g_new C dX3_layPoints_52 cls_16 q975 q976 q144 dfok_16 (fun r13 hr13 => ?_)
  refine v_dup C dX3_layPoints_55 rfl ?_
  refine v_callI_mv C (As := []) (st := [.ref (r13.1), .ref x0]) lk_X3_104 dX3_layPoints_56 rfl (Nat.le_of_ble_eq_true rfl) (Nat.le_of_ble_eq_true rfl) (Nat.le_of_ble_eq_true rfl) (fun _ z => met_J27_init hO r13.2 (r13.1) z) (fun r14 hr14 => ?_)
  refine g_putV C dX3_layPoints_59 cls_3 (Nat.le_of_ble_eq_true rfl) fl_X3_105 fs_X3_105 rfl rfl rfl (fun S15 hS15 => ?_)
  refine v_iconst C dX3_layPoints_62 ci_0 ?_
  refine v_istore_n C (lv' := [(1, .int 0), (0, .ref x0)]) dX3_layPoints_63 (Nat.le_of_ble_eq_true rfl) rfl ?_
  exact v_sub [1, 0] rfl (w_X3_layPoints_64 hO C hm F 0 S15)
theorem w_X3_layPoints_21 {P : GP} {X : Ctx} {l : Launch} {S0 : St} {F : Nat} (hO : okG P) (C : CX (OG P) X l cX3_layPoints 2 RX3 none) (hm : X.2.2.2.2.2.2.2.2.2 = none) {x0 : Nat}  : ∀ (n : Nat) (x1 : Int32) (S : St), VF (OG P) X 2 46 3116 S0 f_mv (C_X3_layPoints_21 F x0 n x1 S) S 21 [(0, .ref x0), (1, .int x1)] [] := by
  intro n
  induction n with
  | zero => intro x1 S; exact VF.none
  | succ n ih =>
    intro x1 S
    unfold C_X3_layPoints_21
    refine v_iload_n C dX3_layPoints_21 1 rfl ?_
    refine v_aload_n C dX3_layPoints_22 0 rfl ?_
    refine g_getA C dX3_layPoints_23 cls_3 (Nat.le_of_ble_eq_true rfl) fl_X3_9 fs_X3_9 (fun y5 hy5 => ?_)
    refine g_getA C dX3_layPoints_26 cls_2 (Nat.le_of_ble_eq_true rfl) fl_X3_30 fs_X3_30 (fun y6 hy6 => ?_)
    refine g_alen (kd := 3) (fun _ => rfl) C dX3_layPoints_29 (fun y7 hy7 => ?_)
    refine v_icmp_ge C (tgt := 51) dX3_layPoints_30 rfl (fun _ => ?_) (fun _ => ?_)
    · exact v_sub [0] rfl (w_X3_layPoints_51 hO C hm S)
    · refine v_aload_n C dX3_layPoints_33 0 rfl ?_
      refine v_iload_n C dX3_layPoints_34 1 rfl ?_
      refine g_callV_mv C (As := [.int x1]) (st := []) lk_X3_95 dX3_layPoints_35 rfl (Nat.le_of_ble_eq_true rfl) (Nat.le_of_ble_eq_true rfl) (Nat.le_of_ble_eq_true rfl) cls_3.1 rfl (fun _ z => rc_X3_layEdge z) (fun _ z => met_X3_layEdge hO F S x0 x1 z) (fun r8 hr8 => ?_)
      refine v_aload_n C dX3_layPoints_38 0 rfl ?_
      refine g_getQ C dX3_layPoints_39 cls_3 (Nat.le_of_ble_eq_true rfl) fl_X3_88 fs_X3_88 (fun y9 hy9 => ?_)
      refine VF.bind (fun a10 ha10 => ?_)
      subst ha10
      refine g_callV_mv C (As := []) (st := []) lk_X3_99 dX3_layPoints_42 rfl (Nat.le_of_ble_eq_true rfl) (Nat.le_of_ble_eq_true rfl) (Nat.le_of_ble_eq_true rfl) cls_6.1 rfl (fun _ z => rc_X7_turn z) (fun _ z => met_X7_turn hO r8 a10 z) (fun r11 hr11 => ?_)
      refine v_iincN C (lv' := fun y12 => [(1, .int y12), (0, .ref x0)]) dX3_layPoints_45 1 rfl ci_1 (Nat.le_of_ble_eq_true rfl) (fun _ => rfl) (fun y12 hy12 => ?_)
      refine v_goto C (tgt := 21) dX3_layPoints_48 rfl ?_
      exact v_sub [1, 0] rfl (ih y12 r11)
theorem met_X3_layPoints {P : GP} {l : Launch} (hO : okG P) (F : Nat) (S : St) (x0 : Nat) {r : St} (h : C_X3_layPoints F S x0 = some r) : FM l (OG P) yX3_layPoints (ws_ yX3_layPoints cX3_layPoints 2 none) 46 3116 [.ref x0] S (f_mv r) := by
  refine FM.of (own := RX3) (lv := [(0, .ref x0)]) (OG_ok P hO) pl_X3 rfl (Nat.le_of_ble_eq_true rfl) rfl h (mono_X3_layPoints h).LE (fun X C hm => ?_)
  unfold C_X3_layPoints
  refine VF.bind (fun _ _ => ?_)
  refine v_aload_n C dX3_layPoints_0 0 rfl ?_
  refine g_getQ C dX3_layPoints_1 cls_3 (Nat.le_of_ble_eq_true rfl) fl_X3_88 fs_X3_88 (fun y1 hy1 => ?_)
  refine g_ifnull C (tgt := 8) dX3_layPoints_4 rfl (fun _ => ?_) (fun _ => ?_)
  · refine v_aload_n C dX3_layPoints_8 0 rfl ?_
    refine g_new C dX3_layPoints_9 cls_6 q872 q873 q141 dfok_6 (fun r2 hr2 => ?_)
    refine v_dup C dX3_layPoints_12 rfl ?_
    refine g_callIN_mv C (As := []) (st := [.ref (r2.1), .ref x0]) lk_X3_94 dX3_layPoints_13 rfl (Nat.le_of_ble_eq_true rfl) (Nat.le_of_ble_eq_true rfl) (Nat.le_of_ble_eq_true rfl) (fun _ z => met_X7_init hO r2.2 (r2.1) z) (fun r3 hr3 => ?_)
    refine g_putV C dX3_layPoints_16 cls_3 (Nat.le_of_ble_eq_true rfl) fl_X3_88 fs_X3_88 rfl rfl rfl (fun S4 hS4 => ?_)
    refine v_iconst C dX3_layPoints_19 ci_0 ?_
    refine v_istore_n C (lv' := [(1, .int 0), (0, .ref x0)]) dX3_layPoints_20 (Nat.le_of_ble_eq_true rfl) rfl ?_
    exact v_sub [1, 0] rfl (w_X3_layPoints_21 hO C hm F 0 S4)
  · exact v_vreturn C hm dX3_layPoints_7 rfl
theorem met_X1_has {P : GP} {l : Launch} (hO : okG P) (S : St) (x0 : Int32) (x1 : Int32) {r : Int32} (h : C_X1_has x0 x1 = some r) : FM l (OG P) yX1_has (ws_ yX1_has cX1_has 2 (some .boolean)) 0 0 [.int x0, .int x1] S ((f_ri S) r) := by
  refine FM.of (own := RX1) (lv := [(0, .int x0), (1, .int x1)]) (OG_ok P hO) pl_X1 rfl (Nat.le_of_ble_eq_true rfl) rfl h LE.rf (fun X C hm => ?_)
  unfold C_X1_has
  refine v_iload_n C dX1_has_0 0 rfl ?_
  refine v_iload_n C dX1_has_1 1 rfl ?_
  refine v_ishr C dX1_has_2 ?_
  refine v_iconst C dX1_has_3 ci_1 ?_
  refine v_iand C dX1_has_4 ?_
  refine v_iconst C dX1_has_5 ci_1 ?_
  refine v_icmp_ne C (tgt := 13) dX1_has_6 rfl (fun _ => ?_) (fun _ => ?_)
  · refine v_iconst C dX1_has_9 ci_1 ?_
    refine v_goto C (tgt := 14) dX1_has_10 rfl ?_
    exact v_zreturn C hm dX1_has_14 (Or.inr rfl) rfl
  · refine v_iconst C dX1_has_13 ci_0 ?_
    exact v_zreturn C hm dX1_has_14 (Or.inl rfl) rfl
theorem met_X3_distanceTo {P : GP} {l : Launch} (hO : okG P) (S : St) (x0 : Nat) (x1 : Int32) (x2 : Int32) (x3 : Int64) (x5 : Int64) {r : Int64} (h : C_X3_distanceTo S x0 x1 x2 x3 x5 = some r) : FM l (OG P) yX3_distanceTo (ws_ yX3_distanceTo cX3_distanceTo 8 (some .long)) 1 34 [.ref x0, .int x1, .int x2, .long x3, .long x5] S ((f_rl S) r) := by
  refine FM.of (own := RX3) (lv := [(0, .ref x0), (1, .int x1), (2, .int x2), (3, .long x3), (5, .long x5)]) (OG_ok P hO) pl_X3 rfl (Nat.le_of_ble_eq_true rfl) rfl h LE.rf (fun X C hm => ?_)
  unfold C_X3_distanceTo
  refine VF.bind (fun _ _ => ?_)
  refine v_aload_n C dX3_distanceTo_0 0 rfl ?_
  refine g_getA C dX3_distanceTo_1 cls_3 (Nat.le_of_ble_eq_true rfl) fl_X3_9 fs_X3_9 (fun y1 hy1 => ?_)
  refine g_getA C dX3_distanceTo_4 cls_2 (Nat.le_of_ble_eq_true rfl) fl_X3_30 fs_X3_30 (fun y2 hy2 => ?_)
  refine v_iload_n C dX3_distanceTo_7 2 rfl ?_
  refine g_aalA3 C dX3_distanceTo_8 (fun y3 hy3 => ?_)
  refine v_astore C (lv' := [(7, .ref y3), (0, .ref x0), (1, .int x1), (2, .int x2), (3, .long x3), (5, .long x5)]) dX3_distanceTo_9 (Nat.le_of_ble_eq_true rfl) rfl ?_
  refine v_aload_n C dX3_distanceTo_11 1 rfl ?_
  refine v_iload_n C dX3_distanceTo_12 2 rfl ?_
  refine v_aload C dX3_distanceTo_13 0 rfl ?_
  refine g_getI C dX3_distanceTo_15 cls_4 (Nat.le_of_ble_eq_true rfl) fl_X3_34 fs_X3_34 (fun y4 hy4 => ?_)
  refine g_callV_ri C (As := [.int x1, .int y4]) (st := []) lk_X3_45 dX3_distanceTo_18 rfl (Nat.le_of_ble_eq_true rfl) (Nat.le_of_ble_eq_true rfl) (Nat.le_of_ble_eq_true rfl) cls_3.1 rfl (fun _ z => rc_X3_distance z) (fun _ z => met_X3_distance hO S x0 x1 y4 z) (fun r5 hr5 => ?_)
  refine v_i2l C dX3_distanceTo_21 ?_
  refine v_lload C dX3_distanceTo_22 5 rfl ?_
  refine v_lmul C dX3_distanceTo_24 ?_
  refine v_lload_n C dX3_distanceTo_25 4 rfl ?_
  refine v_ladd C dX3_distanceTo_26 ?_
  refine v_aload_n C dX3_distanceTo_27 1 rfl ?_
  refine v_iload_n C dX3_distanceTo_28 2 rfl ?_
  refine v_aload C dX3_distanceTo_29 0 rfl ?_
  refine g_getI C dX3_distanceTo_31 cls_4 (Nat.le_of_ble_eq_true rfl) fl_X3_39 fs_X3_39 (fun y6 hy6 => ?_)
  refine g_callV_ri C (As := [.int x1, .int y6]) (st := [.long (((((r5) : Int32).toInt64) * x5) + x3)]) lk_X3_45 dX3_distanceTo_34 rfl (Nat.le_of_ble_eq_true rfl) (Nat.le_of_ble_eq_true rfl) (Nat.le_of_ble_eq_true rfl) cls_3.1 rfl (fun _ z => rc_X3_distance z) (fun _ z => met_X3_distance hO S x0 x1 y6 z) (fun r7 hr7 => ?_)
  refine v_aload C dX3_distanceTo_37 0 rfl ?_
  refine g_getI C dX3_distanceTo_39 cls_4 (Nat.le_of_ble_eq_true rfl) fl_X3_42 fs_X3_42 (fun y8 hy8 => ?_)
  refine v_iadd C dX3_distanceTo_42 ?_
  refine v_i2l C dX3_distanceTo_43 ?_
  refine v_lload C dX3_distanceTo_44 5 rfl ?_
  refine v_lmul C dX3_distanceTo_46 ?_
  refine v_lload_n C dX3_distanceTo_47 4 rfl ?_
  refine v_lsub C dX3_distanceTo_48 ?_
  refine v_letl (fun y9 hy9 => ?_)
  refine g_mminL C dX3_distanceTo_49 q1080 q1081 q108 q1082 (Nat.le_of_ble_eq_true rfl) (Nat.le_of_ble_eq_true rfl) ?_
  exact v_lreturn C hm dX3_distanceTo_52 rfl
theorem w_X3_height_56 {P : GP} {X : Ctx} {l : Launch} {F : Nat} {S : St} (hO : okG P) (C : CX (OG P) X l cX3_height 10 RX3 (some .long)) (hm : X.2.2.2.2.2.2.2.2.2 = none) {x0 : Nat} {x1 : Int32} {x2 : Int32} {x3 : Int64} {x5 : Int64} {x9 : Int32} (k6 : Int64 → Int32 → Option Int64) (hk6 : ∀ (z7 : Int64) (z9 : Int32), VF (OG P) X 10 2 61 S (f_rl S) (k6 z7 z9) S 6 [(0, .ref x0), (1, .int x1), (2, .int x2), (3, .long x3), (5, .long x5), (7, .long z7), (9, .int z9)] []) (s0 : Int64) : VF (OG P) X 10 2 61 S (f_rl S) (C_X3_height_56 F k6 S x0 x1 x2 x3 x5 x9 s0) S 56 [(0, .ref x0), (1, .int x1), (2, .int x2), (3, .long x3), (5, .long x5), (9, .int x9)] [.long s0] := by
  unfold C_X3_height_56
  refine v_lstore C (lv' := [(7, .long s0), (0, .ref x0), (1, .int x1), (2, .int x2), (3, .long x3), (5, .long x5), (9, .int x9)]) dX3_height_56 (Nat.le_of_ble_eq_true rfl) rfl ?_
  refine v_iincN C (lv' := fun y8 => [(9, .int y8), (7, .long s0), (0, .ref x0), (1, .int x1), (2, .int x2), (3, .long x3), (5, .long x5)]) dX3_height_58 6 rfl ci_1 (Nat.le_of_ble_eq_true rfl) (fun _ => rfl) (fun y8 hy8 => ?_)
  refine v_goto C (tgt := 6) dX3_height_61 rfl ?_
  exact v_sub [2, 3, 4, 5, 6, 1, 0] rfl (hk6 s0 y8)
theorem w_X3_height_6 {P : GP} {X : Ctx} {l : Launch} {F : Nat} {S : St} (hO : okG P) (C : CX (OG P) X l cX3_height 10 RX3 (some .long)) (hm : X.2.2.2.2.2.2.2.2.2 = none) {x0 : Nat} {x1 : Int32} {x2 : Int32} {x3 : Int64} {x5 : Int64}  : ∀ (n : Nat) (x7 : Int64) (x9 : Int32), VF (OG P) X 10 2 61 S (f_rl S) (C_X3_height_6 F S x0 x1 x2 x3 x5 n x7 x9) S 6 [(0, .ref x0), (1, .int x1), (2, .int x2), (3, .long x3), (5, .long x5), (7, .long x7), (9, .int x9)] [] := by
  intro n
  induction n with
  | zero => intro x7 x9; exact VF.none
  | succ n ih =>
    intro x7 x9
    unfold C_X3_height_6
    refine v_iload C dX3_height_6 6 rfl ?_
    refine v_aload_n C dX3_height_8 0 rfl ?_
    refine g_getI C dX3_height_9 cls_3 (Nat.le_of_ble_eq_true rfl) fl_X3_21 fs_X3_21 (fun y1 hy1 => ?_)
    refine v_icmp_ge C (tgt := 64) dX3_height_12 rfl (fun _ => ?_) (fun _ => ?_)
    · refine v_lload C dX3_height_64 5 rfl ?_
      exact v_lreturn C hm dX3_height_66 rfl
    · refine v_iload_n C dX3_height_15 1 rfl ?_
      refine v_iload C dX3_height_16 6 rfl ?_
      refine g_callSN_ri C (As := [.int x1, .int x9]) (st := []) lk_X3_61 dX3_height_18 rfl (Nat.le_of_ble_eq_true rfl) (Nat.le_of_ble_eq_true rfl) (Nat.le_of_ble_eq_true rfl) (fun _ z => met_X1_has hO S x1 x9 z) (fun r2 hr2 => ?_)
      refine v_if_eq C (tgt := 54) dX3_height_21 rfl (fun _ => ?_) (fun _ => ?_)
      · refine v_lload C dX3_height_54 5 rfl ?_
        exact v_sub [0, 1, 2, 3, 4, 6] rfl (w_X3_height_56 hO C hm (C_X3_height_6 F S x0 x1 x2 x3 x5 n) ih x7)
      · refine v_lload C dX3_height_24 5 rfl ?_
        refine v_aload_n C dX3_height_26 0 rfl ?_
        refine g_getA C dX3_height_27 cls_3 (Nat.le_of_ble_eq_true rfl) fl_X3_9 fs_X3_9 (fun y3 hy3 => ?_)
        refine g_getA C dX3_height_30 cls_2 (Nat.le_of_ble_eq_true rfl) fl_X3_65 fs_X3_65 (fun y4 hy4 => ?_)
        refine v_iload C dX3_height_33 6 rfl ?_
        refine g_ial C dX3_height_35 (fun y5 hy5 => ?_)
        refine v_i2l C dX3_height_36 ?_
        refine v_aload_n C dX3_height_37 0 rfl ?_
        refine v_iload C dX3_height_38 6 rfl ?_
        refine v_iload_n C dX3_height_40 2 rfl ?_
        refine v_lload_n C dX3_height_41 3 rfl ?_
        refine v_lload C dX3_height_42 4 rfl ?_
        refine g_callV_rl C (As := [.int x9, .int x2, .long x3, .long x5]) (st := [.long (((y5) : Int32).toInt64), .long x7]) lk_X3_68 dX3_height_44 rfl (Nat.le_of_ble_eq_true rfl) (Nat.le_of_ble_eq_true rfl) (Nat.le_of_ble_eq_true rfl) cls_3.1 rfl (fun _ z => rc_X3_distanceTo z) (fun _ z => met_X3_distanceTo hO S x0 x9 x2 x3 x5 z) (fun r6 hr6 => ?_)
        refine v_lmul C dX3_height_47 ?_
        refine v_letl (fun y7 hy7 => ?_)
        refine g_mmaxL C dX3_height_48 q1083 q1084 q108 q1085 (Nat.le_of_ble_eq_true rfl) (Nat.le_of_ble_eq_true rfl) ?_
        refine v_goto C (tgt := 56) dX3_height_51 rfl ?_
        exact v_sub [0, 1, 2, 3, 4, 6] rfl (w_X3_height_56 hO C hm (C_X3_height_6 F S x0 x1 x2 x3 x5 n) ih (if y7 < x7 then x7 else y7))
theorem met_X3_height {P : GP} {l : Launch} (hO : okG P) (F : Nat) (S : St) (x0 : Nat) (x1 : Int32) (x2 : Int32) (x3 : Int64) (x5 : Int64) {r : Int64} (h : C_X3_height F S x0 x1 x2 x3 x5 = some r) : FM l (OG P) yX3_height (ws_ yX3_height cX3_height 10 (some .long)) 2 61 [.ref x0, .int x1, .int x2, .long x3, .long x5] S ((f_rl S) r) := by
  refine FM.of (own := RX3) (lv := [(0, .ref x0), (1, .int x1), (2, .int x2), (3, .long x3), (5, .long x5)]) (OG_ok P hO) pl_X3 rfl (Nat.le_of_ble_eq_true rfl) rfl h LE.rf (fun X C hm => ?_)
  unfold C_X3_height
  refine VF.bind (fun _ _ => ?_)
  refine v_lconst C dX3_height_0 cl_0 ?_
  refine v_lstore C (lv' := [(7, .long 0), (0, .ref x0), (1, .int x1), (2, .int x2), (3, .long x3), (5, .long x5)]) dX3_height_1 (Nat.le_of_ble_eq_true rfl) rfl ?_
  refine v_iconst C dX3_height_3 ci_0 ?_
  refine v_istore C (lv' := [(9, .int 0), (7, .long 0), (0, .ref x0), (1, .int x1), (2, .int x2), (3, .long x3), (5, .long x5)]) dX3_height_4 (Nat.le_of_ble_eq_true rfl) rfl ?_
  exact v_sub [2, 3, 4, 5, 6, 1, 0] rfl (w_X3_height_6 hO C hm F 0 0)
theorem met_X3_heightAt {P : GP} {l : Launch} (hO : okG P) (F : Nat) (S : St) (x0 : Nat) (x1 : Int32) {r : Int64} (h : C_X3_heightAt F S x0 x1 = some r) : FM l (OG P) yX3_heightAt (ws_ yX3_heightAt cX3_heightAt 2 (some .long)) 3 90 [.ref x0, .int x1] S ((f_rl S) r) := by
  refine FM.of (own := RX3) (lv := [(0, .ref x0), (1, .int x1)]) (OG_ok P hO) pl_X3 rfl (Nat.le_of_ble_eq_true rfl) rfl h LE.rf (fun X C hm => ?_)
  unfold C_X3_heightAt
  refine VF.bind (fun _ _ => ?_)
  refine v_aload_n C dX3_heightAt_0 0 rfl ?_
  refine v_iconst C dX3_heightAt_1 ci_1 ?_
  refine v_aload_n C dX3_heightAt_2 0 rfl ?_
  refine g_getI C dX3_heightAt_3 cls_3 (Nat.le_of_ble_eq_true rfl) fl_X3_21 fs_X3_21 (fun y1 hy1 => ?_)
  refine v_ishl C dX3_heightAt_6 ?_
  refine v_iconst C dX3_heightAt_7 ci_1 ?_
  refine v_isub C dX3_heightAt_8 ?_
  refine v_aload_n C dX3_heightAt_9 0 rfl ?_
  refine g_getQ C dX3_heightAt_10 cls_3 (Nat.le_of_ble_eq_true rfl) fl_X3_88 fs_X3_88 (fun y2 hy2 => ?_)
  refine VF.bind (fun a3 ha3 => ?_)
  subst ha3
  refine g_getA C dX3_heightAt_13 cls_6 (Nat.le_of_ble_eq_true rfl) fl_X3_112 fs_X3_112 (fun y4 hy4 => ?_)
  refine v_iload_n C dX3_heightAt_16 1 rfl ?_
  refine g_ial C dX3_heightAt_17 (fun y5 hy5 => ?_)
  refine v_aload_n C dX3_heightAt_18 0 rfl ?_
  refine g_getQ C dX3_heightAt_19 cls_3 (Nat.le_of_ble_eq_true rfl) fl_X3_88 fs_X3_88 (fun y6 hy6 => ?_)
  refine VF.bind (fun a7 ha7 => ?_)
  subst ha7
  refine g_getA C dX3_heightAt_22 cls_6 (Nat.le_of_ble_eq_true rfl) fl_X3_114 fs_X3_114 (fun y8 hy8 => ?_)
  refine v_iload_n C dX3_heightAt_25 1 rfl ?_
  refine g_ial C dX3_heightAt_26 (fun y9 hy9 => ?_)
  refine v_i2l C dX3_heightAt_27 ?_
  refine v_aload_n C dX3_heightAt_28 0 rfl ?_
  refine g_getQ C dX3_heightAt_29 cls_3 (Nat.le_of_ble_eq_true rfl) fl_X3_88 fs_X3_88 (fun y10 hy10 => ?_)
  refine VF.bind (fun a11 ha11 => ?_)
  subst ha11
  refine g_getA C dX3_heightAt_32 cls_6 (Nat.le_of_ble_eq_true rfl) fl_X3_117 fs_X3_117 (fun y12 hy12 => ?_)
  refine v_iload_n C dX3_heightAt_35 1 rfl ?_
  refine g_ial C dX3_heightAt_36 (fun y13 hy13 => ?_)
  refine v_i2l C dX3_heightAt_37 ?_
  refine g_callV_rl C (As := [.int ((1 <<< (y1 &&& 31)) - 1), .int y5, .long (((y9) : Int32).toInt64), .long (((y13) : Int32).toInt64)]) (st := []) lk_X3_159 dX3_heightAt_38 rfl (Nat.le_of_ble_eq_true rfl) (Nat.le_of_ble_eq_true rfl) (Nat.le_of_ble_eq_true rfl) cls_3.1 rfl (fun _ z => rc_X3_height z) (fun _ z => met_X3_height hO F S x0 ((1 <<< (y1 &&& 31)) - 1) y5 (((y9) : Int32).toInt64) (((y13) : Int32).toInt64) z) (fun r14 hr14 => ?_)
  exact v_lreturn C hm dX3_heightAt_41 rfl
theorem met_X3_turns {P : GP} {l : Launch} (hO : okG P) (F : Nat) (S : St) (x0 : Nat) (x1 : Int32) {r : Int32} (h : C_X3_turns F S x0 x1 = some r) : FM l (OG P) yX3_turns (ws_ yX3_turns cX3_turns 16 (some .boolean)) 4 111 [.ref x0, .int x1] S ((f_ri S) r) := by
  refine FM.of (own := RX3) (lv := [(0, .ref x0), (1, .int x1)]) (OG_ok P hO) pl_X3 rfl (Nat.le_of_ble_eq_true rfl) rfl h LE.rf (fun X C hm => ?_)
  unfold C_X3_turns
  refine VF.bind (fun _ _ => ?_)
  refine v_aload_n C dX3_turns_0 0 rfl ?_
  refine g_getQ C dX3_turns_1 cls_3 (Nat.le_of_ble_eq_true rfl) fl_X3_88 fs_X3_88 (fun y1 hy1 => ?_)
  refine VF.bind (fun a2 ha2 => ?_)
  subst ha2
  refine g_getA C dX3_turns_4 cls_6 (Nat.le_of_ble_eq_true rfl) fl_X3_117 fs_X3_117 (fun y3 hy3 => ?_)
  refine v_iload_n C dX3_turns_7 1 rfl ?_
  refine v_iconst C dX3_turns_8 ci_1 ?_
  refine v_isub C dX3_turns_9 ?_
  refine g_ial C dX3_turns_10 (fun y4 hy4 => ?_)
  refine v_i2l C dX3_turns_11 ?_
  refine v_letl (fun y5 hy5 => ?_)
  refine v_lstore_n C (lv' := [(2, .long y5), (0, .ref x0), (1, .int x1)]) dX3_turns_12 (Nat.le_of_ble_eq_true rfl) rfl ?_
  refine v_aload_n C dX3_turns_13 1 rfl ?_
  refine g_getQ C dX3_turns_14 cls_3 (Nat.le_of_ble_eq_true rfl) fl_X3_88 fs_X3_88 (fun y6 hy6 => ?_)
  refine VF.bind (fun a7 ha7 => ?_)
  subst ha7
  refine g_getA C dX3_turns_17 cls_6 (Nat.le_of_ble_eq_true rfl) fl_X3_117 fs_X3_117 (fun y8 hy8 => ?_)
  refine v_iload_n C dX3_turns_20 2 rfl ?_
  refine g_ial C dX3_turns_21 (fun y9 hy9 => ?_)
  refine v_i2l C dX3_turns_22 ?_
  refine v_letl (fun y10 hy10 => ?_)
  refine v_lstore C (lv' := [(4, .long y10), (2, .long y5), (0, .ref x0), (1, .int x1)]) dX3_turns_23 (Nat.le_of_ble_eq_true rfl) rfl ?_
  refine v_aload_n C dX3_turns_25 2 rfl ?_
  refine g_getQ C dX3_turns_26 cls_3 (Nat.le_of_ble_eq_true rfl) fl_X3_88 fs_X3_88 (fun y11 hy11 => ?_)
  refine VF.bind (fun a12 ha12 => ?_)
  subst ha12
  refine g_getA C dX3_turns_29 cls_6 (Nat.le_of_ble_eq_true rfl) fl_X3_117 fs_X3_117 (fun y13 hy13 => ?_)
  refine v_iload_n C dX3_turns_32 3 rfl ?_
  refine v_iconst C dX3_turns_33 ci_1 ?_
  refine v_iadd C dX3_turns_34 ?_
  refine g_ial C dX3_turns_35 (fun y14 hy14 => ?_)
  refine v_i2l C dX3_turns_36 ?_
  refine v_letl (fun y15 hy15 => ?_)
  refine v_lstore C (lv' := [(6, .long y15), (4, .long y10), (2, .long y5), (0, .ref x0), (1, .int x1)]) dX3_turns_37 (Nat.le_of_ble_eq_true rfl) rfl ?_
  refine v_aload_n C dX3_turns_39 3 rfl ?_
  refine v_iload_n C dX3_turns_40 4 rfl ?_
  refine g_callV_rl C (As := [.int x1]) (st := []) lk_X3_216 dX3_turns_41 rfl (Nat.le_of_ble_eq_true rfl) (Nat.le_of_ble_eq_true rfl) (Nat.le_of_ble_eq_true rfl) cls_3.1 rfl (fun _ z => rc_X3_heightAt z) (fun _ z => met_X3_heightAt hO F S x0 x1 z) (fun r16 hr16 => ?_)
  refine v_lload_n C dX3_turns_44 2 rfl ?_
  refine v_lmul C dX3_turns_45 ?_
  refine v_lload C dX3_turns_46 0 rfl ?_
  refine v_lmul C dX3_turns_48 ?_
  refine v_aload_n C dX3_turns_49 3 rfl ?_
  refine v_iload_n C dX3_turns_50 4 rfl ?_
  refine v_iconst C dX3_turns_51 ci_1 ?_
  refine v_isub C dX3_turns_52 ?_
  refine g_callV_rl C (As := [.int (x1 - 1)]) (st := [.long ((r16 * y5) * y15)]) lk_X3_216 dX3_turns_53 rfl (Nat.le_of_ble_eq_true rfl) (Nat.le_of_ble_eq_true rfl) (Nat.le_of_ble_eq_true rfl) cls_3.1 rfl (fun _ z => rc_X3_heightAt z) (fun _ z => met_X3_heightAt hO F S x0 (x1 - 1) z) (fun r17 hr17 => ?_)
  refine v_lload C dX3_turns_56 1 rfl ?_
  refine v_lmul C dX3_turns_58 ?_
  refine v_lload C dX3_turns_59 0 rfl ?_
  refine v_lmul C dX3_turns_61 ?_
  refine v_lsub C dX3_turns_62 ?_
  refine v_letl (fun y18 hy18 => ?_)
  refine v_lstore C (lv' := [(8, .long y18), (6, .long y15), (4, .long y10), (2, .long y5), (0, .ref x0), (1, .int x1)]) dX3_turns_63 (Nat.le_of_ble_eq_true rfl) rfl ?_
  refine v_aload_n C dX3_turns_65 4 rfl ?_
  refine g_getQ C dX3_turns_66 cls_3 (Nat.le_of_ble_eq_true rfl) fl_X3_88 fs_X3_88 (fun y19 hy19 => ?_)
  refine VF.bind (fun a20 ha20 => ?_)
  subst ha20
  refine g_getA C dX3_turns_69 cls_6 (Nat.le_of_ble_eq_true rfl) fl_X3_114 fs_X3_114 (fun y21 hy21 => ?_)
  refine v_iload_n C dX3_turns_72 5 rfl ?_
  refine g_ial C dX3_turns_73 (fun y22 hy22 => ?_)
  refine v_i2l C dX3_turns_74 ?_
  refine v_lload_n C dX3_turns_75 3 rfl ?_
  refine v_lmul C dX3_turns_76 ?_
  refine v_lload C dX3_turns_77 1 rfl ?_
  refine v_lmul C dX3_turns_79 ?_
  refine v_aload_n C dX3_turns_80 4 rfl ?_
  refine g_getQ C dX3_turns_81 cls_3 (Nat.le_of_ble_eq_true rfl) fl_X3_88 fs_X3_88 (fun y23 hy23 => ?_)
  refine VF.bind (fun a24 ha24 => ?_)
  subst ha24
  refine g_getA C dX3_turns_84 cls_6 (Nat.le_of_ble_eq_true rfl) fl_X3_114 fs_X3_114 (fun y25 hy25 => ?_)
  refine v_iload_n C dX3_turns_87 5 rfl ?_
  refine v_iconst C dX3_turns_88 ci_1 ?_
  refine v_isub C dX3_turns_89 ?_
  refine g_ial C dX3_turns_90 (fun y26 hy26 => ?_)
  refine v_i2l C dX3_turns_91 ?_
  refine v_lload C dX3_turns_92 2 rfl ?_
  refine v_lmul C dX3_turns_94 ?_
  refine v_lload C dX3_turns_95 1 rfl ?_
  refine v_lmul C dX3_turns_97 ?_
  refine v_lsub C dX3_turns_98 ?_
  refine v_letl (fun y27 hy27 => ?_)
  refine v_lstore C (lv' := [(10, .long y27), (8, .long y18), (6, .long y15), (4, .long y10), (2, .long y5), (0, .ref x0), (1, .int x1)]) dX3_turns_99 (Nat.le_of_ble_eq_true rfl) rfl ?_
  refine v_aload_n C dX3_turns_101 5 rfl ?_
  refine v_iload_n C dX3_turns_102 6 rfl ?_
  refine v_iconst C dX3_turns_103 ci_1 ?_
  refine v_iadd C dX3_turns_104 ?_
  refine g_callV_rl C (As := [.int (x1 + 1)]) (st := []) lk_X3_216 dX3_turns_105 rfl (Nat.le_of_ble_eq_true rfl) (Nat.le_of_ble_eq_true rfl) (Nat.le_of_ble_eq_true rfl) cls_3.1 rfl (fun _ z => rc_X3_heightAt z) (fun _ z => met_X3_heightAt hO F S x0 (x1 + 1) z) (fun r28 hr28 => ?_)
  refine v_lload_n C dX3_turns_108 4 rfl ?_
  refine v_lmul C dX3_turns_109 ?_
  refine v_lload C dX3_turns_110 3 rfl ?_
  refine v_lmul C dX3_turns_112 ?_
  refine v_aload_n C dX3_turns_113 5 rfl ?_
  refine v_iload_n C dX3_turns_114 6 rfl ?_
  refine g_callV_rl C (As := [.int x1]) (st := [.long ((r28 * y5) * y10)]) lk_X3_216 dX3_turns_115 rfl (Nat.le_of_ble_eq_true rfl) (Nat.le_of_ble_eq_true rfl) (Nat.le_of_ble_eq_true rfl) cls_3.1 rfl (fun _ z => rc_X3_heightAt z) (fun _ z => met_X3_heightAt hO F S x0 x1 z) (fun r29 hr29 => ?_)
  refine v_lload_n C dX3_turns_118 4 rfl ?_
  refine v_lmul C dX3_turns_119 ?_
  refine v_lload C dX3_turns_120 2 rfl ?_
  refine v_lmul C dX3_turns_122 ?_
  refine v_lsub C dX3_turns_123 ?_
  refine v_letl (fun y30 hy30 => ?_)
  refine v_lstore C (lv' := [(12, .long y30), (10, .long y27), (8, .long y18), (6, .long y15), (4, .long y10), (2, .long y5), (0, .ref x0), (1, .int x1)]) dX3_turns_124 (Nat.le_of_ble_eq_true rfl) rfl ?_
  refine v_aload_n C dX3_turns_126 6 rfl ?_
  refine g_getQ C dX3_turns_127 cls_3 (Nat.le_of_ble_eq_true rfl) fl_X3_88 fs_X3_88 (fun y31 hy31 => ?_)
  refine VF.bind (fun a32 ha32 => ?_)
  subst ha32
  refine g_getA C dX3_turns_130 cls_6 (Nat.le_of_ble_eq_true rfl) fl_X3_114 fs_X3_114 (fun y33 hy33 => ?_)
  refine v_iload_n C dX3_turns_133 7 rfl ?_
  refine v_iconst C dX3_turns_134 ci_1 ?_
  refine v_iadd C dX3_turns_135 ?_
  refine g_ial C dX3_turns_136 (fun y34 hy34 => ?_)
  refine v_i2l C dX3_turns_137 ?_
  refine v_lload_n C dX3_turns_138 5 rfl ?_
  refine v_lmul C dX3_turns_139 ?_
  refine v_lload C dX3_turns_140 4 rfl ?_
  refine v_lmul C dX3_turns_142 ?_
  refine v_aload_n C dX3_turns_143 6 rfl ?_
  refine g_getQ C dX3_turns_144 cls_3 (Nat.le_of_ble_eq_true rfl) fl_X3_88 fs_X3_88 (fun y35 hy35 => ?_)
  refine VF.bind (fun a36 ha36 => ?_)
  subst ha36
  refine g_getA C dX3_turns_147 cls_6 (Nat.le_of_ble_eq_true rfl) fl_X3_114 fs_X3_114 (fun y37 hy37 => ?_)
  refine v_iload_n C dX3_turns_150 7 rfl ?_
  refine g_ial C dX3_turns_151 (fun y38 hy38 => ?_)
  refine v_i2l C dX3_turns_152 ?_
  refine v_lload_n C dX3_turns_153 5 rfl ?_
  refine v_lmul C dX3_turns_154 ?_
  refine v_lload C dX3_turns_155 3 rfl ?_
  refine v_lmul C dX3_turns_157 ?_
  refine v_lsub C dX3_turns_158 ?_
  refine v_letl (fun y39 hy39 => ?_)
  refine v_lstore C (lv' := [(14, .long y39), (12, .long y30), (10, .long y27), (8, .long y18), (6, .long y15), (4, .long y10), (2, .long y5), (0, .ref x0), (1, .int x1)]) dX3_turns_159 (Nat.le_of_ble_eq_true rfl) rfl ?_
  refine v_lload C dX3_turns_161 3 rfl ?_
  refine v_lload C dX3_turns_163 0 rfl ?_
  refine v_lmul C dX3_turns_165 ?_
  refine v_lload C dX3_turns_166 1 rfl ?_
  refine v_lload C dX3_turns_168 2 rfl ?_
  refine v_lmul C dX3_turns_170 ?_
  refine v_lcmp_eq C (tgt := 179) dX3_turns_171 dX3_turns_172 rfl (fun _ => ?_) (fun _ => ?_)
  · refine v_iconst C dX3_turns_179 ci_0 ?_
    exact v_zreturn C hm dX3_turns_180 (Or.inl rfl) rfl
  · refine v_iconst C dX3_turns_175 ci_1 ?_
    refine v_goto C (tgt := 180) dX3_turns_176 rfl ?_
    exact v_zreturn C hm dX3_turns_180 (Or.inr rfl) rfl
theorem o_X3_corner_108 {F : Nat} {x0 : Nat} {x3 : Int32} {x4 : Int32} {x5 : Int32} {x6 : Int32} (k66 : Int32 → Int32 → St → Option (Int32 × St)) (hk66 : ∀ (z5 : Int32) (z6 : Int32) (τ : St), MF mf_p (k66 z5 z6 τ) τ) (S : St) : MF mf_p (C_X3_corner_108 F k66 x0 x3 x4 x5 x6 S) S := by
  unfold C_X3_corner_108
  refine mf_bind (fun y17 hy17 => ?_)
  exact (hk66 x5 y17 S)
theorem o_X3_corner_97 {F : Nat} {x0 : Nat} {x3 : Int32} {x4 : Int32} {x5 : Int32} {x6 : Int32} (k66 : Int32 → Int32 → St → Option (Int32 × St)) (hk66 : ∀ (z5 : Int32) (z6 : Int32) (τ : St), MF mf_p (k66 z5 z6 τ) τ) (S : St) : MF mf_p (C_X3_corner_97 F k66 x0 x3 x4 x5 x6 S) S := by
  unfold C_X3_corner_97
  refine mf_ite ?_ ?_
  · exact mf_ret leG.rf
  · refine mf_bind (fun y16 hy16 => ?_)
    exact (o_X3_corner_108 k66 hk66 S)
theorem o_X3_corner_66 {F : Nat} {x0 : Nat} {x3 : Int32} {x4 : Int32}  : ∀ (n : Nat) (x5 : Int32) (x6 : Int32) (S : St), MF mf_p (C_X3_corner_66 F x0 x3 x4 n x5 x6 S) S := by
  intro n
  induction n with
  | zero => intro x5 x6 S; exact mf_none
  | succ n ih =>
    intro x5 x6 S
    unfold C_X3_corner_66
    refine mf_ite ?_ ?_
    · exact mf_ret leG.rf
    · refine mf_ite ?_ ?_
      · exact (o_X3_corner_97 (C_X3_corner_66 F x0 x3 x4 n) ih S)
      · refine mf_ite ?_ ?_
        · exact (o_X3_corner_97 (C_X3_corner_66 F x0 x3 x4 n) ih S)
        · refine mf_bind (fun r15 hr15 => ?_)
          refine mf_ite ?_ ?_
          · exact (o_X3_corner_108 (C_X3_corner_66 F x0 x3 x4 n) ih S)
          · exact (o_X3_corner_97 (C_X3_corner_66 F x0 x3 x4 n) ih S)
theorem o_X3_corner_60 {F : Nat} {x0 : Nat} {x2 : Int32} {x3 : Int32} {x4 : Int32}  (S : St) : MF mf_p (C_X3_corner_60 F x0 x2 x3 x4 S) S := by
  unfold C_X3_corner_60
  exact (o_X3_corner_66 F x2 x3 S)
theorem o_X3_corner_28 {F : Nat} {x0 : Nat} {x1 : Int32} {x2 : Int32} {x3 : Int32}  : ∀ (n : Nat) (x4 : Int32) (S : St), MF mf_p (C_X3_corner_28 F x0 x1 x2 x3 n x4 S) S := by
  intro n
  induction n with
  | zero => intro x4 S; exact mf_none
  | succ n ih =>
    intro x4 S
    unfold C_X3_corner_28
    refine mf_bind (fun y7 hy7 => ?_)
    refine mf_bind (fun a8 ha8 => ?_)
    refine mf_bind (fun y9 hy9 => ?_)
    refine mf_ite ?_ ?_
    · exact (o_X3_corner_60 S)
    · refine mf_bind (fun y10 hy10 => ?_)
      refine mf_bind (fun a11 ha11 => ?_)
      refine mf_bind (fun y12 hy12 => ?_)
      refine mf_bind (fun y13 hy13 => ?_)
      refine mf_ite ?_ ?_
      · refine mf_bind (fun y14 hy14 => ?_)
        exact (ih y14 S)
      · exact (o_X3_corner_60 S)
theorem o_X3_corner_25 {F : Nat} {x0 : Nat} {x1 : Int32} {x2 : Int32} {x3 : Int32}  (S : St) : MF mf_p (C_X3_corner_25 F x0 x1 x2 x3 S) S := by
  unfold C_X3_corner_25
  exact (o_X3_corner_28 F x3 S)
theorem o_X3_corner_6 {F : Nat} {x0 : Nat} {x1 : Int32} {x2 : Int32}  : ∀ (n : Nat) (x3 : Int32) (S : St), MF mf_p (C_X3_corner_6 F x0 x1 x2 n x3 S) S := by
  intro n
  induction n with
  | zero => intro x3 S; exact mf_none
  | succ n ih =>
    intro x3 S
    unfold C_X3_corner_6
    refine mf_bind (fun y2 hy2 => ?_)
    refine mf_bind (fun a3 ha3 => ?_)
    refine mf_bind (fun y4 hy4 => ?_)
    refine mf_bind (fun y5 hy5 => ?_)
    refine mf_ite ?_ ?_
    · exact (o_X3_corner_25 S)
    · refine mf_bind (fun y6 hy6 => ?_)
      exact (ih y6 S)
theorem mono_X3_corner {F : Nat} {S : St} {x0 : Nat} {x1 : Int32} {x2 : Int32} {r : Int32 × St} (h : C_X3_corner F S x0 x1 x2 = some r) : leG S r.2 := by
  have q : MF mf_p (C_X3_corner F S x0 x1 x2) S := by
    unfold C_X3_corner
    refine mf_bind (fun _ _ => ?_)
    refine mf_callv (fun _ z => mono_X3_layPoints z) (fun r1 hr1 => ?_)
    exact (o_X3_corner_6 F 0 r1)
  exact q r h
theorem w_X3_corner_108 {P : GP} {X : Ctx} {l : Launch} {S0 : St} {F : Nat} (hO : okG P) (C : CX (OG P) X l cX3_corner 7 RX3 (some .int)) (hm : X.2.2.2.2.2.2.2.2.2 = none) {x0 : Nat} {x3 : Int32} {x4 : Int32} {x5 : Int32} {x6 : Int32} (k66 : Int32 → Int32 → St → Option (Int32 × St)) (hk66 : ∀ (z5 : Int32) (z6 : Int32) (τ : St), VF (OG P) X 7 47 3137 S0 f_mi (k66 z5 z6 τ) τ 66 [(0, .ref x0), (3, .int x3), (4, .int x4), (5, .int z5), (6, .int z6)] []) (S : St) : VF (OG P) X 7 47 3137 S0 f_mi (C_X3_corner_108 F k66 x0 x3 x4 x5 x6 S) S 108 [(0, .ref x0), (3, .int x3), (4, .int x4), (5, .int x5), (6, .int x6)] [] := by
  unfold C_X3_corner_108
  refine v_iincN C (lv' := fun y17 => [(6, .int y17), (0, .ref x0), (3, .int x3), (4, .int x4), (5, .int x5)]) dX3_corner_108 4 rfl ci_1 (Nat.le_of_ble_eq_true rfl) (fun _ => rfl) (fun y17 hy17 => ?_)
  refine v_goto C (tgt := 66) dX3_corner_111 rfl ?_
  exact v_sub [1, 2, 3, 4, 0] rfl (hk66 x5 y17 S)
theorem w_X3_corner_97 {P : GP} {X : Ctx} {l : Launch} {S0 : St} {F : Nat} (hO : okG P) (C : CX (OG P) X l cX3_corner 7 RX3 (some .int)) (hm : X.2.2.2.2.2.2.2.2.2 = none) {x0 : Nat} {x3 : Int32} {x4 : Int32} {x5 : Int32} {x6 : Int32} (k66 : Int32 → Int32 → St → Option (Int32 × St)) (hk66 : ∀ (z5 : Int32) (z6 : Int32) (τ : St), VF (OG P) X 7 47 3137 S0 f_mi (k66 z5 z6 τ) τ 66 [(0, .ref x0), (3, .int x3), (4, .int x4), (5, .int z5), (6, .int z6)] []) (S : St) : VF (OG P) X 7 47 3137 S0 f_mi (C_X3_corner_97 F k66 x0 x3 x4 x5 x6 S) S 97 [(0, .ref x0), (3, .int x3), (4, .int x4), (5, .int x5), (6, .int x6)] [] := by
  unfold C_X3_corner_97
  refine v_iload C dX3_corner_97 3 rfl ?_
  refine v_if_ne C (tgt := 105) dX3_corner_99 rfl (fun _ => ?_) (fun _ => ?_)
  · refine v_iload C dX3_corner_102 4 rfl ?_
    exact v_ireturn C hm dX3_corner_104 rfl
  · refine v_iincN C (lv' := fun y16 => [(5, .int y16), (0, .ref x0), (3, .int x3), (4, .int x4), (6, .int x6)]) dX3_corner_105 3 rfl ci_m1 (Nat.le_of_ble_eq_true rfl) (fun _ => rfl) (fun y16 hy16 => ?_)
    exact v_sub [1, 2, 3, 0, 4] rfl (w_X3_corner_108 hO C hm k66 hk66 S)
theorem w_X3_corner_66 {P : GP} {X : Ctx} {l : Launch} {S0 : St} {F : Nat} (hO : okG P) (C : CX (OG P) X l cX3_corner 7 RX3 (some .int)) (hm : X.2.2.2.2.2.2.2.2.2 = none) {x0 : Nat} {x3 : Int32} {x4 : Int32}  : ∀ (n : Nat) (x5 : Int32) (x6 : Int32) (S : St), VF (OG P) X 7 47 3137 S0 f_mi (C_X3_corner_66 F x0 x3 x4 n x5 x6 S) S 66 [(0, .ref x0), (3, .int x3), (4, .int x4), (5, .int x5), (6, .int x6)] [] := by
  intro n
  induction n with
  | zero => intro x5 x6 S; exact VF.none
  | succ n ih =>
    intro x5 x6 S
    unfold C_X3_corner_66
    refine v_iload C dX3_corner_66 4 rfl ?_
    refine v_iload C dX3_corner_68 2 rfl ?_
    refine v_icmp_ge C (tgt := 114) dX3_corner_70 rfl (fun _ => ?_) (fun _ => ?_)
    · refine v_iconst C dX3_corner_114 ci_m1 ?_
      exact v_ireturn C hm dX3_corner_115 rfl
    · refine v_iload C dX3_corner_73 4 rfl ?_
      refine v_iload_n C dX3_corner_75 1 rfl ?_
      refine v_icmp_eq C (tgt := 97) dX3_corner_76 rfl (fun _ => ?_) (fun _ => ?_)
      · exact v_sub [0, 1, 2, 3, 4] rfl (w_X3_corner_97 hO C hm (C_X3_corner_66 F x0 x3 x4 n) ih S)
      · refine v_iload C dX3_corner_79 4 rfl ?_
        refine v_iload C dX3_corner_81 2 rfl ?_
        refine v_iconst C dX3_corner_83 ci_1 ?_
        refine v_isub C dX3_corner_84 ?_
        refine v_icmp_eq C (tgt := 97) dX3_corner_85 rfl (fun _ => ?_) (fun _ => ?_)
        · exact v_sub [0, 1, 2, 3, 4] rfl (w_X3_corner_97 hO C hm (C_X3_corner_66 F x0 x3 x4 n) ih S)
        · refine v_aload_n C dX3_corner_88 0 rfl ?_
          refine v_iload C dX3_corner_89 4 rfl ?_
          refine g_callV_ri C (As := [.int x6]) (st := []) lk_X3_212 dX3_corner_91 rfl (Nat.le_of_ble_eq_true rfl) (Nat.le_of_ble_eq_true rfl) (Nat.le_of_ble_eq_true rfl) cls_3.1 rfl (fun _ z => rc_X3_turns z) (fun _ z => met_X3_turns hO F S x0 x6 z) (fun r15 hr15 => ?_)
          refine v_if_eq C (tgt := 108) dX3_corner_94 rfl (fun _ => ?_) (fun _ => ?_)
          · exact v_sub [0, 1, 2, 3, 4] rfl (w_X3_corner_108 hO C hm (C_X3_corner_66 F x0 x3 x4 n) ih S)
          · exact v_sub [0, 1, 2, 3, 4] rfl (w_X3_corner_97 hO C hm (C_X3_corner_66 F x0 x3 x4 n) ih S)
theorem w_X3_corner_60 {P : GP} {X : Ctx} {l : Launch} {S0 : St} {F : Nat} (hO : okG P) (C : CX (OG P) X l cX3_corner 7 RX3 (some .int)) (hm : X.2.2.2.2.2.2.2.2.2 = none) {x0 : Nat} {x2 : Int32} {x3 : Int32} {x4 : Int32}  (S : St) : VF (OG P) X 7 47 3137 S0 f_mi (C_X3_corner_60 F x0 x2 x3 x4 S) S 60 [(0, .ref x0), (2, .int x2), (3, .int x3), (4, .int x4)] [] := by
  unfold C_X3_corner_60
  refine v_iload_n C dX3_corner_60 1 rfl ?_
  refine v_istore C (lv' := [(5, .int x2), (0, .ref x0), (2, .int x2), (3, .int x3), (4, .int x4)]) dX3_corner_61 (Nat.le_of_ble_eq_true rfl) rfl ?_
  refine v_iload_n C dX3_corner_63 3 rfl ?_
  refine v_istore C (lv' := [(6, .int x3), (5, .int x2), (0, .ref x0), (2, .int x2), (3, .int x3), (4, .int x4)]) dX3_corner_64 (Nat.le_of_ble_eq_true rfl) rfl ?_
  exact v_sub [2, 4, 5, 1, 0] rfl (w_X3_corner_66 hO C hm F x2 x3 S)
theorem w_X3_corner_28 {P : GP} {X : Ctx} {l : Launch} {S0 : St} {F : Nat} (hO : okG P) (C : CX (OG P) X l cX3_corner 7 RX3 (some .int)) (hm : X.2.2.2.2.2.2.2.2.2 = none) {x0 : Nat} {x1 : Int32} {x2 : Int32} {x3 : Int32}  : ∀ (n : Nat) (x4 : Int32) (S : St), VF (OG P) X 7 47 3137 S0 f_mi (C_X3_corner_28 F x0 x1 x2 x3 n x4 S) S 28 [(0, .ref x0), (1, .int x1), (2, .int x2), (3, .int x3), (4, .int x4)] [] := by
  intro n
  induction n with
  | zero => intro x4 S; exact VF.none
  | succ n ih =>
    intro x4 S
    unfold C_X3_corner_28
    refine v_iload C dX3_corner_28 4 rfl ?_
    refine v_aload_n C dX3_corner_30 0 rfl ?_
    refine g_getQ C dX3_corner_31 cls_3 (Nat.le_of_ble_eq_true rfl) fl_X3_88 fs_X3_88 (fun y7 hy7 => ?_)
    refine VF.bind (fun a8 ha8 => ?_)
    subst ha8
    refine g_getI C dX3_corner_34 cls_6 (Nat.le_of_ble_eq_true rfl) fl_X3_109 fs_X3_109 (fun y9 hy9 => ?_)
    refine v_icmp_ge C (tgt := 60) dX3_corner_37 rfl (fun _ => ?_) (fun _ => ?_)
    · exact v_sub [0, 2, 3, 4] rfl (w_X3_corner_60 hO C hm S)
    · refine v_aload_n C dX3_corner_40 0 rfl ?_
      refine g_getQ C dX3_corner_41 cls_3 (Nat.le_of_ble_eq_true rfl) fl_X3_88 fs_X3_88 (fun y10 hy10 => ?_)
      refine VF.bind (fun a11 ha11 => ?_)
      subst ha11
      refine g_getA C dX3_corner_44 cls_6 (Nat.le_of_ble_eq_true rfl) fl_X3_112 fs_X3_112 (fun y12 hy12 => ?_)
      refine v_iload C dX3_corner_47 4 rfl ?_
      refine g_ial C dX3_corner_49 (fun y13 hy13 => ?_)
      refine v_iload_n C dX3_corner_50 1 rfl ?_
      refine v_icmp_ne C (tgt := 60) dX3_corner_51 rfl (fun _ => ?_) (fun _ => ?_)
      · refine v_iincN C (lv' := fun y14 => [(4, .int y14), (0, .ref x0), (1, .int x1), (2, .int x2), (3, .int x3)]) dX3_corner_54 4 rfl ci_1 (Nat.le_of_ble_eq_true rfl) (fun _ => rfl) (fun y14 hy14 => ?_)
        refine v_goto C (tgt := 28) dX3_corner_57 rfl ?_
        exact v_sub [1, 2, 3, 4, 0] rfl (ih y14 S)
      · exact v_sub [0, 2, 3, 4] rfl (w_X3_corner_60 hO C hm S)
theorem w_X3_corner_25 {P : GP} {X : Ctx} {l : Launch} {S0 : St} {F : Nat} (hO : okG P) (C : CX (OG P) X l cX3_corner 7 RX3 (some .int)) (hm : X.2.2.2.2.2.2.2.2.2 = none) {x0 : Nat} {x1 : Int32} {x2 : Int32} {x3 : Int32}  (S : St) : VF (OG P) X 7 47 3137 S0 f_mi (C_X3_corner_25 F x0 x1 x2 x3 S) S 25 [(0, .ref x0), (1, .int x1), (2, .int x2), (3, .int x3)] [] := by
  unfold C_X3_corner_25
  refine v_iload_n C dX3_corner_25 3 rfl ?_
  refine v_istore C (lv' := [(4, .int x3), (0, .ref x0), (1, .int x1), (2, .int x2), (3, .int x3)]) dX3_corner_26 (Nat.le_of_ble_eq_true rfl) rfl ?_
  exact v_sub [1, 2, 3, 4, 0] rfl (w_X3_corner_28 hO C hm F x3 S)
theorem w_X3_corner_6 {P : GP} {X : Ctx} {l : Launch} {S0 : St} {F : Nat} (hO : okG P) (C : CX (OG P) X l cX3_corner 7 RX3 (some .int)) (hm : X.2.2.2.2.2.2.2.2.2 = none) {x0 : Nat} {x1 : Int32} {x2 : Int32}  : ∀ (n : Nat) (x3 : Int32) (S : St), VF (OG P) X 7 47 3137 S0 f_mi (C_X3_corner_6 F x0 x1 x2 n x3 S) S 6 [(0, .ref x0), (1, .int x1), (2, .int x2), (3, .int x3)] [] := by
  intro n
  induction n with
  | zero => intro x3 S; exact VF.none
  | succ n ih =>
    intro x3 S
    unfold C_X3_corner_6
    refine v_aload_n C dX3_corner_6 0 rfl ?_
    refine g_getQ C dX3_corner_7 cls_3 (Nat.le_of_ble_eq_true rfl) fl_X3_88 fs_X3_88 (fun y2 hy2 => ?_)
    refine VF.bind (fun a3 ha3 => ?_)
    subst ha3
    refine g_getA C dX3_corner_10 cls_6 (Nat.le_of_ble_eq_true rfl) fl_X3_112 fs_X3_112 (fun y4 hy4 => ?_)
    refine v_iload_n C dX3_corner_13 3 rfl ?_
    refine g_ial C dX3_corner_14 (fun y5 hy5 => ?_)
    refine v_iload_n C dX3_corner_15 1 rfl ?_
    refine v_icmp_eq C (tgt := 25) dX3_corner_16 rfl (fun _ => ?_) (fun _ => ?_)
    · exact v_sub [0, 1, 2, 3] rfl (w_X3_corner_25 hO C hm S)
    · refine v_iincN C (lv' := fun y6 => [(3, .int y6), (0, .ref x0), (1, .int x1), (2, .int x2)]) dX3_corner_19 3 rfl ci_1 (Nat.le_of_ble_eq_true rfl) (fun _ => rfl) (fun y6 hy6 => ?_)
      refine v_goto C (tgt := 6) dX3_corner_22 rfl ?_
      exact v_sub [1, 2, 3, 0] rfl (ih y6 S)
theorem met_X3_corner {P : GP} {l : Launch} (hO : okG P) (F : Nat) (S : St) (x0 : Nat) (x1 : Int32) (x2 : Int32) {r : Int32 × St} (h : C_X3_corner F S x0 x1 x2 = some r) : FM l (OG P) yX3_corner (ws_ yX3_corner cX3_corner 7 (some .int)) 47 3137 [.ref x0, .int x1, .int x2] S (f_mi r) := by
  refine FM.of (own := RX3) (lv := [(0, .ref x0), (1, .int x1), (2, .int x2)]) (OG_ok P hO) pl_X3 rfl (Nat.le_of_ble_eq_true rfl) rfl h (mono_X3_corner h).LE (fun X C hm => ?_)
  unfold C_X3_corner
  refine VF.bind (fun _ _ => ?_)
  refine v_aload_n C dX3_corner_0 0 rfl ?_
  refine g_callV_mv C (As := []) (st := []) lk_X3_173 dX3_corner_1 rfl (Nat.le_of_ble_eq_true rfl) (Nat.le_of_ble_eq_true rfl) (Nat.le_of_ble_eq_true rfl) cls_3.1 rfl (fun _ z => rc_X3_layPoints z) (fun _ z => met_X3_layPoints hO F S x0 z) (fun r1 hr1 => ?_)
  refine v_iconst C dX3_corner_4 ci_0 ?_
  refine v_istore_n C (lv' := [(3, .int 0), (0, .ref x0), (1, .int x1), (2, .int x2)]) dX3_corner_5 (Nat.le_of_ble_eq_true rfl) rfl ?_
  exact v_sub [1, 2, 3, 0] rfl (w_X3_corner_6 hO C hm F 0 r1)
theorem o_X1_cornerOf_17 {F : Nat} {x0 : Nat} {x3 : Int32}  (s0 : Int32) (S : St) : MF mf_p (C_X1_cornerOf_17 F x0 x3 s0 S) S := by
  unfold C_X1_cornerOf_17
  refine mf_ite ?_ ?_
  · exact mf_ret leG.rf
  · refine mf_bind (fun y3 hy3 => ?_)
    refine mf_bind (fun y4 hy4 => ?_)
    refine mf_ite ?_ ?_
    · refine mf_bind (fun a5 ha5 => ?_)
      refine mf_bind (fun y6 hy6 => ?_)
      refine mf_bind (fun y7 hy7 => ?_)
      exact mf_ret leG.rf
    · refine mf_ite ?_ ?_
      · refine mf_bind (fun a8 ha8 => ?_)
        refine mf_bind (fun y9 hy9 => ?_)
        refine mf_bind (fun y10 hy10 => ?_)
        exact mf_ret leG.rf
      · refine mf_bind (fun y11 hy11 => ?_)
        refine mf_bind (fun r12 hr12 => ?_)
        refine mf_bind (fun a13 ha13 => ?_)
        refine mf_bind (fun y14 hy14 => ?_)
        refine mf_bind (fun y15 hy15 => ?_)
        refine mf_bind (fun r16 hr16 => ?_)
        exact mf_ret leG.rf
theorem mono_X1_cornerOf {F : Nat} {S : St} {x0 : Nat} {x1 : Int32} {x2 : Int32} {x3 : Int32} {r : Int32 × St} (h : C_X1_cornerOf F S x0 x1 x2 x3 = some r) : leG S r.2 := by
  have q : MF mf_p (C_X1_cornerOf F S x0 x1 x2 x3) S := by
    unfold C_X1_cornerOf
    refine mf_bind (fun _ _ => ?_)
    refine mf_ite ?_ ?_
    · refine mf_bind (fun y1 hy1 => ?_)
      refine mf_call (fun _ z => mono_X3_corner z) (fun r2 hr2 => ?_)
      exact (o_X1_cornerOf_17 (r2.1) r2.2)
    · exact (o_X1_cornerOf_17 (-1) S)
  exact q r h
theorem w_X1_cornerOf_17 {P : GP} {X : Ctx} {l : Launch} {S0 : St} {F : Nat} (hO : okG P) (C : CX (OG P) X l cX1_cornerOf 6 RX1 (some .int)) (hm : X.2.2.2.2.2.2.2.2.2 = none) {x0 : Nat} {x3 : Int32}  (s0 : Int32) (S : St) : VF (OG P) X 6 48 3163 S0 f_mi (C_X1_cornerOf_17 F x0 x3 s0 S) S 17 [(0, .ref x0), (3, .int x3)] [.int s0] := by
  unfold C_X1_cornerOf_17
  refine v_istore C (lv' := [(4, .int s0), (0, .ref x0), (3, .int x3)]) dX1_cornerOf_17 (Nat.le_of_ble_eq_true rfl) rfl ?_
  refine v_iload C dX1_cornerOf_19 0 rfl ?_
  refine v_iconst C dX1_cornerOf_21 ci_m1 ?_
  refine v_icmp_ne C (tgt := 27) dX1_cornerOf_22 rfl (fun _ => ?_) (fun _ => ?_)
  · refine v_iconst C dX1_cornerOf_25 ci_m1 ?_
    exact v_ireturn C hm dX1_cornerOf_26 rfl
  · refine v_aload_n C dX1_cornerOf_27 1 rfl ?_
    refine g_getA C dX1_cornerOf_28 cls_1 (Nat.le_of_ble_eq_true rfl) fl_X1_48 fs_X1_48 (fun y3 hy3 => ?_)
    refine g_getQ C dX1_cornerOf_31 cls_3 (Nat.le_of_ble_eq_true rfl) fl_X1_251 fs_X1_251 (fun y4 hy4 => ?_)
    refine g_astoreQ C (lv' := [(5, va_rf y4), (4, .int s0), (0, .ref x0), (3, .int x3)]) dX1_cornerOf_34 (Nat.le_of_ble_eq_true rfl) rfl ?_
    refine v_iload_n C dX1_cornerOf_36 3 rfl ?_
    refine v_if_ne C (tgt := 51) dX1_cornerOf_37 rfl (fun _ => ?_) (fun _ => ?_)
    · refine g_aloadQ C dX1_cornerOf_40 0 rfl ?_
      refine VF.bind (fun a5 ha5 => ?_)
      subst ha5
      refine g_getA C dX1_cornerOf_42 cls_6 (Nat.le_of_ble_eq_true rfl) fl_X1_255 fs_X1_255 (fun y6 hy6 => ?_)
      refine v_iload C dX1_cornerOf_45 1 rfl ?_
      refine g_ial C dX1_cornerOf_47 (fun y7 hy7 => ?_)
      refine v_goto C (tgt := 91) dX1_cornerOf_48 rfl ?_
      exact v_ireturn C hm dX1_cornerOf_91 rfl
    · refine v_iload_n C dX1_cornerOf_51 3 rfl ?_
      refine v_iconst C dX1_cornerOf_52 ci_1 ?_
      refine v_icmp_ne C (tgt := 67) dX1_cornerOf_53 rfl (fun _ => ?_) (fun _ => ?_)
      · refine g_aloadQ C dX1_cornerOf_56 0 rfl ?_
        refine VF.bind (fun a8 ha8 => ?_)
        subst ha8
        refine g_getA C dX1_cornerOf_58 cls_6 (Nat.le_of_ble_eq_true rfl) fl_X1_260 fs_X1_260 (fun y9 hy9 => ?_)
        refine v_iload C dX1_cornerOf_61 1 rfl ?_
        refine g_ial C dX1_cornerOf_63 (fun y10 hy10 => ?_)
        refine v_goto C (tgt := 91) dX1_cornerOf_64 rfl ?_
        exact v_ireturn C hm dX1_cornerOf_91 rfl
      · refine v_aload_n C dX1_cornerOf_67 2 rfl ?_
        refine g_getA C dX1_cornerOf_68 cls_1 (Nat.le_of_ble_eq_true rfl) fl_X1_48 fs_X1_48 (fun y11 hy11 => ?_)
        refine v_iload C dX1_cornerOf_71 1 rfl ?_
        refine g_callVN_rl C (As := [.int s0]) (st := []) lk_X1_263 dX1_cornerOf_73 rfl (Nat.le_of_ble_eq_true rfl) (Nat.le_of_ble_eq_true rfl) (Nat.le_of_ble_eq_true rfl) cls_3.1 rfl (fun _ z => rc_X3_heightAt z) (fun _ z => met_X3_heightAt hO F S y11 s0 z) (fun r12 hr12 => ?_)
        refine g_aloadQ C dX1_cornerOf_76 0 rfl ?_
        refine VF.bind (fun a13 ha13 => ?_)
        subst ha13
        refine g_getA C dX1_cornerOf_78 cls_6 (Nat.le_of_ble_eq_true rfl) fl_X1_260 fs_X1_260 (fun y14 hy14 => ?_)
        refine v_iload C dX1_cornerOf_81 1 rfl ?_
        refine g_ial C dX1_cornerOf_83 (fun y15 hy15 => ?_)
        refine v_i2l C dX1_cornerOf_84 ?_
        refine v_iload_n C dX1_cornerOf_85 3 rfl ?_
        refine v_iconst C dX1_cornerOf_86 ci_2 ?_
        refine v_isub C dX1_cornerOf_87 ?_
        refine v_callS_ri C (As := [.long r12, .long (((y15) : Int32).toInt64), .int (x3 - 2)]) (st := []) lk_X1_230 dX1_cornerOf_88 rfl (Nat.le_of_ble_eq_true rfl) (Nat.le_of_ble_eq_true rfl) (Nat.le_of_ble_eq_true rfl) (fun _ z => met_X1_partOf hO S r12 (((y15) : Int32).toInt64) (x3 - 2) z) (fun r16 hr16 => ?_)
        exact v_ireturn C hm dX1_cornerOf_91 rfl
theorem met_X1_cornerOf {P : GP} {l : Launch} (hO : okG P) (F : Nat) (S : St) (x0 : Nat) (x1 : Int32) (x2 : Int32) (x3 : Int32) {r : Int32 × St} (h : C_X1_cornerOf F S x0 x1 x2 x3 = some r) : FM l (OG P) yX1_cornerOf (ws_ yX1_cornerOf cX1_cornerOf 6 (some .int)) 48 3163 [.ref x0, .int x1, .int x2, .int x3] S (f_mi r) := by
  refine FM.of (own := RX1) (lv := [(0, .ref x0), (1, .int x1), (2, .int x2), (3, .int x3)]) (OG_ok P hO) pl_X1 rfl (Nat.le_of_ble_eq_true rfl) rfl h (mono_X1_cornerOf h).LE (fun X C hm => ?_)
  unfold C_X1_cornerOf
  refine VF.bind (fun _ _ => ?_)
  refine v_iload_n C dX1_cornerOf_0 2 rfl ?_
  refine v_if_ge C (tgt := 8) dX1_cornerOf_1 rfl (fun _ => ?_) (fun _ => ?_)
  · refine v_aload_n C dX1_cornerOf_8 0 rfl ?_
    refine g_getA C dX1_cornerOf_9 cls_1 (Nat.le_of_ble_eq_true rfl) fl_X1_48 fs_X1_48 (fun y1 hy1 => ?_)
    refine v_iload_n C dX1_cornerOf_12 1 rfl ?_
    refine v_iload_n C dX1_cornerOf_13 2 rfl ?_
    refine g_callV_mi C (As := [.int x1, .int x2]) (st := []) lk_X1_248 dX1_cornerOf_14 rfl (Nat.le_of_ble_eq_true rfl) (Nat.le_of_ble_eq_true rfl) (Nat.le_of_ble_eq_true rfl) cls_3.1 rfl (fun _ z => rc_X3_corner z) (fun _ z => met_X3_corner hO F S y1 x1 x2 z) (fun r2 hr2 => ?_)
    exact v_sub [0, 3] rfl (w_X1_cornerOf_17 hO C hm (r2.1) r2.2)
  · refine v_iconst C dX1_cornerOf_4 ci_m1 ?_
    refine v_goto C (tgt := 17) dX1_cornerOf_5 rfl ?_
    exact v_sub [0, 3] rfl (w_X1_cornerOf_17 hO C hm (-1) S)
theorem met_X1_placeOf {P : GP} {l : Launch} (hO : okG P) (S : St) (x0 : Nat) (x1 : Int32) (x2 : Int32) {r : Int32} (h : C_X1_placeOf S x0 x1 x2 = some r) : FM l (OG P) yX1_placeOf (ws_ yX1_placeOf cX1_placeOf 3 (some .int)) 0 0 [.ref x0, .int x1, .int x2] S ((f_ri S) r) := by
  refine FM.of (own := RX1) (lv := [(0, .ref x0), (1, .int x1), (2, .int x2)]) (OG_ok P hO) pl_X1 rfl (Nat.le_of_ble_eq_true rfl) rfl h LE.rf (fun X C hm => ?_)
  unfold C_X1_placeOf
  refine VF.bind (fun _ _ => ?_)
  refine v_iload_n C dX1_placeOf_0 2 rfl ?_
  refine v_if_ne C (tgt := 19) dX1_placeOf_1 rfl (fun _ => ?_) (fun _ => ?_)
  · refine v_aload_n C dX1_placeOf_4 0 rfl ?_
    refine g_getA C dX1_placeOf_5 cls_1 (Nat.le_of_ble_eq_true rfl) fl_X1_48 fs_X1_48 (fun y1 hy1 => ?_)
    refine g_getQ C dX1_placeOf_8 cls_3 (Nat.le_of_ble_eq_true rfl) fl_X1_251 fs_X1_251 (fun y2 hy2 => ?_)
    refine VF.bind (fun a3 ha3 => ?_)
    subst ha3
    refine g_getA C dX1_placeOf_11 cls_6 (Nat.le_of_ble_eq_true rfl) fl_X1_277 fs_X1_277 (fun y4 hy4 => ?_)
    refine v_iload_n C dX1_placeOf_14 1 rfl ?_
    refine g_ial C dX1_placeOf_15 (fun y5 hy5 => ?_)
    refine v_goto C (tgt := 51) dX1_placeOf_16 rfl ?_
    exact v_ireturn C hm dX1_placeOf_51 rfl
  · refine v_iload_n C dX1_placeOf_19 2 rfl ?_
    refine v_iconst C dX1_placeOf_20 ci_1 ?_
    refine v_icmp_ne C (tgt := 39) dX1_placeOf_21 rfl (fun _ => ?_) (fun _ => ?_)
    · refine v_aload_n C dX1_placeOf_24 0 rfl ?_
      refine g_getA C dX1_placeOf_25 cls_1 (Nat.le_of_ble_eq_true rfl) fl_X1_48 fs_X1_48 (fun y6 hy6 => ?_)
      refine g_getQ C dX1_placeOf_28 cls_3 (Nat.le_of_ble_eq_true rfl) fl_X1_251 fs_X1_251 (fun y7 hy7 => ?_)
      refine VF.bind (fun a8 ha8 => ?_)
      subst ha8
      refine g_getA C dX1_placeOf_31 cls_6 (Nat.le_of_ble_eq_true rfl) fl_X1_255 fs_X1_255 (fun y9 hy9 => ?_)
      refine v_iload_n C dX1_placeOf_34 1 rfl ?_
      refine g_ial C dX1_placeOf_35 (fun y10 hy10 => ?_)
      refine v_goto C (tgt := 51) dX1_placeOf_36 rfl ?_
      exact v_ireturn C hm dX1_placeOf_51 rfl
    · refine v_aload_n C dX1_placeOf_39 0 rfl ?_
      refine g_getA C dX1_placeOf_40 cls_1 (Nat.le_of_ble_eq_true rfl) fl_X1_48 fs_X1_48 (fun y11 hy11 => ?_)
      refine g_getQ C dX1_placeOf_43 cls_3 (Nat.le_of_ble_eq_true rfl) fl_X1_251 fs_X1_251 (fun y12 hy12 => ?_)
      refine VF.bind (fun a13 ha13 => ?_)
      subst ha13
      refine g_getA C dX1_placeOf_46 cls_6 (Nat.le_of_ble_eq_true rfl) fl_X1_260 fs_X1_260 (fun y14 hy14 => ?_)
      refine v_iload_n C dX1_placeOf_49 1 rfl ?_
      refine g_ial C dX1_placeOf_50 (fun y15 hy15 => ?_)
      exact v_ireturn C hm dX1_placeOf_51 rfl
theorem w_X3_cost_6 {P : GP} {X : Ctx} {l : Launch} {F : Nat} {S : St} (hO : okG P) (C : CX (OG P) X l cX3_cost 9 RX3 (some .long)) (hm : X.2.2.2.2.2.2.2.2.2 = none) {x0 : Nat} {x1 : Int32} {x2 : Int64} {x4 : Int64}  : ∀ (n : Nat) (x6 : Int64) (x8 : Int32), VF (OG P) X 9 2 61 S (f_rl S) (C_X3_cost_6 F S x0 x1 x2 x4 n x6 x8) S 6 [(0, .ref x0), (1, .int x1), (2, .long x2), (4, .long x4), (6, .long x6), (8, .int x8)] [] := by
  intro n
  induction n with
  | zero => intro x6 x8; exact VF.none
  | succ n ih =>
    intro x6 x8
    unfold C_X3_cost_6
    refine v_iload C dX3_cost_6 5 rfl ?_
    refine v_aload_n C dX3_cost_8 0 rfl ?_
    refine g_getI C dX3_cost_9 cls_3 (Nat.le_of_ble_eq_true rfl) fl_X3_21 fs_X3_21 (fun y1 hy1 => ?_)
    refine v_icmp_ge C (tgt := 48) dX3_cost_12 rfl (fun _ => ?_) (fun _ => ?_)
    · refine v_lload C dX3_cost_48 4 rfl ?_
      exact v_lreturn C hm dX3_cost_50 rfl
    · refine v_lload C dX3_cost_15 4 rfl ?_
      refine v_aload_n C dX3_cost_17 0 rfl ?_
      refine g_getA C dX3_cost_18 cls_3 (Nat.le_of_ble_eq_true rfl) fl_X3_9 fs_X3_9 (fun y2 hy2 => ?_)
      refine g_getA C dX3_cost_21 cls_2 (Nat.le_of_ble_eq_true rfl) fl_X3_65 fs_X3_65 (fun y3 hy3 => ?_)
      refine v_iload C dX3_cost_24 5 rfl ?_
      refine g_ial C dX3_cost_26 (fun y4 hy4 => ?_)
      refine v_i2l C dX3_cost_27 ?_
      refine v_aload_n C dX3_cost_28 0 rfl ?_
      refine v_iload C dX3_cost_29 5 rfl ?_
      refine v_iload_n C dX3_cost_31 1 rfl ?_
      refine v_lload_n C dX3_cost_32 2 rfl ?_
      refine v_lload C dX3_cost_33 3 rfl ?_
      refine g_callV_rl C (As := [.int x8, .int x1, .long x2, .long x4]) (st := [.long (((y4) : Int32).toInt64), .long x6]) lk_X3_68 dX3_cost_35 rfl (Nat.le_of_ble_eq_true rfl) (Nat.le_of_ble_eq_true rfl) (Nat.le_of_ble_eq_true rfl) cls_3.1 rfl (fun _ z => rc_X3_distanceTo z) (fun _ z => met_X3_distanceTo hO S x0 x8 x1 x2 x4 z) (fun r5 hr5 => ?_)
      refine v_lmul C dX3_cost_38 ?_
      refine v_ladd C dX3_cost_39 ?_
      refine v_letl (fun y6 hy6 => ?_)
      refine v_lstore C (lv' := [(6, .long y6), (0, .ref x0), (1, .int x1), (2, .long x2), (4, .long x4), (8, .int x8)]) dX3_cost_40 (Nat.le_of_ble_eq_true rfl) rfl ?_
      refine v_iincN C (lv' := fun y7 => [(8, .int y7), (6, .long y6), (0, .ref x0), (1, .int x1), (2, .long x2), (4, .long x4)]) dX3_cost_42 5 rfl ci_1 (Nat.le_of_ble_eq_true rfl) (fun _ => rfl) (fun y7 hy7 => ?_)
      refine v_goto C (tgt := 6) dX3_cost_45 rfl ?_
      exact v_sub [2, 3, 4, 5, 1, 0] rfl (ih y6 y7)
theorem met_X3_cost {P : GP} {l : Launch} (hO : okG P) (F : Nat) (S : St) (x0 : Nat) (x1 : Int32) (x2 : Int64) (x4 : Int64) {r : Int64} (h : C_X3_cost F S x0 x1 x2 x4 = some r) : FM l (OG P) yX3_cost (ws_ yX3_cost cX3_cost 9 (some .long)) 2 61 [.ref x0, .int x1, .long x2, .long x4] S ((f_rl S) r) := by
  refine FM.of (own := RX3) (lv := [(0, .ref x0), (1, .int x1), (2, .long x2), (4, .long x4)]) (OG_ok P hO) pl_X3 rfl (Nat.le_of_ble_eq_true rfl) rfl h LE.rf (fun X C hm => ?_)
  unfold C_X3_cost
  refine VF.bind (fun _ _ => ?_)
  refine v_lconst C dX3_cost_0 cl_0 ?_
  refine v_lstore C (lv' := [(6, .long 0), (0, .ref x0), (1, .int x1), (2, .long x2), (4, .long x4)]) dX3_cost_1 (Nat.le_of_ble_eq_true rfl) rfl ?_
  refine v_iconst C dX3_cost_3 ci_0 ?_
  refine v_istore C (lv' := [(8, .int 0), (6, .long 0), (0, .ref x0), (1, .int x1), (2, .long x2), (4, .long x4)]) dX3_cost_4 (Nat.le_of_ble_eq_true rfl) rfl ?_
  exact v_sub [2, 3, 4, 5, 1, 0] rfl (w_X3_cost_6 hO C hm F 0 0)
theorem met_X3_isLess {P : GP} {l : Launch} (hO : okG P) (S : St) (x0 : Int64) (x2 : Int64) (x4 : Int64) (x6 : Int64) {r : Int32} (h : C_X3_isLess x0 x2 x4 x6 = some r) : FM l (OG P) yX3_isLess (ws_ yX3_isLess cX3_isLess 8 (some .boolean)) 0 0 [.long x0, .long x2, .long x4, .long x6] S ((f_ri S) r) := by
  refine FM.of (own := RX3) (lv := [(0, .long x0), (2, .long x2), (4, .long x4), (6, .long x6)]) (OG_ok P hO) pl_X3 rfl (Nat.le_of_ble_eq_true rfl) rfl h LE.rf (fun X C hm => ?_)
  unfold C_X3_isLess
  refine v_lload_n C dX3_isLess_0 0 rfl ?_
  refine v_lload C dX3_isLess_1 3 rfl ?_
  refine v_lmul C dX3_isLess_3 ?_
  refine v_lload C dX3_isLess_4 2 rfl ?_
  refine v_lload_n C dX3_isLess_6 1 rfl ?_
  refine v_lmul C dX3_isLess_7 ?_
  refine v_lcmp_ge C (tgt := 16) dX3_isLess_8 dX3_isLess_9 rfl (fun _ => ?_) (fun _ => ?_)
  · refine v_iconst C dX3_isLess_16 ci_0 ?_
    exact v_zreturn C hm dX3_isLess_17 (Or.inl rfl) rfl
  · refine v_iconst C dX3_isLess_12 ci_1 ?_
    refine v_goto C (tgt := 17) dX3_isLess_13 rfl ?_
    exact v_zreturn C hm dX3_isLess_17 (Or.inr rfl) rfl
theorem o_X3_median_102 {F : Nat} {x0 : Nat} {x1 : Int32} {x2 : Int64} {x4 : Int32} (k18 : Int32 → Int64 → Int32 → St → Option (Int32 × St)) (hk18 : ∀ (z1 : Int32) (z2 : Int64) (z4 : Int32) (τ : St), MF mf_p (k18 z1 z2 z4 τ) τ) (S : St) : MF mf_p (C_X3_median_102 F k18 x0 x1 x2 x4 S) S := by
  unfold C_X3_median_102
  refine mf_bind (fun y28 hy28 => ?_)
  refine mf_bind (fun a29 ha29 => ?_)
  refine mf_call (fun _ z => mono_J27_nextSetBit z) (fun r30 hr30 => ?_)
  refine mf_bind (fun y31 hy31 => ?_)
  exact (hk18 x1 x2 y31 r30.2)
theorem o_X3_median_96 {F : Nat} {x0 : Nat} {x4 : Int32} {x5 : Int64} (k18 : Int32 → Int64 → Int32 → St → Option (Int32 × St)) (hk18 : ∀ (z1 : Int32) (z2 : Int64) (z4 : Int32) (τ : St), MF mf_p (k18 z1 z2 z4 τ) τ) (S : St) : MF mf_p (C_X3_median_96 F k18 x0 x4 x5 S) S := by
  unfold C_X3_median_96
  exact (o_X3_median_102 k18 hk18 S)
theorem o_X3_median_18 {F : Nat} {x0 : Nat}  : ∀ (n : Nat) (x1 : Int32) (x2 : Int64) (x4 : Int32) (S : St), MF mf_p (C_X3_median_18 F x0 n x1 x2 x4 S) S := by
  intro n
  induction n with
  | zero => intro x1 x2 x4 S; exact mf_none
  | succ n ih =>
    intro x1 x2 x4 S
    unfold C_X3_median_18
    refine mf_ite ?_ ?_
    · exact mf_ret leG.rf
    · refine mf_bind (fun y6 hy6 => ?_)
      refine mf_bind (fun a7 ha7 => ?_)
      refine mf_bind (fun y8 hy8 => ?_)
      refine mf_bind (fun y9 hy9 => ?_)
      refine mf_bind (fun y10 hy10 => ?_)
      refine mf_bind (fun a11 ha11 => ?_)
      refine mf_bind (fun y12 hy12 => ?_)
      refine mf_bind (fun y13 hy13 => ?_)
      refine mf_bind (fun y14 hy14 => ?_)
      refine mf_bind (fun a15 ha15 => ?_)
      refine mf_bind (fun y16 hy16 => ?_)
      refine mf_bind (fun y17 hy17 => ?_)
      refine mf_bind (fun r18 hr18 => ?_)
      refine mf_ite ?_ ?_
      · exact (o_X3_median_96 (C_X3_median_18 F x0 n) ih S)
      · refine mf_bind (fun y19 hy19 => ?_)
        refine mf_bind (fun a20 ha20 => ?_)
        refine mf_bind (fun y21 hy21 => ?_)
        refine mf_bind (fun y22 hy22 => ?_)
        refine mf_bind (fun y23 hy23 => ?_)
        refine mf_bind (fun a24 ha24 => ?_)
        refine mf_bind (fun y25 hy25 => ?_)
        refine mf_bind (fun y26 hy26 => ?_)
        refine mf_bind (fun r27 hr27 => ?_)
        refine mf_ite ?_ ?_
        · exact (o_X3_median_102 (C_X3_median_18 F x0 n) ih S)
        · exact (o_X3_median_96 (C_X3_median_18 F x0 n) ih S)
theorem mono_X3_median {F : Nat} {S : St} {x0 : Nat} {r : Int32 × St} (h : C_X3_median F S x0 = some r) : leG S r.2 := by
  have q : MF mf_p (C_X3_median F S x0) S := by
    unfold C_X3_median
    refine mf_bind (fun _ _ => ?_)
    refine mf_callv (fun _ z => mono_X3_layPoints z) (fun r1 hr1 => ?_)
    refine mf_bind (fun y2 hy2 => ?_)
    refine mf_bind (fun a3 ha3 => ?_)
    refine mf_call (fun _ z => mono_J27_nextSetBit z) (fun r4 hr4 => ?_)
    refine mf_bind (fun y5 hy5 => ?_)
    exact (o_X3_median_18 F (-1) 0 y5 r4.2)
  exact q r h
theorem w_X3_median_102 {P : GP} {X : Ctx} {l : Launch} {S0 : St} {F : Nat} (hO : okG P) (C : CX (OG P) X l cX3_median 7 RX3 (some .int)) (hm : X.2.2.2.2.2.2.2.2.2 = none) {x0 : Nat} {x1 : Int32} {x2 : Int64} {x4 : Int32} (k18 : Int32 → Int64 → Int32 → St → Option (Int32 × St)) (hk18 : ∀ (z1 : Int32) (z2 : Int64) (z4 : Int32) (τ : St), VF (OG P) X 7 47 3137 S0 f_mi (k18 z1 z2 z4 τ) τ 18 [(0, .ref x0), (1, .int z1), (2, .long z2), (4, .int z4)] []) (S : St) : VF (OG P) X 7 47 3137 S0 f_mi (C_X3_median_102 F k18 x0 x1 x2 x4 S) S 102 [(0, .ref x0), (1, .int x1), (2, .long x2), (4, .int x4)] [] := by
  unfold C_X3_median_102
  refine v_aload_n C dX3_median_102 0 rfl ?_
  refine g_getQ C dX3_median_103 cls_3 (Nat.le_of_ble_eq_true rfl) fl_X3_105 fs_X3_105 (fun y28 hy28 => ?_)
  refine v_iload C dX3_median_106 3 rfl ?_
  refine v_iconst C dX3_median_108 ci_1 ?_
  refine v_iadd C dX3_median_109 ?_
  refine VF.bind (fun a29 ha29 => ?_)
  subst ha29
  refine g_callV_mi C (As := [.int (x4 + 1)]) (st := []) lk_X3_155 dX3_median_110 rfl (Nat.le_of_ble_eq_true rfl) (Nat.le_of_ble_eq_true rfl) (Nat.le_of_ble_eq_true rfl) cls_16.1 rfl (fun _ z => rc_J27_nextSetBit z) (fun _ z => met_J27_nextSetBit hO F S a29 (x4 + 1) z) (fun r30 hr30 => ?_)
  refine v_leti (fun y31 hy31 => ?_)
  refine v_istore C (lv' := [(4, .int y31), (0, .ref x0), (1, .int x1), (2, .long x2)]) dX3_median_113 (Nat.le_of_ble_eq_true rfl) rfl ?_
  refine v_goto C (tgt := 18) dX3_median_115 rfl ?_
  exact v_sub [1, 2, 3, 0] rfl (hk18 x1 x2 y31 r30.2)
theorem w_X3_median_96 {P : GP} {X : Ctx} {l : Launch} {S0 : St} {F : Nat} (hO : okG P) (C : CX (OG P) X l cX3_median 7 RX3 (some .int)) (hm : X.2.2.2.2.2.2.2.2.2 = none) {x0 : Nat} {x4 : Int32} {x5 : Int64} (k18 : Int32 → Int64 → Int32 → St → Option (Int32 × St)) (hk18 : ∀ (z1 : Int32) (z2 : Int64) (z4 : Int32) (τ : St), VF (OG P) X 7 47 3137 S0 f_mi (k18 z1 z2 z4 τ) τ 18 [(0, .ref x0), (1, .int z1), (2, .long z2), (4, .int z4)] []) (S : St) : VF (OG P) X 7 47 3137 S0 f_mi (C_X3_median_96 F k18 x0 x4 x5 S) S 96 [(0, .ref x0), (4, .int x4), (5, .long x5)] [] := by
  unfold C_X3_median_96
  refine v_iload C dX3_median_96 1 rfl ?_
  refine v_istore_n C (lv' := [(1, .int x4), (0, .ref x0), (4, .int x4), (5, .long x5)]) dX3_median_98 (Nat.le_of_ble_eq_true rfl) rfl ?_
  refine v_lload C dX3_median_99 3 rfl ?_
  refine v_lstore_n C (lv' := [(2, .long x5), (1, .int x4), (0, .ref x0), (4, .int x4), (5, .long x5)]) dX3_median_101 (Nat.le_of_ble_eq_true rfl) rfl ?_
  exact v_sub [2, 1, 0, 3] rfl (w_X3_median_102 hO C hm k18 hk18 S)
theorem w_X3_median_18 {P : GP} {X : Ctx} {l : Launch} {S0 : St} {F : Nat} (hO : okG P) (C : CX (OG P) X l cX3_median 7 RX3 (some .int)) (hm : X.2.2.2.2.2.2.2.2.2 = none) {x0 : Nat}  : ∀ (n : Nat) (x1 : Int32) (x2 : Int64) (x4 : Int32) (S : St), VF (OG P) X 7 47 3137 S0 f_mi (C_X3_median_18 F x0 n x1 x2 x4 S) S 18 [(0, .ref x0), (1, .int x1), (2, .long x2), (4, .int x4)] [] := by
  intro n
  induction n with
  | zero => intro x1 x2 x4 S; exact VF.none
  | succ n ih =>
    intro x1 x2 x4 S
    unfold C_X3_median_18
    refine v_iload C dX3_median_18 3 rfl ?_
    refine v_if_lt C (tgt := 118) dX3_median_20 rfl (fun _ => ?_) (fun _ => ?_)
    · refine v_iload_n C dX3_median_118 1 rfl ?_
      exact v_ireturn C hm dX3_median_119 rfl
    · refine v_aload_n C dX3_median_23 0 rfl ?_
      refine v_aload_n C dX3_median_24 0 rfl ?_
      refine g_getQ C dX3_median_25 cls_3 (Nat.le_of_ble_eq_true rfl) fl_X3_88 fs_X3_88 (fun y6 hy6 => ?_)
      refine VF.bind (fun a7 ha7 => ?_)
      subst ha7
      refine g_getA C dX3_median_28 cls_6 (Nat.le_of_ble_eq_true rfl) fl_X3_112 fs_X3_112 (fun y8 hy8 => ?_)
      refine v_iload C dX3_median_31 3 rfl ?_
      refine g_ial C dX3_median_33 (fun y9 hy9 => ?_)
      refine v_aload_n C dX3_median_34 0 rfl ?_
      refine g_getQ C dX3_median_35 cls_3 (Nat.le_of_ble_eq_true rfl) fl_X3_88 fs_X3_88 (fun y10 hy10 => ?_)
      refine VF.bind (fun a11 ha11 => ?_)
      subst ha11
      refine g_getA C dX3_median_38 cls_6 (Nat.le_of_ble_eq_true rfl) fl_X3_114 fs_X3_114 (fun y12 hy12 => ?_)
      refine v_iload C dX3_median_41 3 rfl ?_
      refine g_ial C dX3_median_43 (fun y13 hy13 => ?_)
      refine v_i2l C dX3_median_44 ?_
      refine v_aload_n C dX3_median_45 0 rfl ?_
      refine g_getQ C dX3_median_46 cls_3 (Nat.le_of_ble_eq_true rfl) fl_X3_88 fs_X3_88 (fun y14 hy14 => ?_)
      refine VF.bind (fun a15 ha15 => ?_)
      subst ha15
      refine g_getA C dX3_median_49 cls_6 (Nat.le_of_ble_eq_true rfl) fl_X3_117 fs_X3_117 (fun y16 hy16 => ?_)
      refine v_iload C dX3_median_52 3 rfl ?_
      refine g_ial C dX3_median_54 (fun y17 hy17 => ?_)
      refine v_i2l C dX3_median_55 ?_
      refine g_callV_rl C (As := [.int y9, .long (((y13) : Int32).toInt64), .long (((y17) : Int32).toInt64)]) (st := []) lk_X3_194 dX3_median_56 rfl (Nat.le_of_ble_eq_true rfl) (Nat.le_of_ble_eq_true rfl) (Nat.le_of_ble_eq_true rfl) cls_3.1 rfl (fun _ z => rc_X3_cost z) (fun _ z => met_X3_cost hO F S x0 y9 (((y13) : Int32).toInt64) (((y17) : Int32).toInt64) z) (fun r18 hr18 => ?_)
      refine v_lstore C (lv' := [(5, .long r18), (0, .ref x0), (1, .int x1), (2, .long x2), (4, .int x4)]) dX3_median_59 (Nat.le_of_ble_eq_true rfl) rfl ?_
      refine v_iload_n C dX3_median_61 2 rfl ?_
      refine v_iconst C dX3_median_62 ci_m1 ?_
      refine v_icmp_eq C (tgt := 96) dX3_median_63 rfl (fun _ => ?_) (fun _ => ?_)
      · exact v_sub [1, 4, 0] rfl (w_X3_median_96 hO C hm (C_X3_median_18 F x0 n) ih S)
      · refine v_lload C dX3_median_66 0 rfl ?_
        refine v_aload_n C dX3_median_68 1 rfl ?_
        refine g_getQ C dX3_median_69 cls_3 (Nat.le_of_ble_eq_true rfl) fl_X3_88 fs_X3_88 (fun y19 hy19 => ?_)
        refine VF.bind (fun a20 ha20 => ?_)
        subst ha20
        refine g_getA C dX3_median_72 cls_6 (Nat.le_of_ble_eq_true rfl) fl_X3_117 fs_X3_117 (fun y21 hy21 => ?_)
        refine v_iload C dX3_median_75 4 rfl ?_
        refine g_ial C dX3_median_77 (fun y22 hy22 => ?_)
        refine v_i2l C dX3_median_78 ?_
        refine v_lload_n C dX3_median_79 3 rfl ?_
        refine v_aload_n C dX3_median_80 1 rfl ?_
        refine g_getQ C dX3_median_81 cls_3 (Nat.le_of_ble_eq_true rfl) fl_X3_88 fs_X3_88 (fun y23 hy23 => ?_)
        refine VF.bind (fun a24 ha24 => ?_)
        subst ha24
        refine g_getA C dX3_median_84 cls_6 (Nat.le_of_ble_eq_true rfl) fl_X3_117 fs_X3_117 (fun y25 hy25 => ?_)
        refine v_iload_n C dX3_median_87 2 rfl ?_
        refine g_ial C dX3_median_88 (fun y26 hy26 => ?_)
        refine v_i2l C dX3_median_89 ?_
        refine v_callS_ri C (As := [.long r18, .long (((y22) : Int32).toInt64), .long x2, .long (((y26) : Int32).toInt64)]) (st := []) lk_X3_162 dX3_median_90 rfl (Nat.le_of_ble_eq_true rfl) (Nat.le_of_ble_eq_true rfl) (Nat.le_of_ble_eq_true rfl) (fun _ z => met_X3_isLess hO S r18 (((y22) : Int32).toInt64) x2 (((y26) : Int32).toInt64) z) (fun r27 hr27 => ?_)
        refine v_if_eq C (tgt := 102) dX3_median_93 rfl (fun _ => ?_) (fun _ => ?_)
        · exact v_sub [1, 2, 3, 4] rfl (w_X3_median_102 hO C hm (C_X3_median_18 F x0 n) ih S)
        · exact v_sub [1, 4, 0] rfl (w_X3_median_96 hO C hm (C_X3_median_18 F x0 n) ih S)
theorem met_X3_median {P : GP} {l : Launch} (hO : okG P) (F : Nat) (S : St) (x0 : Nat) {r : Int32 × St} (h : C_X3_median F S x0 = some r) : FM l (OG P) yX3_median (ws_ yX3_median cX3_median 7 (some .int)) 47 3137 [.ref x0] S (f_mi r) := by
  refine FM.of (own := RX3) (lv := [(0, .ref x0)]) (OG_ok P hO) pl_X3 rfl (Nat.le_of_ble_eq_true rfl) rfl h (mono_X3_median h).LE (fun X C hm => ?_)
  unfold C_X3_median
  refine VF.bind (fun _ _ => ?_)
  refine v_aload_n C dX3_median_0 0 rfl ?_
  refine g_callV_mv C (As := []) (st := []) lk_X3_173 dX3_median_1 rfl (Nat.le_of_ble_eq_true rfl) (Nat.le_of_ble_eq_true rfl) (Nat.le_of_ble_eq_true rfl) cls_3.1 rfl (fun _ z => rc_X3_layPoints z) (fun _ z => met_X3_layPoints hO F S x0 z) (fun r1 hr1 => ?_)
  refine v_iconst C dX3_median_4 ci_m1 ?_
  refine v_istore_n C (lv' := [(1, .int (-1)), (0, .ref x0)]) dX3_median_5 (Nat.le_of_ble_eq_true rfl) rfl ?_
  refine v_lconst C dX3_median_6 cl_0 ?_
  refine v_lstore_n C (lv' := [(2, .long 0), (1, .int (-1)), (0, .ref x0)]) dX3_median_7 (Nat.le_of_ble_eq_true rfl) rfl ?_
  refine v_aload_n C dX3_median_8 2 rfl ?_
  refine g_getQ C dX3_median_9 cls_3 (Nat.le_of_ble_eq_true rfl) fl_X3_105 fs_X3_105 (fun y2 hy2 => ?_)
  refine v_iconst C dX3_median_12 ci_0 ?_
  refine VF.bind (fun a3 ha3 => ?_)
  subst ha3
  refine g_callV_mi C (As := [.int 0]) (st := []) lk_X3_155 dX3_median_13 rfl (Nat.le_of_ble_eq_true rfl) (Nat.le_of_ble_eq_true rfl) (Nat.le_of_ble_eq_true rfl) cls_16.1 rfl (fun _ z => rc_J27_nextSetBit z) (fun _ z => met_J27_nextSetBit hO F r1 a3 0 z) (fun r4 hr4 => ?_)
  refine v_leti (fun y5 hy5 => ?_)
  refine v_istore C (lv' := [(4, .int y5), (2, .long 0), (1, .int (-1)), (0, .ref x0)]) dX3_median_16 (Nat.le_of_ble_eq_true rfl) rfl ?_
  exact v_sub [3, 2, 1, 0] rfl (w_X3_median_18 hO C hm F (-1) 0 y5 r4.2)
theorem mono_X1_medianOf {F : Nat} {S : St} {x0 : Nat} {x1 : Int32} {r : Int32 × St} (h : C_X1_medianOf F S x0 x1 = some r) : leG S r.2 := by
  have q : MF mf_p (C_X1_medianOf F S x0 x1) S := by
    unfold C_X1_medianOf
    refine mf_bind (fun _ _ => ?_)
    refine mf_bind (fun y1 hy1 => ?_)
    refine mf_call (fun _ z => mono_X3_median z) (fun r2 hr2 => ?_)
    refine mf_bind (fun y3 hy3 => ?_)
    refine mf_ite ?_ ?_
    · refine mf_bind (fun y4 hy4 => ?_)
      refine mf_bind (fun y5 hy5 => ?_)
      refine mf_bind (fun y6 hy6 => ?_)
      refine mf_bind (fun a7 ha7 => ?_)
      refine mf_bind (fun y8 hy8 => ?_)
      refine mf_bind (fun y9 hy9 => ?_)
      refine mf_bind (fun y10 hy10 => ?_)
      refine mf_bind (fun y11 hy11 => ?_)
      refine mf_bind (fun y12 hy12 => ?_)
      refine mf_bind (fun y13 hy13 => ?_)
      refine mf_bind (fun r14 hr14 => ?_)
      refine mf_bind (fun y15 hy15 => ?_)
      refine mf_bind (fun y16 hy16 => ?_)
      refine mf_bind (fun r17 hr17 => ?_)
      exact mf_ret leG.rf
    · refine mf_bind (fun r18 hr18 => ?_)
      exact mf_ret leG.rf
  exact q r h
theorem met_X1_medianOf {P : GP} {l : Launch} (hO : okG P) (F : Nat) (S : St) (x0 : Nat) (x1 : Int32) {r : Int32 × St} (h : C_X1_medianOf F S x0 x1 = some r) : FM l (OG P) yX1_medianOf (ws_ yX1_medianOf cX1_medianOf 4 (some .int)) 48 3163 [.ref x0, .int x1] S (f_mi r) := by
  refine FM.of (own := RX1) (lv := [(0, .ref x0), (1, .int x1)]) (OG_ok P hO) pl_X1 rfl (Nat.le_of_ble_eq_true rfl) rfl h (mono_X1_medianOf h).LE (fun X C hm => ?_)
  unfold C_X1_medianOf
  refine VF.bind (fun _ _ => ?_)
  refine v_aload_n C dX1_medianOf_0 0 rfl ?_
  refine g_getA C dX1_medianOf_1 cls_1 (Nat.le_of_ble_eq_true rfl) fl_X1_48 fs_X1_48 (fun y1 hy1 => ?_)
  refine g_callV_mi C (As := []) (st := []) lk_X1_288 dX1_medianOf_4 rfl (Nat.le_of_ble_eq_true rfl) (Nat.le_of_ble_eq_true rfl) (Nat.le_of_ble_eq_true rfl) cls_3.1 rfl (fun _ z => rc_X3_median z) (fun _ z => met_X3_median hO F S y1 z) (fun r2 hr2 => ?_)
  refine v_leti (fun y3 hy3 => ?_)
  refine v_istore_n C (lv' := [(2, .int y3), (0, .ref x0), (1, .int x1)]) dX1_medianOf_7 (Nat.le_of_ble_eq_true rfl) rfl ?_
  refine v_iload_n C dX1_medianOf_8 2 rfl ?_
  refine v_iconst C dX1_medianOf_9 ci_3 ?_
  refine v_icmp_ge C (tgt := 20) dX1_medianOf_10 rfl (fun _ => ?_) (fun _ => ?_)
  · refine v_aload_n C dX1_medianOf_20 1 rfl ?_
    refine g_getA C dX1_medianOf_21 cls_1 (Nat.le_of_ble_eq_true rfl) fl_X1_48 fs_X1_48 (fun y4 hy4 => ?_)
    refine g_getQ C dX1_medianOf_24 cls_3 (Nat.le_of_ble_eq_true rfl) fl_X1_251 fs_X1_251 (fun y5 hy5 => ?_)
    refine g_astore_nQ C (lv' := [(3, va_rf y5), (2, .int y3), (0, .ref x0), (1, .int x1)]) dX1_medianOf_27 (Nat.le_of_ble_eq_true rfl) rfl ?_
    refine v_aload_n C dX1_medianOf_28 2 rfl ?_
    refine g_getA C dX1_medianOf_29 cls_1 (Nat.le_of_ble_eq_true rfl) fl_X1_48 fs_X1_48 (fun y6 hy6 => ?_)
    refine g_aload_nQ C dX1_medianOf_32 0 rfl ?_
    refine VF.bind (fun a7 ha7 => ?_)
    subst ha7
    refine g_getA C dX1_medianOf_33 cls_6 (Nat.le_of_ble_eq_true rfl) fl_X1_277 fs_X1_277 (fun y8 hy8 => ?_)
    refine v_iload_n C dX1_medianOf_36 1 rfl ?_
    refine g_ial C dX1_medianOf_37 (fun y9 hy9 => ?_)
    refine v_aload_n C dX1_medianOf_38 0 rfl ?_
    refine g_getA C dX1_medianOf_39 cls_6 (Nat.le_of_ble_eq_true rfl) fl_X1_255 fs_X1_255 (fun y10 hy10 => ?_)
    refine v_iload_n C dX1_medianOf_42 1 rfl ?_
    refine g_ial C dX1_medianOf_43 (fun y11 hy11 => ?_)
    refine v_i2l C dX1_medianOf_44 ?_
    refine v_aload_n C dX1_medianOf_45 0 rfl ?_
    refine g_getA C dX1_medianOf_46 cls_6 (Nat.le_of_ble_eq_true rfl) fl_X1_260 fs_X1_260 (fun y12 hy12 => ?_)
    refine v_iload_n C dX1_medianOf_49 1 rfl ?_
    refine g_ial C dX1_medianOf_50 (fun y13 hy13 => ?_)
    refine v_i2l C dX1_medianOf_51 ?_
    refine g_callV_rl C (As := [.int y9, .long (((y11) : Int32).toInt64), .long (((y13) : Int32).toInt64)]) (st := []) lk_X1_244 dX1_medianOf_52 rfl (Nat.le_of_ble_eq_true rfl) (Nat.le_of_ble_eq_true rfl) (Nat.le_of_ble_eq_true rfl) cls_3.1 rfl (fun _ z => rc_X3_cost z) (fun _ z => met_X3_cost hO F r2.2 y6 y9 (((y11) : Int32).toInt64) (((y13) : Int32).toInt64) z) (fun r14 hr14 => ?_)
    refine v_aload_n C dX1_medianOf_55 0 rfl ?_
    refine g_getA C dX1_medianOf_56 cls_6 (Nat.le_of_ble_eq_true rfl) fl_X1_260 fs_X1_260 (fun y15 hy15 => ?_)
    refine v_iload_n C dX1_medianOf_59 1 rfl ?_
    refine g_ial C dX1_medianOf_60 (fun y16 hy16 => ?_)
    refine v_i2l C dX1_medianOf_61 ?_
    refine v_iload_n C dX1_medianOf_62 3 rfl ?_
    refine v_iconst C dX1_medianOf_63 ci_3 ?_
    refine v_isub C dX1_medianOf_64 ?_
    refine v_callS_ri C (As := [.long r14, .long (((y16) : Int32).toInt64), .int (x1 - 3)]) (st := []) lk_X1_230 dX1_medianOf_65 rfl (Nat.le_of_ble_eq_true rfl) (Nat.le_of_ble_eq_true rfl) (Nat.le_of_ble_eq_true rfl) (fun _ z => met_X1_partOf hO r2.2 r14 (((y16) : Int32).toInt64) (x1 - 3) z) (fun r17 hr17 => ?_)
    exact v_ireturn C hm dX1_medianOf_68 rfl
  · refine v_aload_n C dX1_medianOf_13 1 rfl ?_
    refine v_iload_n C dX1_medianOf_14 0 rfl ?_
    refine v_iload_n C dX1_medianOf_15 2 rfl ?_
    refine g_callV_ri C (As := [.int y3, .int x1]) (st := []) lk_X1_282 dX1_medianOf_16 rfl (Nat.le_of_ble_eq_true rfl) (Nat.le_of_ble_eq_true rfl) (Nat.le_of_ble_eq_true rfl) cls_1.1 rfl (fun _ z => rc_X1_placeOf z) (fun _ z => met_X1_placeOf hO r2.2 x0 y3 x1 z) (fun r18 hr18 => ?_)
    exact v_ireturn C hm dX1_medianOf_19 rfl
theorem o_X3_layCenter_99 {F : Nat} {x0 : Nat} {x1 : Int32} {x2 : Int32} {x3 : Int64} {x5 : Int32} (k14 : Int32 → Int64 → Int32 → St → Option St) (hk14 : ∀ (z2 : Int32) (z3 : Int64) (z5 : Int32) (τ : St), MF mf_s (k14 z2 z3 z5 τ) τ) (S : St) : MF mf_s (C_X3_layCenter_99 F k14 x0 x1 x2 x3 x5 S) S := by
  unfold C_X3_layCenter_99
  refine mf_bind (fun y33 hy33 => ?_)
  refine mf_bind (fun a34 ha34 => ?_)
  refine mf_call (fun _ z => mono_J27_nextSetBit z) (fun r35 hr35 => ?_)
  refine mf_bind (fun y36 hy36 => ?_)
  exact (hk14 x2 x3 y36 r35.2)
theorem o_X3_layCenter_93 {F : Nat} {x0 : Nat} {x1 : Int32} {x5 : Int32} {x6 : Int64} (k14 : Int32 → Int64 → Int32 → St → Option St) (hk14 : ∀ (z2 : Int32) (z3 : Int64) (z5 : Int32) (τ : St), MF mf_s (k14 z2 z3 z5 τ) τ) (S : St) : MF mf_s (C_X3_layCenter_93 F k14 x0 x1 x5 x6 S) S := by
  unfold C_X3_layCenter_93
  exact (o_X3_layCenter_99 k14 hk14 S)
theorem o_X3_layCenter_115 {F : Nat} {x0 : Nat} {x1 : Int32} {x2 : Int32} {x3 : Int64}  (S : St) : MF mf_s (C_X3_layCenter_115 F x0 x1 x2 x3 S) S := by
  unfold C_X3_layCenter_115
  refine mf_bind (fun y27 hy27 => ?_)
  refine mf_bind (fun a28 ha28 => ?_)
  refine mf_tI (fun S29 hS29 => ?_)
  refine mf_bind (fun y30 hy30 => ?_)
  refine mf_bind (fun a31 ha31 => ?_)
  refine mf_tJ (fun S32 hS32 => ?_)
  exact mf_ret leG.rf
theorem o_X3_layCenter_14 {F : Nat} {x0 : Nat} {x1 : Int32}  : ∀ (n : Nat) (x2 : Int32) (x3 : Int64) (x5 : Int32) (S : St), MF mf_s (C_X3_layCenter_14 F x0 x1 n x2 x3 x5 S) S := by
  intro n
  induction n with
  | zero => intro x2 x3 x5 S; exact mf_none
  | succ n ih =>
    intro x2 x3 x5 S
    unfold C_X3_layCenter_14
    refine mf_ite ?_ ?_
    · exact (o_X3_layCenter_115 S)
    · refine mf_bind (fun y5 hy5 => ?_)
      refine mf_bind (fun a6 ha6 => ?_)
      refine mf_bind (fun y7 hy7 => ?_)
      refine mf_bind (fun y8 hy8 => ?_)
      refine mf_bind (fun y9 hy9 => ?_)
      refine mf_bind (fun a10 ha10 => ?_)
      refine mf_bind (fun y11 hy11 => ?_)
      refine mf_bind (fun y12 hy12 => ?_)
      refine mf_bind (fun y13 hy13 => ?_)
      refine mf_bind (fun a14 ha14 => ?_)
      refine mf_bind (fun y15 hy15 => ?_)
      refine mf_bind (fun y16 hy16 => ?_)
      refine mf_bind (fun r17 hr17 => ?_)
      refine mf_ite ?_ ?_
      · exact (o_X3_layCenter_93 (C_X3_layCenter_14 F x0 x1 n) ih S)
      · refine mf_bind (fun y18 hy18 => ?_)
        refine mf_bind (fun a19 ha19 => ?_)
        refine mf_bind (fun y20 hy20 => ?_)
        refine mf_bind (fun y21 hy21 => ?_)
        refine mf_bind (fun y22 hy22 => ?_)
        refine mf_bind (fun a23 ha23 => ?_)
        refine mf_bind (fun y24 hy24 => ?_)
        refine mf_bind (fun y25 hy25 => ?_)
        refine mf_bind (fun r26 hr26 => ?_)
        refine mf_ite ?_ ?_
        · exact (o_X3_layCenter_99 (C_X3_layCenter_14 F x0 x1 n) ih S)
        · exact (o_X3_layCenter_93 (C_X3_layCenter_14 F x0 x1 n) ih S)
theorem mono_X3_layCenter {F : Nat} {S : St} {x0 : Nat} {x1 : Int32} {r : St} (h : C_X3_layCenter F S x0 x1 = some r) : leG S r := by
  have q : MF mf_s (C_X3_layCenter F S x0 x1) S := by
    unfold C_X3_layCenter
    refine mf_bind (fun _ _ => ?_)
    refine mf_bind (fun y1 hy1 => ?_)
    refine mf_bind (fun a2 ha2 => ?_)
    refine mf_call (fun _ z => mono_J27_nextSetBit z) (fun r3 hr3 => ?_)
    refine mf_bind (fun y4 hy4 => ?_)
    exact (o_X3_layCenter_14 F (-1) 0 y4 r3.2)
  exact q r h
theorem w_X3_layCenter_99 {P : GP} {X : Ctx} {l : Launch} {S0 : St} {F : Nat} (hO : okG P) (C : CX (OG P) X l cX3_layCenter 8 RX3 none) (hm : X.2.2.2.2.2.2.2.2.2 = none) {x0 : Nat} {x1 : Int32} {x2 : Int32} {x3 : Int64} {x5 : Int32} (k14 : Int32 → Int64 → Int32 → St → Option St) (hk14 : ∀ (z2 : Int32) (z3 : Int64) (z5 : Int32) (τ : St), VF (OG P) X 8 8 193 S0 f_mv (k14 z2 z3 z5 τ) τ 14 [(0, .ref x0), (1, .int x1), (2, .int z2), (3, .long z3), (5, .int z5)] []) (S : St) : VF (OG P) X 8 8 193 S0 f_mv (C_X3_layCenter_99 F k14 x0 x1 x2 x3 x5 S) S 99 [(0, .ref x0), (1, .int x1), (2, .int x2), (3, .long x3), (5, .int x5)] [] := by
  unfold C_X3_layCenter_99
  refine v_aload_n C dX3_layCenter_99 0 rfl ?_
  refine g_getQ C dX3_layCenter_100 cls_3 (Nat.le_of_ble_eq_true rfl) fl_X3_105 fs_X3_105 (fun y33 hy33 => ?_)
  refine v_iload C dX3_layCenter_103 4 rfl ?_
  refine v_iconst C dX3_layCenter_105 ci_1 ?_
  refine v_iadd C dX3_layCenter_106 ?_
  refine VF.bind (fun a34 ha34 => ?_)
  subst ha34
  refine g_callV_mi C (As := [.int (x5 + 1)]) (st := []) lk_X3_155 dX3_layCenter_107 rfl (Nat.le_of_ble_eq_true rfl) (Nat.le_of_ble_eq_true rfl) (Nat.le_of_ble_eq_true rfl) cls_16.1 rfl (fun _ z => rc_J27_nextSetBit z) (fun _ z => met_J27_nextSetBit hO F S a34 (x5 + 1) z) (fun r35 hr35 => ?_)
  refine v_leti (fun y36 hy36 => ?_)
  refine v_istore C (lv' := [(5, .int y36), (0, .ref x0), (1, .int x1), (2, .int x2), (3, .long x3)]) dX3_layCenter_110 (Nat.le_of_ble_eq_true rfl) rfl ?_
  refine v_goto C (tgt := 14) dX3_layCenter_112 rfl ?_
  exact v_sub [1, 2, 3, 4, 0] rfl (hk14 x2 x3 y36 r35.2)
theorem w_X3_layCenter_93 {P : GP} {X : Ctx} {l : Launch} {S0 : St} {F : Nat} (hO : okG P) (C : CX (OG P) X l cX3_layCenter 8 RX3 none) (hm : X.2.2.2.2.2.2.2.2.2 = none) {x0 : Nat} {x1 : Int32} {x5 : Int32} {x6 : Int64} (k14 : Int32 → Int64 → Int32 → St → Option St) (hk14 : ∀ (z2 : Int32) (z3 : Int64) (z5 : Int32) (τ : St), VF (OG P) X 8 8 193 S0 f_mv (k14 z2 z3 z5 τ) τ 14 [(0, .ref x0), (1, .int x1), (2, .int z2), (3, .long z3), (5, .int z5)] []) (S : St) : VF (OG P) X 8 8 193 S0 f_mv (C_X3_layCenter_93 F k14 x0 x1 x5 x6 S) S 93 [(0, .ref x0), (1, .int x1), (5, .int x5), (6, .long x6)] [] := by
  unfold C_X3_layCenter_93
  refine v_iload C dX3_layCenter_93 2 rfl ?_
  refine v_istore_n C (lv' := [(2, .int x5), (0, .ref x0), (1, .int x1), (5, .int x5), (6, .long x6)]) dX3_layCenter_95 (Nat.le_of_ble_eq_true rfl) rfl ?_
  refine v_lload C dX3_layCenter_96 4 rfl ?_
  refine v_lstore_n C (lv' := [(3, .long x6), (2, .int x5), (0, .ref x0), (1, .int x1), (5, .int x5), (6, .long x6)]) dX3_layCenter_98 (Nat.le_of_ble_eq_true rfl) rfl ?_
  exact v_sub [2, 3, 1, 0, 4] rfl (w_X3_layCenter_99 hO C hm k14 hk14 S)
theorem w_X3_layCenter_115 {P : GP} {X : Ctx} {l : Launch} {S0 : St} {F : Nat} (hO : okG P) (C : CX (OG P) X l cX3_layCenter 8 RX3 none) (hm : X.2.2.2.2.2.2.2.2.2 = none) {x0 : Nat} {x1 : Int32} {x2 : Int32} {x3 : Int64}  (S : St) : VF (OG P) X 8 8 193 S0 f_mv (C_X3_layCenter_115 F x0 x1 x2 x3 S) S 115 [(0, .ref x0), (1, .int x1), (2, .int x2), (3, .long x3)] [] := by
  unfold C_X3_layCenter_115
  refine v_aload_n C dX3_layCenter_115 0 rfl ?_
  refine g_getQ C dX3_layCenter_116 cls_3 (Nat.le_of_ble_eq_true rfl) fl_X3_166 fs_X3_166 (fun y27 hy27 => ?_)
  refine v_iload_n C dX3_layCenter_119 1 rfl ?_
  refine v_iload_n C dX3_layCenter_120 2 rfl ?_
  refine VF.bind (fun a28 ha28 => ?_)
  subst ha28
  refine g_ias C dX3_layCenter_121 (fun S29 hS29 => ?_)
  refine v_aload_n C dX3_layCenter_122 0 rfl ?_
  refine g_getQ C dX3_layCenter_123 cls_3 (Nat.le_of_ble_eq_true rfl) fl_X3_169 fs_X3_169 (fun y30 hy30 => ?_)
  refine v_iload_n C dX3_layCenter_126 1 rfl ?_
  refine v_lload_n C dX3_layCenter_127 3 rfl ?_
  refine VF.bind (fun a31 ha31 => ?_)
  subst ha31
  refine g_las C dX3_layCenter_128 (fun S32 hS32 => ?_)
  exact v_vreturn C hm dX3_layCenter_129 rfl
theorem w_X3_layCenter_14 {P : GP} {X : Ctx} {l : Launch} {S0 : St} {F : Nat} (hO : okG P) (C : CX (OG P) X l cX3_layCenter 8 RX3 none) (hm : X.2.2.2.2.2.2.2.2.2 = none) {x0 : Nat} {x1 : Int32}  : ∀ (n : Nat) (x2 : Int32) (x3 : Int64) (x5 : Int32) (S : St), VF (OG P) X 8 8 193 S0 f_mv (C_X3_layCenter_14 F x0 x1 n x2 x3 x5 S) S 14 [(0, .ref x0), (1, .int x1), (2, .int x2), (3, .long x3), (5, .int x5)] [] := by
  intro n
  induction n with
  | zero => intro x2 x3 x5 S; exact VF.none
  | succ n ih =>
    intro x2 x3 x5 S
    unfold C_X3_layCenter_14
    refine v_iload C dX3_layCenter_14 4 rfl ?_
    refine v_if_lt C (tgt := 115) dX3_layCenter_16 rfl (fun _ => ?_) (fun _ => ?_)
    · exact v_sub [0, 1, 2, 3] rfl (w_X3_layCenter_115 hO C hm S)
    · refine v_aload_n C dX3_layCenter_19 0 rfl ?_
      refine v_iload_n C dX3_layCenter_20 1 rfl ?_
      refine v_aload_n C dX3_layCenter_21 0 rfl ?_
      refine g_getQ C dX3_layCenter_22 cls_3 (Nat.le_of_ble_eq_true rfl) fl_X3_88 fs_X3_88 (fun y5 hy5 => ?_)
      refine VF.bind (fun a6 ha6 => ?_)
      subst ha6
      refine g_getA C dX3_layCenter_25 cls_6 (Nat.le_of_ble_eq_true rfl) fl_X3_112 fs_X3_112 (fun y7 hy7 => ?_)
      refine v_iload C dX3_layCenter_28 4 rfl ?_
      refine g_ial C dX3_layCenter_30 (fun y8 hy8 => ?_)
      refine v_aload_n C dX3_layCenter_31 0 rfl ?_
      refine g_getQ C dX3_layCenter_32 cls_3 (Nat.le_of_ble_eq_true rfl) fl_X3_88 fs_X3_88 (fun y9 hy9 => ?_)
      refine VF.bind (fun a10 ha10 => ?_)
      subst ha10
      refine g_getA C dX3_layCenter_35 cls_6 (Nat.le_of_ble_eq_true rfl) fl_X3_114 fs_X3_114 (fun y11 hy11 => ?_)
      refine v_iload C dX3_layCenter_38 4 rfl ?_
      refine g_ial C dX3_layCenter_40 (fun y12 hy12 => ?_)
      refine v_i2l C dX3_layCenter_41 ?_
      refine v_aload_n C dX3_layCenter_42 0 rfl ?_
      refine g_getQ C dX3_layCenter_43 cls_3 (Nat.le_of_ble_eq_true rfl) fl_X3_88 fs_X3_88 (fun y13 hy13 => ?_)
      refine VF.bind (fun a14 ha14 => ?_)
      subst ha14
      refine g_getA C dX3_layCenter_46 cls_6 (Nat.le_of_ble_eq_true rfl) fl_X3_117 fs_X3_117 (fun y15 hy15 => ?_)
      refine v_iload C dX3_layCenter_49 4 rfl ?_
      refine g_ial C dX3_layCenter_51 (fun y16 hy16 => ?_)
      refine v_i2l C dX3_layCenter_52 ?_
      refine g_callV_rl C (As := [.int x1, .int y8, .long (((y12) : Int32).toInt64), .long (((y16) : Int32).toInt64)]) (st := []) lk_X3_159 dX3_layCenter_53 rfl (Nat.le_of_ble_eq_true rfl) (Nat.le_of_ble_eq_true rfl) (Nat.le_of_ble_eq_true rfl) cls_3.1 rfl (fun _ z => rc_X3_height z) (fun _ z => met_X3_height hO F S x0 x1 y8 (((y12) : Int32).toInt64) (((y16) : Int32).toInt64) z) (fun r17 hr17 => ?_)
      refine v_lstore C (lv' := [(6, .long r17), (0, .ref x0), (1, .int x1), (2, .int x2), (3, .long x3), (5, .int x5)]) dX3_layCenter_56 (Nat.le_of_ble_eq_true rfl) rfl ?_
      refine v_iload_n C dX3_layCenter_58 3 rfl ?_
      refine v_iconst C dX3_layCenter_59 ci_m1 ?_
      refine v_icmp_eq C (tgt := 93) dX3_layCenter_60 rfl (fun _ => ?_) (fun _ => ?_)
      · exact v_sub [1, 2, 5, 0] rfl (w_X3_layCenter_93 hO C hm (C_X3_layCenter_14 F x0 x1 n) ih S)
      · refine v_lload C dX3_layCenter_63 0 rfl ?_
        refine v_aload_n C dX3_layCenter_65 1 rfl ?_
        refine g_getQ C dX3_layCenter_66 cls_3 (Nat.le_of_ble_eq_true rfl) fl_X3_88 fs_X3_88 (fun y18 hy18 => ?_)
        refine VF.bind (fun a19 ha19 => ?_)
        subst ha19
        refine g_getA C dX3_layCenter_69 cls_6 (Nat.le_of_ble_eq_true rfl) fl_X3_117 fs_X3_117 (fun y20 hy20 => ?_)
        refine v_iload C dX3_layCenter_72 5 rfl ?_
        refine g_ial C dX3_layCenter_74 (fun y21 hy21 => ?_)
        refine v_i2l C dX3_layCenter_75 ?_
        refine v_lload_n C dX3_layCenter_76 4 rfl ?_
        refine v_aload_n C dX3_layCenter_77 1 rfl ?_
        refine g_getQ C dX3_layCenter_78 cls_3 (Nat.le_of_ble_eq_true rfl) fl_X3_88 fs_X3_88 (fun y22 hy22 => ?_)
        refine VF.bind (fun a23 ha23 => ?_)
        subst ha23
        refine g_getA C dX3_layCenter_81 cls_6 (Nat.le_of_ble_eq_true rfl) fl_X3_117 fs_X3_117 (fun y24 hy24 => ?_)
        refine v_iload_n C dX3_layCenter_84 3 rfl ?_
        refine g_ial C dX3_layCenter_85 (fun y25 hy25 => ?_)
        refine v_i2l C dX3_layCenter_86 ?_
        refine v_callS_ri C (As := [.long r17, .long (((y21) : Int32).toInt64), .long x3, .long (((y25) : Int32).toInt64)]) (st := []) lk_X3_162 dX3_layCenter_87 rfl (Nat.le_of_ble_eq_true rfl) (Nat.le_of_ble_eq_true rfl) (Nat.le_of_ble_eq_true rfl) (fun _ z => met_X3_isLess hO S r17 (((y21) : Int32).toInt64) x3 (((y25) : Int32).toInt64) z) (fun r26 hr26 => ?_)
        refine v_if_eq C (tgt := 99) dX3_layCenter_90 rfl (fun _ => ?_) (fun _ => ?_)
        · exact v_sub [1, 2, 3, 4, 5] rfl (w_X3_layCenter_99 hO C hm (C_X3_layCenter_14 F x0 x1 n) ih S)
        · exact v_sub [1, 2, 5, 0] rfl (w_X3_layCenter_93 hO C hm (C_X3_layCenter_14 F x0 x1 n) ih S)
theorem met_X3_layCenter {P : GP} {l : Launch} (hO : okG P) (F : Nat) (S : St) (x0 : Nat) (x1 : Int32) {r : St} (h : C_X3_layCenter F S x0 x1 = some r) : FM l (OG P) yX3_layCenter (ws_ yX3_layCenter cX3_layCenter 8 none) 8 193 [.ref x0, .int x1] S (f_mv r) := by
  refine FM.of (own := RX3) (lv := [(0, .ref x0), (1, .int x1)]) (OG_ok P hO) pl_X3 rfl (Nat.le_of_ble_eq_true rfl) rfl h (mono_X3_layCenter h).LE (fun X C hm => ?_)
  unfold C_X3_layCenter
  refine VF.bind (fun _ _ => ?_)
  refine v_iconst C dX3_layCenter_0 ci_m1 ?_
  refine v_istore_n C (lv' := [(2, .int (-1)), (0, .ref x0), (1, .int x1)]) dX3_layCenter_1 (Nat.le_of_ble_eq_true rfl) rfl ?_
  refine v_lconst C dX3_layCenter_2 cl_0 ?_
  refine v_lstore_n C (lv' := [(3, .long 0), (2, .int (-1)), (0, .ref x0), (1, .int x1)]) dX3_layCenter_3 (Nat.le_of_ble_eq_true rfl) rfl ?_
  refine v_aload_n C dX3_layCenter_4 2 rfl ?_
  refine g_getQ C dX3_layCenter_5 cls_3 (Nat.le_of_ble_eq_true rfl) fl_X3_105 fs_X3_105 (fun y1 hy1 => ?_)
  refine v_iconst C dX3_layCenter_8 ci_0 ?_
  refine VF.bind (fun a2 ha2 => ?_)
  subst ha2
  refine g_callV_mi C (As := [.int 0]) (st := []) lk_X3_155 dX3_layCenter_9 rfl (Nat.le_of_ble_eq_true rfl) (Nat.le_of_ble_eq_true rfl) (Nat.le_of_ble_eq_true rfl) cls_16.1 rfl (fun _ z => rc_J27_nextSetBit z) (fun _ z => met_J27_nextSetBit hO F S a2 0 z) (fun r3 hr3 => ?_)
  refine v_leti (fun y4 hy4 => ?_)
  refine v_istore C (lv' := [(5, .int y4), (3, .long 0), (2, .int (-1)), (0, .ref x0), (1, .int x1)]) dX3_layCenter_12 (Nat.le_of_ble_eq_true rfl) rfl ?_
  exact v_sub [3, 4, 2, 1, 0] rfl (w_X3_layCenter_14 hO C hm F (-1) 0 y4 r3.2)
theorem o_X3_layCenters_37 {F : Nat} {x0 : Nat}  : ∀ (n : Nat) (x1 : Int32) (S : St), MF mf_s (C_X3_layCenters_37 F x0 n x1 S) S := by
  intro n
  induction n with
  | zero => intro x1 S; exact mf_none
  | succ n ih =>
    intro x1 S
    unfold C_X3_layCenters_37
    refine mf_bind (fun y9 hy9 => ?_)
    refine mf_bind (fun a10 ha10 => ?_)
    refine mf_bind (fun y11 hy11 => ?_)
    refine mf_ite ?_ ?_
    · exact mf_ret leG.rf
    · refine mf_bind (fun y12 hy12 => ?_)
      refine mf_bind (fun a13 ha13 => ?_)
      refine mf_tI (fun S14 hS14 => ?_)
      refine mf_bind (fun y15 hy15 => ?_)
      exact (ih y15 S14)
theorem mono_X3_layCenters {F : Nat} {S : St} {x0 : Nat} {r : St} (h : C_X3_layCenters F S x0 = some r) : leG S r := by
  have q : MF mf_s (C_X3_layCenters F S x0) S := by
    unfold C_X3_layCenters
    refine mf_bind (fun _ _ => ?_)
    refine mf_callv (fun _ z => mono_X3_layPoints z) (fun r1 hr1 => ?_)
    refine mf_bind (fun y2 hy2 => ?_)
    refine mf_ite ?_ ?_
    · refine mf_bind (fun y3 hy3 => ?_)
      refine mf_nI_ (fun r4 hr4 => ?_)
      refine mf_put (fun S5 hS5 => ?_)
      refine mf_bind (fun y6 hy6 => ?_)
      refine mf_nJ_ (fun r7 hr7 => ?_)
      refine mf_put (fun S8 hS8 => ?_)
      exact (o_X3_layCenters_37 F 0 S8)
    · exact mf_ret leG.rf
  exact q r h
theorem w_X3_layCenters_37 {P : GP} {X : Ctx} {l : Launch} {S0 : St} {F : Nat} (hO : okG P) (C : CX (OG P) X l cX3_layCenters 2 RX3 none) (hm : X.2.2.2.2.2.2.2.2.2 = none) {x0 : Nat}  : ∀ (n : Nat) (x1 : Int32) (S : St), VF (OG P) X 2 47 3137 S0 f_mv (C_X3_layCenters_37 F x0 n x1 S) S 37 [(0, .ref x0), (1, .int x1)] [] := by
  intro n
  induction n with
  | zero => intro x1 S; exact VF.none
  | succ n ih =>
    intro x1 S
    unfold C_X3_layCenters_37
    refine v_iload_n C dX3_layCenters_37 1 rfl ?_
    refine v_aload_n C dX3_layCenters_38 0 rfl ?_
    refine g_getQ C dX3_layCenters_39 cls_3 (Nat.le_of_ble_eq_true rfl) fl_X3_166 fs_X3_166 (fun y9 hy9 => ?_)
    refine VF.bind (fun a10 ha10 => ?_)
    subst ha10
    refine g_alen (kd := 0) (fun _ => rfl) C dX3_layCenters_42 (fun y11 hy11 => ?_)
    refine v_icmp_ge C (tgt := 59) dX3_layCenters_43 rfl (fun _ => ?_) (fun _ => ?_)
    · exact v_vreturn C hm dX3_layCenters_59 rfl
    · refine v_aload_n C dX3_layCenters_46 0 rfl ?_
      refine g_getQ C dX3_layCenters_47 cls_3 (Nat.le_of_ble_eq_true rfl) fl_X3_166 fs_X3_166 (fun y12 hy12 => ?_)
      refine v_iload_n C dX3_layCenters_50 1 rfl ?_
      refine v_iconst C dX3_layCenters_51 ci_m1 ?_
      refine VF.bind (fun a13 ha13 => ?_)
      subst ha13
      refine g_ias C dX3_layCenters_52 (fun S14 hS14 => ?_)
      refine v_iincN C (lv' := fun y15 => [(1, .int y15), (0, .ref x0)]) dX3_layCenters_53 1 rfl ci_1 (Nat.le_of_ble_eq_true rfl) (fun _ => rfl) (fun y15 hy15 => ?_)
      refine v_goto C (tgt := 37) dX3_layCenters_56 rfl ?_
      exact v_sub [1, 0] rfl (ih y15 S14)
theorem met_X3_layCenters {P : GP} {l : Launch} (hO : okG P) (F : Nat) (S : St) (x0 : Nat) {r : St} (h : C_X3_layCenters F S x0 = some r) : FM l (OG P) yX3_layCenters (ws_ yX3_layCenters cX3_layCenters 2 none) 47 3137 [.ref x0] S (f_mv r) := by
  refine FM.of (own := RX3) (lv := [(0, .ref x0)]) (OG_ok P hO) pl_X3 rfl (Nat.le_of_ble_eq_true rfl) rfl h (mono_X3_layCenters h).LE (fun X C hm => ?_)
  unfold C_X3_layCenters
  refine VF.bind (fun _ _ => ?_)
  refine v_aload_n C dX3_layCenters_0 0 rfl ?_
  refine g_callV_mv C (As := []) (st := []) lk_X3_173 dX3_layCenters_1 rfl (Nat.le_of_ble_eq_true rfl) (Nat.le_of_ble_eq_true rfl) (Nat.le_of_ble_eq_true rfl) cls_3.1 rfl (fun _ z => rc_X3_layPoints z) (fun _ z => met_X3_layPoints hO F S x0 z) (fun r1 hr1 => ?_)
  refine v_aload_n C dX3_layCenters_4 0 rfl ?_
  refine g_getQ C dX3_layCenters_5 cls_3 (Nat.le_of_ble_eq_true rfl) fl_X3_166 fs_X3_166 (fun y2 hy2 => ?_)
  refine g_ifnonnull C (tgt := 59) dX3_layCenters_8 rfl (fun _ => ?_) (fun _ => ?_)
  · refine v_aload_n C dX3_layCenters_11 0 rfl ?_
    refine v_iconst C dX3_layCenters_12 ci_1 ?_
    refine v_aload_n C dX3_layCenters_13 0 rfl ?_
    refine g_getI C dX3_layCenters_14 cls_3 (Nat.le_of_ble_eq_true rfl) fl_X3_21 fs_X3_21 (fun y3 hy3 => ?_)
    refine v_ishl C dX3_layCenters_17 ?_
    refine g_naI C dX3_layCenters_18 q194 (fun r4 hr4 => ?_)
    refine g_putV C dX3_layCenters_20 cls_3 (Nat.le_of_ble_eq_true rfl) fl_X3_166 fs_X3_166 rfl rfl rfl (fun S5 hS5 => ?_)
    refine v_aload_n C dX3_layCenters_23 0 rfl ?_
    refine v_iconst C dX3_layCenters_24 ci_1 ?_
    refine v_aload_n C dX3_layCenters_25 0 rfl ?_
    refine g_getI C dX3_layCenters_26 cls_3 (Nat.le_of_ble_eq_true rfl) fl_X3_21 fs_X3_21 (fun y6 hy6 => ?_)
    refine v_ishl C dX3_layCenters_29 ?_
    refine g_naJ C dX3_layCenters_30 q998 (fun r7 hr7 => ?_)
    refine g_putV C dX3_layCenters_32 cls_3 (Nat.le_of_ble_eq_true rfl) fl_X3_169 fs_X3_169 rfl rfl rfl (fun S8 hS8 => ?_)
    refine v_iconst C dX3_layCenters_35 ci_0 ?_
    refine v_istore_n C (lv' := [(1, .int 0), (0, .ref x0)]) dX3_layCenters_36 (Nat.le_of_ble_eq_true rfl) rfl ?_
    exact v_sub [1, 0] rfl (w_X3_layCenters_37 hO C hm F 0 S8)
  · exact v_vreturn C hm dX3_layCenters_59 rfl
theorem o_X3_center_19 {F : Nat} {x0 : Nat} {x1 : Int32}  (S : St) : MF mf_p (C_X3_center_19 F x0 x1 S) S := by
  unfold C_X3_center_19
  refine mf_bind (fun y6 hy6 => ?_)
  refine mf_bind (fun a7 ha7 => ?_)
  refine mf_bind (fun y8 hy8 => ?_)
  exact mf_ret leG.rf
theorem mono_X3_center {F : Nat} {S : St} {x0 : Nat} {x1 : Int32} {r : Int32 × St} (h : C_X3_center F S x0 x1 = some r) : leG S r.2 := by
  have q : MF mf_p (C_X3_center F S x0 x1) S := by
    unfold C_X3_center
    refine mf_bind (fun _ _ => ?_)
    refine mf_callv (fun _ z => mono_X3_layCenters z) (fun r1 hr1 => ?_)
    refine mf_bind (fun y2 hy2 => ?_)
    refine mf_bind (fun a3 ha3 => ?_)
    refine mf_bind (fun y4 hy4 => ?_)
    refine mf_ite ?_ ?_
    · refine mf_callv (fun _ z => mono_X3_layCenter z) (fun r5 hr5 => ?_)
      exact (o_X3_center_19 r5)
    · exact (o_X3_center_19 r1)
  exact q r h
theorem w_X3_center_19 {P : GP} {X : Ctx} {l : Launch} {S0 : St} {F : Nat} (hO : okG P) (C : CX (OG P) X l cX3_center 2 RX3 (some .int)) (hm : X.2.2.2.2.2.2.2.2.2 = none) {x0 : Nat} {x1 : Int32}  (S : St) : VF (OG P) X 2 48 3158 S0 f_mi (C_X3_center_19 F x0 x1 S) S 19 [(0, .ref x0), (1, .int x1)] [] := by
  unfold C_X3_center_19
  refine v_aload_n C dX3_center_19 0 rfl ?_
  refine g_getQ C dX3_center_20 cls_3 (Nat.le_of_ble_eq_true rfl) fl_X3_166 fs_X3_166 (fun y6 hy6 => ?_)
  refine v_iload_n C dX3_center_23 1 rfl ?_
  refine VF.bind (fun a7 ha7 => ?_)
  subst ha7
  refine g_ial C dX3_center_24 (fun y8 hy8 => ?_)
  exact v_ireturn C hm dX3_center_25 rfl
theorem met_X3_center {P : GP} {l : Launch} (hO : okG P) (F : Nat) (S : St) (x0 : Nat) (x1 : Int32) {r : Int32 × St} (h : C_X3_center F S x0 x1 = some r) : FM l (OG P) yX3_center (ws_ yX3_center cX3_center 2 (some .int)) 48 3158 [.ref x0, .int x1] S (f_mi r) := by
  refine FM.of (own := RX3) (lv := [(0, .ref x0), (1, .int x1)]) (OG_ok P hO) pl_X3 rfl (Nat.le_of_ble_eq_true rfl) rfl h (mono_X3_center h).LE (fun X C hm => ?_)
  unfold C_X3_center
  refine VF.bind (fun _ _ => ?_)
  refine v_aload_n C dX3_center_0 0 rfl ?_
  refine g_callV_mv C (As := []) (st := []) lk_X3_176 dX3_center_1 rfl (Nat.le_of_ble_eq_true rfl) (Nat.le_of_ble_eq_true rfl) (Nat.le_of_ble_eq_true rfl) cls_3.1 rfl (fun _ z => rc_X3_layCenters z) (fun _ z => met_X3_layCenters hO F S x0 z) (fun r1 hr1 => ?_)
  refine v_aload_n C dX3_center_4 0 rfl ?_
  refine g_getQ C dX3_center_5 cls_3 (Nat.le_of_ble_eq_true rfl) fl_X3_166 fs_X3_166 (fun y2 hy2 => ?_)
  refine v_iload_n C dX3_center_8 1 rfl ?_
  refine VF.bind (fun a3 ha3 => ?_)
  subst ha3
  refine g_ial C dX3_center_9 (fun y4 hy4 => ?_)
  refine v_iconst C dX3_center_10 ci_m1 ?_
  refine v_icmp_ne C (tgt := 19) dX3_center_11 rfl (fun _ => ?_) (fun _ => ?_)
  · refine v_aload_n C dX3_center_14 0 rfl ?_
    refine v_iload_n C dX3_center_15 1 rfl ?_
    refine g_callV_mv C (As := [.int x1]) (st := []) lk_X3_179 dX3_center_16 rfl (Nat.le_of_ble_eq_true rfl) (Nat.le_of_ble_eq_true rfl) (Nat.le_of_ble_eq_true rfl) cls_3.1 rfl (fun _ z => rc_X3_layCenter z) (fun _ z => met_X3_layCenter hO F r1 x0 x1 z) (fun r5 hr5 => ?_)
    exact v_sub [0, 1] rfl (w_X3_center_19 hO C hm r5)
  · exact v_sub [0, 1] rfl (w_X3_center_19 hO C hm r1)
theorem o_X3_critical_107 {F : Nat} {x0 : Nat} {x1 : Int32} {x2 : Int32} {x4 : Int32} (k11 : Int32 → Int32 → St → Option (Int32 × St)) (hk11 : ∀ (z3 : Int32) (z4 : Int32) (τ : St), MF mf_p (k11 z3 z4 τ) τ) (s0 : Int32) (s1 : Int32) (S : St) : MF mf_p (C_X3_critical_107 F k11 x0 x1 x2 x4 s0 s1 S) S := by
  unfold C_X3_critical_107
  refine mf_bind (fun y24 hy24 => ?_)
  refine mf_bind (fun y25 hy25 => ?_)
  exact (hk11 y24 y25 S)
theorem o_X3_critical_91 {F : Nat} {x0 : Nat} {x1 : Int32} {x2 : Int32} {x3 : Int32} {x4 : Int32} (k11 : Int32 → Int32 → St → Option (Int32 × St)) (hk11 : ∀ (z3 : Int32) (z4 : Int32) (τ : St), MF mf_p (k11 z3 z4 τ) τ) (s0 : Int32) (S : St) : MF mf_p (C_X3_critical_91 F k11 x0 x1 x2 x3 x4 s0 S) S := by
  unfold C_X3_critical_91
  refine mf_ite ?_ ?_
  · exact (o_X3_critical_107 k11 hk11 x3 0 S)
  · exact (o_X3_critical_107 k11 hk11 x3 (1 <<< (x4 &&& 31)) S)
theorem o_X3_critical_90 {F : Nat} {x0 : Nat} {x1 : Int32} {x2 : Int32} {x3 : Int32} {x4 : Int32} (k11 : Int32 → Int32 → St → Option (Int32 × St)) (hk11 : ∀ (z3 : Int32) (z4 : Int32) (τ : St), MF mf_p (k11 z3 z4 τ) τ) (S : St) : MF mf_p (C_X3_critical_90 F k11 x0 x1 x2 x3 x4 S) S := by
  unfold C_X3_critical_90
  exact (o_X3_critical_91 k11 hk11 0 S)
theorem o_X3_critical_11 {F : Nat} {x0 : Nat} {x1 : Int32} {x2 : Int32}  : ∀ (n : Nat) (x3 : Int32) (x4 : Int32) (S : St), MF mf_p (C_X3_critical_11 F x0 x1 x2 n x3 x4 S) S := by
  intro n
  induction n with
  | zero => intro x3 x4 S; exact mf_none
  | succ n ih =>
    intro x3 x4 S
    unfold C_X3_critical_11
    refine mf_bind (fun y3 hy3 => ?_)
    refine mf_ite ?_ ?_
    · exact mf_ret leG.rf
    · refine mf_bind (fun r4 hr4 => ?_)
      refine mf_ite ?_ ?_
      · exact (o_X3_critical_90 (C_X3_critical_11 F x0 x1 x2 n) ih S)
      · refine mf_bind (fun y5 hy5 => ?_)
        refine mf_bind (fun y6 hy6 => ?_)
        refine mf_bind (fun y7 hy7 => ?_)
        refine mf_bind (fun y8 hy8 => ?_)
        refine mf_bind (fun a9 ha9 => ?_)
        refine mf_bind (fun y10 hy10 => ?_)
        refine mf_bind (fun y11 hy11 => ?_)
        refine mf_bind (fun y12 hy12 => ?_)
        refine mf_bind (fun a13 ha13 => ?_)
        refine mf_bind (fun y14 hy14 => ?_)
        refine mf_bind (fun y15 hy15 => ?_)
        refine mf_bind (fun y16 hy16 => ?_)
        refine mf_bind (fun a17 ha17 => ?_)
        refine mf_bind (fun y18 hy18 => ?_)
        refine mf_bind (fun y19 hy19 => ?_)
        refine mf_bind (fun r20 hr20 => ?_)
        refine mf_bind (fun y21 hy21 => ?_)
        refine mf_bind (fun a22 ha22 => ?_)
        refine mf_bind (fun y23 hy23 => ?_)
        refine mf_ite ?_ ?_
        · exact (o_X3_critical_91 (C_X3_critical_11 F x0 x1 x2 n) ih 1 S)
        · exact (o_X3_critical_90 (C_X3_critical_11 F x0 x1 x2 n) ih S)
theorem mono_X3_critical {F : Nat} {S : St} {x0 : Nat} {x1 : Int32} {r : Int32 × St} (h : C_X3_critical F S x0 x1 = some r) : leG S r.2 := by
  have q : MF mf_p (C_X3_critical F S x0 x1) S := by
    unfold C_X3_critical
    refine mf_bind (fun _ _ => ?_)
    refine mf_call (fun _ z => mono_X3_center z) (fun r1 hr1 => ?_)
    refine mf_bind (fun y2 hy2 => ?_)
    exact (o_X3_critical_11 F 0 0 r1.2)
  exact q r h
theorem w_X3_critical_107 {P : GP} {X : Ctx} {l : Launch} {S0 : St} {F : Nat} (hO : okG P) (C : CX (OG P) X l cX3_critical 6 RX3 (some .int)) (hm : X.2.2.2.2.2.2.2.2.2 = none) {x0 : Nat} {x1 : Int32} {x2 : Int32} {x4 : Int32} (k11 : Int32 → Int32 → St → Option (Int32 × St)) (hk11 : ∀ (z3 : Int32) (z4 : Int32) (τ : St), VF (OG P) X 6 49 3179 S0 f_mi (k11 z3 z4 τ) τ 11 [(0, .ref x0), (1, .int x1), (2, .int x2), (3, .int z3), (4, .int z4)] []) (s0 : Int32) (s1 : Int32) (S : St) : VF (OG P) X 6 49 3179 S0 f_mi (C_X3_critical_107 F k11 x0 x1 x2 x4 s0 s1 S) S 107 [(0, .ref x0), (1, .int x1), (2, .int x2), (4, .int x4)] [.int s1, .int s0] := by
  unfold C_X3_critical_107
  refine v_ior C dX3_critical_107 ?_
  refine v_leti (fun y24 hy24 => ?_)
  refine v_istore_n C (lv' := [(3, .int y24), (0, .ref x0), (1, .int x1), (2, .int x2), (4, .int x4)]) dX3_critical_108 (Nat.le_of_ble_eq_true rfl) rfl ?_
  refine v_iincN C (lv' := fun y25 => [(4, .int y25), (3, .int y24), (0, .ref x0), (1, .int x1), (2, .int x2)]) dX3_critical_109 4 rfl ci_1 (Nat.le_of_ble_eq_true rfl) (fun _ => rfl) (fun y25 hy25 => ?_)
  refine v_goto C (tgt := 11) dX3_critical_112 rfl ?_
  exact v_sub [2, 3, 4, 1, 0] rfl (hk11 y24 y25 S)
theorem w_X3_critical_91 {P : GP} {X : Ctx} {l : Launch} {S0 : St} {F : Nat} (hO : okG P) (C : CX (OG P) X l cX3_critical 6 RX3 (some .int)) (hm : X.2.2.2.2.2.2.2.2.2 = none) {x0 : Nat} {x1 : Int32} {x2 : Int32} {x3 : Int32} {x4 : Int32} (k11 : Int32 → Int32 → St → Option (Int32 × St)) (hk11 : ∀ (z3 : Int32) (z4 : Int32) (τ : St), VF (OG P) X 6 49 3179 S0 f_mi (k11 z3 z4 τ) τ 11 [(0, .ref x0), (1, .int x1), (2, .int x2), (3, .int z3), (4, .int z4)] []) (s0 : Int32) (S : St) : VF (OG P) X 6 49 3179 S0 f_mi (C_X3_critical_91 F k11 x0 x1 x2 x3 x4 s0 S) S 91 [(0, .ref x0), (1, .int x1), (2, .int x2), (3, .int x3), (4, .int x4)] [.int s0] := by
  unfold C_X3_critical_91
  refine v_istore C (lv' := [(5, .int s0), (0, .ref x0), (1, .int x1), (2, .int x2), (3, .int x3), (4, .int x4)]) dX3_critical_91 (Nat.le_of_ble_eq_true rfl) rfl ?_
  refine v_iload_n C dX3_critical_93 4 rfl ?_
  refine v_iload C dX3_critical_94 0 rfl ?_
  refine v_if_eq C (tgt := 106) dX3_critical_96 rfl (fun _ => ?_) (fun _ => ?_)
  · refine v_iconst C dX3_critical_106 ci_0 ?_
    exact v_sub [1, 2, 3, 5] rfl (w_X3_critical_107 hO C hm k11 hk11 x3 0 S)
  · refine v_iconst C dX3_critical_99 ci_1 ?_
    refine v_iload C dX3_critical_100 5 rfl ?_
    refine v_ishl C dX3_critical_102 ?_
    refine v_goto C (tgt := 107) dX3_critical_103 rfl ?_
    exact v_sub [1, 2, 3, 5] rfl (w_X3_critical_107 hO C hm k11 hk11 x3 (1 <<< (x4 &&& 31)) S)
theorem w_X3_critical_90 {P : GP} {X : Ctx} {l : Launch} {S0 : St} {F : Nat} (hO : okG P) (C : CX (OG P) X l cX3_critical 6 RX3 (some .int)) (hm : X.2.2.2.2.2.2.2.2.2 = none) {x0 : Nat} {x1 : Int32} {x2 : Int32} {x3 : Int32} {x4 : Int32} (k11 : Int32 → Int32 → St → Option (Int32 × St)) (hk11 : ∀ (z3 : Int32) (z4 : Int32) (τ : St), VF (OG P) X 6 49 3179 S0 f_mi (k11 z3 z4 τ) τ 11 [(0, .ref x0), (1, .int x1), (2, .int x2), (3, .int z3), (4, .int z4)] []) (S : St) : VF (OG P) X 6 49 3179 S0 f_mi (C_X3_critical_90 F k11 x0 x1 x2 x3 x4 S) S 90 [(0, .ref x0), (1, .int x1), (2, .int x2), (3, .int x3), (4, .int x4)] [] := by
  unfold C_X3_critical_90
  refine v_iconst C dX3_critical_90 ci_0 ?_
  exact v_sub [0, 1, 2, 3, 4] rfl (w_X3_critical_91 hO C hm k11 hk11 0 S)
theorem w_X3_critical_11 {P : GP} {X : Ctx} {l : Launch} {S0 : St} {F : Nat} (hO : okG P) (C : CX (OG P) X l cX3_critical 6 RX3 (some .int)) (hm : X.2.2.2.2.2.2.2.2.2 = none) {x0 : Nat} {x1 : Int32} {x2 : Int32}  : ∀ (n : Nat) (x3 : Int32) (x4 : Int32) (S : St), VF (OG P) X 6 49 3179 S0 f_mi (C_X3_critical_11 F x0 x1 x2 n x3 x4 S) S 11 [(0, .ref x0), (1, .int x1), (2, .int x2), (3, .int x3), (4, .int x4)] [] := by
  intro n
  induction n with
  | zero => intro x3 x4 S; exact VF.none
  | succ n ih =>
    intro x3 x4 S
    unfold C_X3_critical_11
    refine v_iload C dX3_critical_11 4 rfl ?_
    refine v_aload_n C dX3_critical_13 0 rfl ?_
    refine g_getI C dX3_critical_14 cls_3 (Nat.le_of_ble_eq_true rfl) fl_X3_21 fs_X3_21 (fun y3 hy3 => ?_)
    refine v_icmp_ge C (tgt := 115) dX3_critical_17 rfl (fun _ => ?_) (fun _ => ?_)
    · refine v_iload_n C dX3_critical_115 3 rfl ?_
      exact v_ireturn C hm dX3_critical_116 rfl
    · refine v_iload_n C dX3_critical_20 1 rfl ?_
      refine v_iload C dX3_critical_21 4 rfl ?_
      refine g_callSN_ri C (As := [.int x1, .int x4]) (st := []) lk_X3_61 dX3_critical_23 rfl (Nat.le_of_ble_eq_true rfl) (Nat.le_of_ble_eq_true rfl) (Nat.le_of_ble_eq_true rfl) (fun _ z => met_X1_has hO S x1 x4 z) (fun r4 hr4 => ?_)
      refine v_if_eq C (tgt := 90) dX3_critical_26 rfl (fun _ => ?_) (fun _ => ?_)
      · exact v_sub [0, 1, 2, 3, 4] rfl (w_X3_critical_90 hO C hm (C_X3_critical_11 F x0 x1 x2 n) ih S)
      · refine v_aload_n C dX3_critical_29 0 rfl ?_
        refine g_getA C dX3_critical_30 cls_3 (Nat.le_of_ble_eq_true rfl) fl_X3_9 fs_X3_9 (fun y5 hy5 => ?_)
        refine g_getA C dX3_critical_33 cls_2 (Nat.le_of_ble_eq_true rfl) fl_X3_65 fs_X3_65 (fun y6 hy6 => ?_)
        refine v_iload C dX3_critical_36 4 rfl ?_
        refine g_ial C dX3_critical_38 (fun y7 hy7 => ?_)
        refine v_i2l C dX3_critical_39 ?_
        refine v_aload_n C dX3_critical_40 0 rfl ?_
        refine v_iload C dX3_critical_41 4 rfl ?_
        refine v_aload_n C dX3_critical_43 0 rfl ?_
        refine g_getQ C dX3_critical_44 cls_3 (Nat.le_of_ble_eq_true rfl) fl_X3_88 fs_X3_88 (fun y8 hy8 => ?_)
        refine VF.bind (fun a9 ha9 => ?_)
        subst ha9
        refine g_getA C dX3_critical_47 cls_6 (Nat.le_of_ble_eq_true rfl) fl_X3_112 fs_X3_112 (fun y10 hy10 => ?_)
        refine v_iload_n C dX3_critical_50 2 rfl ?_
        refine g_ial C dX3_critical_51 (fun y11 hy11 => ?_)
        refine v_aload_n C dX3_critical_52 0 rfl ?_
        refine g_getQ C dX3_critical_53 cls_3 (Nat.le_of_ble_eq_true rfl) fl_X3_88 fs_X3_88 (fun y12 hy12 => ?_)
        refine VF.bind (fun a13 ha13 => ?_)
        subst ha13
        refine g_getA C dX3_critical_56 cls_6 (Nat.le_of_ble_eq_true rfl) fl_X3_114 fs_X3_114 (fun y14 hy14 => ?_)
        refine v_iload_n C dX3_critical_59 2 rfl ?_
        refine g_ial C dX3_critical_60 (fun y15 hy15 => ?_)
        refine v_i2l C dX3_critical_61 ?_
        refine v_aload_n C dX3_critical_62 0 rfl ?_
        refine g_getQ C dX3_critical_63 cls_3 (Nat.le_of_ble_eq_true rfl) fl_X3_88 fs_X3_88 (fun y16 hy16 => ?_)
        refine VF.bind (fun a17 ha17 => ?_)
        subst ha17
        refine g_getA C dX3_critical_66 cls_6 (Nat.le_of_ble_eq_true rfl) fl_X3_117 fs_X3_117 (fun y18 hy18 => ?_)
        refine v_iload_n C dX3_critical_69 2 rfl ?_
        refine g_ial C dX3_critical_70 (fun y19 hy19 => ?_)
        refine v_i2l C dX3_critical_71 ?_
        refine g_callV_rl C (As := [.int x4, .int y11, .long (((y15) : Int32).toInt64), .long (((y19) : Int32).toInt64)]) (st := [.long (((y7) : Int32).toInt64)]) lk_X3_68 dX3_critical_72 rfl (Nat.le_of_ble_eq_true rfl) (Nat.le_of_ble_eq_true rfl) (Nat.le_of_ble_eq_true rfl) cls_3.1 rfl (fun _ z => rc_X3_distanceTo z) (fun _ z => met_X3_distanceTo hO S x0 x4 y11 (((y15) : Int32).toInt64) (((y19) : Int32).toInt64) z) (fun r20 hr20 => ?_)
        refine v_lmul C dX3_critical_75 ?_
        refine v_aload_n C dX3_critical_76 0 rfl ?_
        refine g_getQ C dX3_critical_77 cls_3 (Nat.le_of_ble_eq_true rfl) fl_X3_169 fs_X3_169 (fun y21 hy21 => ?_)
        refine v_iload_n C dX3_critical_80 1 rfl ?_
        refine VF.bind (fun a22 ha22 => ?_)
        subst ha22
        refine g_lal C dX3_critical_81 (fun y23 hy23 => ?_)
        refine v_lcmp_ne C (tgt := 90) dX3_critical_82 dX3_critical_83 rfl (fun _ => ?_) (fun _ => ?_)
        · refine v_iconst C dX3_critical_86 ci_1 ?_
          refine v_goto C (tgt := 91) dX3_critical_87 rfl ?_
          exact v_sub [0, 1, 2, 3, 4] rfl (w_X3_critical_91 hO C hm (C_X3_critical_11 F x0 x1 x2 n) ih 1 S)
        · exact v_sub [0, 1, 2, 3, 4] rfl (w_X3_critical_90 hO C hm (C_X3_critical_11 F x0 x1 x2 n) ih S)
theorem met_X3_critical {P : GP} {l : Launch} (hO : okG P) (F : Nat) (S : St) (x0 : Nat) (x1 : Int32) {r : Int32 × St} (h : C_X3_critical F S x0 x1 = some r) : FM l (OG P) yX3_critical (ws_ yX3_critical cX3_critical 6 (some .int)) 49 3179 [.ref x0, .int x1] S (f_mi r) := by
  refine FM.of (own := RX3) (lv := [(0, .ref x0), (1, .int x1)]) (OG_ok P hO) pl_X3 rfl (Nat.le_of_ble_eq_true rfl) rfl h (mono_X3_critical h).LE (fun X C hm => ?_)
  unfold C_X3_critical
  refine VF.bind (fun _ _ => ?_)
  refine v_aload_n C dX3_critical_0 0 rfl ?_
  refine v_iload_n C dX3_critical_1 1 rfl ?_
  refine g_callV_mi C (As := [.int x1]) (st := []) lk_X3_182 dX3_critical_2 rfl (Nat.le_of_ble_eq_true rfl) (Nat.le_of_ble_eq_true rfl) (Nat.le_of_ble_eq_true rfl) cls_3.1 rfl (fun _ z => rc_X3_center z) (fun _ z => met_X3_center hO F S x0 x1 z) (fun r1 hr1 => ?_)
  refine v_leti (fun y2 hy2 => ?_)
  refine v_istore_n C (lv' := [(2, .int y2), (0, .ref x0), (1, .int x1)]) dX3_critical_5 (Nat.le_of_ble_eq_true rfl) rfl ?_
  refine v_iconst C dX3_critical_6 ci_0 ?_
  refine v_istore_n C (lv' := [(3, .int 0), (2, .int y2), (0, .ref x0), (1, .int x1)]) dX3_critical_7 (Nat.le_of_ble_eq_true rfl) rfl ?_
  refine v_iconst C dX3_critical_8 ci_0 ?_
  refine v_istore C (lv' := [(4, .int 0), (3, .int 0), (2, .int y2), (0, .ref x0), (1, .int x1)]) dX3_critical_9 (Nat.le_of_ble_eq_true rfl) rfl ?_
  exact v_sub [3, 4, 2, 1, 0] rfl (w_X3_critical_11 hO C hm F 0 0 r1.2)
theorem mono_X3_above {F : Nat} {S : St} {x0 : Nat} {x1 : Int32} {r : Int64 × St} (h : C_X3_above F S x0 x1 = some r) : leG S r.2 := by
  have q : MF mf_p (C_X3_above F S x0 x1) S := by
    unfold C_X3_above
    refine mf_bind (fun _ _ => ?_)
    refine mf_call (fun _ z => mono_X3_center z) (fun r1 hr1 => ?_)
    refine mf_bind (fun y2 hy2 => ?_)
    refine mf_bind (fun a3 ha3 => ?_)
    refine mf_bind (fun y4 hy4 => ?_)
    exact mf_ret leG.rf
  exact q r h
theorem met_X3_above {P : GP} {l : Launch} (hO : okG P) (F : Nat) (S : St) (x0 : Nat) (x1 : Int32) {r : Int64 × St} (h : C_X3_above F S x0 x1 = some r) : FM l (OG P) yX3_above (ws_ yX3_above cX3_above 2 (some .long)) 49 3179 [.ref x0, .int x1] S (f_ml r) := by
  refine FM.of (own := RX3) (lv := [(0, .ref x0), (1, .int x1)]) (OG_ok P hO) pl_X3 rfl (Nat.le_of_ble_eq_true rfl) rfl h (mono_X3_above h).LE (fun X C hm => ?_)
  unfold C_X3_above
  refine VF.bind (fun _ _ => ?_)
  refine v_aload_n C dX3_above_0 0 rfl ?_
  refine v_iload_n C dX3_above_1 1 rfl ?_
  refine g_callV_mi C (As := [.int x1]) (st := []) lk_X3_182 dX3_above_2 rfl (Nat.le_of_ble_eq_true rfl) (Nat.le_of_ble_eq_true rfl) (Nat.le_of_ble_eq_true rfl) cls_3.1 rfl (fun _ z => rc_X3_center z) (fun _ z => met_X3_center hO F S x0 x1 z) (fun r1 hr1 => ?_)
  refine v_pop C dX3_above_5 rfl ?_
  refine v_aload_n C dX3_above_6 0 rfl ?_
  refine g_getQ C dX3_above_7 cls_3 (Nat.le_of_ble_eq_true rfl) fl_X3_169 fs_X3_169 (fun y2 hy2 => ?_)
  refine v_iload_n C dX3_above_10 1 rfl ?_
  refine VF.bind (fun a3 ha3 => ?_)
  subst ha3
  refine g_lal C dX3_above_11 (fun y4 hy4 => ?_)
  exact v_lreturn C hm dX3_above_12 rfl
theorem mono_X3_below {F : Nat} {S : St} {x0 : Nat} {x1 : Int32} {r : Int64 × St} (h : C_X3_below F S x0 x1 = some r) : leG S r.2 := by
  have q : MF mf_p (C_X3_below F S x0 x1) S := by
    unfold C_X3_below
    refine mf_bind (fun _ _ => ?_)
    refine mf_bind (fun y1 hy1 => ?_)
    refine mf_bind (fun a2 ha2 => ?_)
    refine mf_bind (fun y3 hy3 => ?_)
    refine mf_call (fun _ z => mono_X3_center z) (fun r4 hr4 => ?_)
    refine mf_bind (fun y5 hy5 => ?_)
    exact mf_ret leG.rf
  exact q r h
theorem met_X3_below {P : GP} {l : Launch} (hO : okG P) (F : Nat) (S : St) (x0 : Nat) (x1 : Int32) {r : Int64 × St} (h : C_X3_below F S x0 x1 = some r) : FM l (OG P) yX3_below (ws_ yX3_below cX3_below 2 (some .long)) 49 3179 [.ref x0, .int x1] S (f_ml r) := by
  refine FM.of (own := RX3) (lv := [(0, .ref x0), (1, .int x1)]) (OG_ok P hO) pl_X3 rfl (Nat.le_of_ble_eq_true rfl) rfl h (mono_X3_below h).LE (fun X C hm => ?_)
  unfold C_X3_below
  refine VF.bind (fun _ _ => ?_)
  refine v_aload_n C dX3_below_0 0 rfl ?_
  refine g_getQ C dX3_below_1 cls_3 (Nat.le_of_ble_eq_true rfl) fl_X3_88 fs_X3_88 (fun y1 hy1 => ?_)
  refine VF.bind (fun a2 ha2 => ?_)
  subst ha2
  refine g_getA C dX3_below_4 cls_6 (Nat.le_of_ble_eq_true rfl) fl_X3_117 fs_X3_117 (fun y3 hy3 => ?_)
  refine v_aload_n C dX3_below_7 0 rfl ?_
  refine v_iload_n C dX3_below_8 1 rfl ?_
  refine g_callV_mi C (As := [.int x1]) (st := [.ref y3]) lk_X3_182 dX3_below_9 rfl (Nat.le_of_ble_eq_true rfl) (Nat.le_of_ble_eq_true rfl) (Nat.le_of_ble_eq_true rfl) cls_3.1 rfl (fun _ z => rc_X3_center z) (fun _ z => met_X3_center hO F S x0 x1 z) (fun r4 hr4 => ?_)
  refine g_ial C dX3_below_12 (fun y5 hy5 => ?_)
  refine v_i2l C dX3_below_13 ?_
  exact v_lreturn C hm dX3_below_14 rfl
theorem mono_X3_isAtMost {F : Nat} {S : St} {x0 : Nat} {x1 : Int32} {x2 : Int64} {x4 : Int64} {r : Int32 × St} (h : C_X3_isAtMost F S x0 x1 x2 x4 = some r) : leG S r.2 := by
  have q : MF mf_p (C_X3_isAtMost F S x0 x1 x2 x4) S := by
    unfold C_X3_isAtMost
    refine mf_bind (fun _ _ => ?_)
    refine mf_call (fun _ z => mono_X3_above z) (fun r1 hr1 => ?_)
    refine mf_call (fun _ z => mono_X3_below z) (fun r2 hr2 => ?_)
    refine mf_bind (fun r3 hr3 => ?_)
    refine mf_ite ?_ ?_
    · exact mf_ret leG.rf
    · exact mf_ret leG.rf
  exact q r h
theorem met_X3_isAtMost {P : GP} {l : Launch} (hO : okG P) (F : Nat) (S : St) (x0 : Nat) (x1 : Int32) (x2 : Int64) (x4 : Int64) {r : Int32 × St} (h : C_X3_isAtMost F S x0 x1 x2 x4 = some r) : FM l (OG P) yX3_isAtMost (ws_ yX3_isAtMost cX3_isAtMost 6 (some .boolean)) 50 3200 [.ref x0, .int x1, .long x2, .long x4] S (f_mi r) := by
  refine FM.of (own := RX3) (lv := [(0, .ref x0), (1, .int x1), (2, .long x2), (4, .long x4)]) (OG_ok P hO) pl_X3 rfl (Nat.le_of_ble_eq_true rfl) rfl h (mono_X3_isAtMost h).LE (fun X C hm => ?_)
  unfold C_X3_isAtMost
  refine VF.bind (fun _ _ => ?_)
  refine v_lload_n C dX3_isAtMost_0 2 rfl ?_
  refine v_lload C dX3_isAtMost_1 3 rfl ?_
  refine v_aload_n C dX3_isAtMost_3 0 rfl ?_
  refine v_iload_n C dX3_isAtMost_4 1 rfl ?_
  refine g_callV_ml C (As := [.int x1]) (st := [.long x4, .long x2]) lk_X3_185 dX3_isAtMost_5 rfl (Nat.le_of_ble_eq_true rfl) (Nat.le_of_ble_eq_true rfl) (Nat.le_of_ble_eq_true rfl) cls_3.1 rfl (fun _ z => rc_X3_above z) (fun _ z => met_X3_above hO F S x0 x1 z) (fun r1 hr1 => ?_)
  refine v_aload_n C dX3_isAtMost_8 0 rfl ?_
  refine v_iload_n C dX3_isAtMost_9 1 rfl ?_
  refine g_callV_ml C (As := [.int x1]) (st := [.long (r1.1), .long x4, .long x2]) lk_X3_188 dX3_isAtMost_10 rfl (Nat.le_of_ble_eq_true rfl) (Nat.le_of_ble_eq_true rfl) (Nat.le_of_ble_eq_true rfl) cls_3.1 rfl (fun _ z => rc_X3_below z) (fun _ z => met_X3_below hO F r1.2 x0 x1 z) (fun r2 hr2 => ?_)
  refine v_callS_ri C (As := [.long x2, .long x4, .long (r1.1), .long (r2.1)]) (st := []) lk_X3_162 dX3_isAtMost_13 rfl (Nat.le_of_ble_eq_true rfl) (Nat.le_of_ble_eq_true rfl) (Nat.le_of_ble_eq_true rfl) (fun _ z => met_X3_isLess hO r2.2 x2 x4 (r1.1) (r2.1) z) (fun r3 hr3 => ?_)
  refine v_if_ne C (tgt := 23) dX3_isAtMost_16 rfl (fun _ => ?_) (fun _ => ?_)
  · refine v_iconst C dX3_isAtMost_19 ci_1 ?_
    refine v_goto C (tgt := 24) dX3_isAtMost_20 rfl ?_
    exact v_zreturn C hm dX3_isAtMost_24 (Or.inr rfl) rfl
  · refine v_iconst C dX3_isAtMost_23 ci_0 ?_
    exact v_zreturn C hm dX3_isAtMost_24 (Or.inl rfl) rfl
theorem o_X3_isDivided_8 {F : Nat} {kR : St → Nat → Int32 → Int32 → Int64 → Int64 → Option (Int32 × St)} (hkR : ∀ (S : St) (x0 : Nat) (x1 : Int32) (x2 : Int32) (x3 : Int64) (x5 : Int64) r, kR S x0 x1 x2 x3 x5 = some r → leG S r.2) {x1 : Int32}  (S : St) : MF mf_p (C_X3_isDivided_8 F kR x1 S) S := by
  unfold C_X3_isDivided_8
  refine mf_ite ?_ ?_
  · exact mf_ret leG.rf
  · exact mf_ret leG.rf
theorem o_X3_isDivided_83 {F : Nat} {kR : St → Nat → Int32 → Int32 → Int64 → Int64 → Option (Int32 × St)} (hkR : ∀ (S : St) (x0 : Nat) (x1 : Int32) (x2 : Int32) (x3 : Int64) (x5 : Int64) r, kR S x0 x1 x2 x3 x5 = some r → leG S r.2) {x0 : Nat} {x2 : Int32} {x3 : Int64} {x5 : Int64} {x7 : Int32} {x8 : Int32} {x9 : Int32} (k48 : Int32 → St → Option (Int32 × St)) (hk48 : ∀ (z9 : Int32) (τ : St), MF mf_p (k48 z9 τ) τ) (S : St) : MF mf_p (C_X3_isDivided_83 F kR k48 x0 x2 x3 x5 x7 x8 x9 S) S := by
  unfold C_X3_isDivided_83
  refine mf_ite ?_ ?_
  · exact mf_ret leG.rf
  · refine mf_bind (fun y7 hy7 => ?_)
    exact (hk48 y7 S)
theorem o_X3_isDivided_48 {F : Nat} {kR : St → Nat → Int32 → Int32 → Int64 → Int64 → Option (Int32 × St)} (hkR : ∀ (S : St) (x0 : Nat) (x1 : Int32) (x2 : Int32) (x3 : Int64) (x5 : Int64) r, kR S x0 x1 x2 x3 x5 = some r → leG S r.2) {x0 : Nat} {x2 : Int32} {x3 : Int64} {x5 : Int64} {x7 : Int32} {x8 : Int32}  : ∀ (n : Nat) (x9 : Int32) (S : St), MF mf_p (C_X3_isDivided_48 F kR x0 x2 x3 x5 x7 x8 n x9 S) S := by
  intro n
  induction n with
  | zero => intro x9 S; exact mf_none
  | succ n ih =>
    intro x9 S
    unfold C_X3_isDivided_48
    refine mf_call (fun _ z => mono_X3_isAtMost z) (fun r5 hr5 => ?_)
    refine mf_ite ?_ ?_
    · exact (o_X3_isDivided_83 hkR (C_X3_isDivided_48 F kR x0 x2 x3 x5 x7 x8 n) ih r5.2)
    · refine mf_call (fun _ z => hkR r5.2 x0 (x8 ^^^ x9) (x2 - 1) x3 x5 _ z) (fun r6 hr6 => ?_)
      refine mf_ite ?_ ?_
      · exact (o_X3_isDivided_83 hkR (C_X3_isDivided_48 F kR x0 x2 x3 x5 x7 x8 n) ih r6.2)
      · exact mf_ret leG.rf
theorem mono_X3_isDivided_b {F : Nat} {S : St} {x0 : Nat} {x1 : Int32} {x2 : Int32} {x3 : Int64} {x5 : Int64} {kR : St → Nat → Int32 → Int32 → Int64 → Int64 → Option (Int32 × St)} (hkR : ∀ (S : St) (x0 : Nat) (x1 : Int32) (x2 : Int32) (x3 : Int64) (x5 : Int64) r, kR S x0 x1 x2 x3 x5 = some r → leG S r.2) : MF mf_p (C_X3_isDivided_b F kR S x0 x1 x2 x3 x5) S := by
  unfold C_X3_isDivided_b
  refine mf_bind (fun _ _ => ?_)
  refine mf_ite ?_ ?_
  · exact (o_X3_isDivided_8 hkR S)
  · refine mf_ite ?_ ?_
    · exact (o_X3_isDivided_8 hkR S)
    · refine mf_ite ?_ ?_
      · refine mf_call (fun _ z => mono_X3_isAtMost z) (fun r1 hr1 => ?_)
        refine mf_bind (fun b2 hb2 => ?_)
        exact mf_ret leG.rf
      · refine mf_bind (fun y3 hy3 => ?_)
        refine mf_bind (fun y4 hy4 => ?_)
        exact (o_X3_isDivided_48 hkR F y4 S)
theorem mono_X3_isDivided_d {F : Nat} : ∀ (d : Nat) (S : St) (x0 : Nat) (x1 : Int32) (x2 : Int32) (x3 : Int64) (x5 : Int64) r, C_X3_isDivided_d F d S x0 x1 x2 x3 x5 = some r → leG S r.2 := by
  intro d
  induction d with
  | zero => intro S x0 x1 x2 x3 x5 r h; cases h
  | succ d ih => intro S x0 x1 x2 x3 x5 r h; exact mono_X3_isDivided_b ih r h
theorem mono_X3_isDivided {F : Nat} {S : St} {x0 : Nat} {x1 : Int32} {x2 : Int32} {x3 : Int64} {x5 : Int64} {r : Int32 × St} (h : C_X3_isDivided F S x0 x1 x2 x3 x5 = some r) : leG S r.2 := mono_X3_isDivided_d _ _ _ _ _ _ _ _ h
theorem w_X3_isDivided_8 {P : GP} {X : Ctx} {l : Launch} {S0 : St} {F : Nat} (hO : okG P) {frd lod : Nat} {kR : St → Nat → Int32 → Int32 → Int64 → Int64 → Option (Int32 × St)} (C : CX (OG P) X l cX3_isDivided 10 RX3 (some .boolean)) (hm : X.2.2.2.2.2.2.2.2.2 = none) (hkR : (∀ (S : St) (x0 : Nat) (x1 : Int32) (x2 : Int32) (x3 : Int64) (x5 : Int64) r, kR S x0 x1 x2 x3 x5 = some r → FM l (OG P) yX3_isDivided (ws_ yX3_isDivided cX3_isDivided 10 (some .boolean)) frd lod [.ref x0, .int x1, .int x2, .long x3, .long x5] S (f_mi r)) ∧ (∀ (S : St) (x0 : Nat) (x1 : Int32) (x2 : Int32) (x3 : Int64) (x5 : Int64) r, kR S x0 x1 x2 x3 x5 = some r → ∃ fs, gO S 3 x0 = some fs) ∧ True) {x1 : Int32}  (S : St) : VF (OG P) X 10 (frd + 51) (lod + 3225) S0 f_mi (C_X3_isDivided_8 F kR x1 S) S 8 [(1, .int x1)] [] := by
  unfold C_X3_isDivided_8
  refine v_iload_n C dX3_isDivided_8 0 rfl ?_
  refine v_if_ne C (tgt := 16) dX3_isDivided_9 rfl (fun _ => ?_) (fun _ => ?_)
  · refine v_iconst C dX3_isDivided_12 ci_1 ?_
    refine v_goto C (tgt := 17) dX3_isDivided_13 rfl ?_
    exact v_zreturn C hm dX3_isDivided_17 (Or.inr rfl) rfl
  · refine v_iconst C dX3_isDivided_16 ci_0 ?_
    exact v_zreturn C hm dX3_isDivided_17 (Or.inl rfl) rfl
theorem w_X3_isDivided_83 {P : GP} {X : Ctx} {l : Launch} {S0 : St} {F : Nat} (hO : okG P) {frd lod : Nat} {kR : St → Nat → Int32 → Int32 → Int64 → Int64 → Option (Int32 × St)} (C : CX (OG P) X l cX3_isDivided 10 RX3 (some .boolean)) (hm : X.2.2.2.2.2.2.2.2.2 = none) (hkR : (∀ (S : St) (x0 : Nat) (x1 : Int32) (x2 : Int32) (x3 : Int64) (x5 : Int64) r, kR S x0 x1 x2 x3 x5 = some r → FM l (OG P) yX3_isDivided (ws_ yX3_isDivided cX3_isDivided 10 (some .boolean)) frd lod [.ref x0, .int x1, .int x2, .long x3, .long x5] S (f_mi r)) ∧ (∀ (S : St) (x0 : Nat) (x1 : Int32) (x2 : Int32) (x3 : Int64) (x5 : Int64) r, kR S x0 x1 x2 x3 x5 = some r → ∃ fs, gO S 3 x0 = some fs) ∧ True) {x0 : Nat} {x2 : Int32} {x3 : Int64} {x5 : Int64} {x7 : Int32} {x8 : Int32} {x9 : Int32} (k48 : Int32 → St → Option (Int32 × St)) (hk48 : ∀ (z9 : Int32) (τ : St), VF (OG P) X 10 (frd + 51) (lod + 3225) S0 f_mi (k48 z9 τ) τ 48 [(0, .ref x0), (2, .int x2), (3, .long x3), (5, .long x5), (7, .int x7), (8, .int x8), (9, .int z9)] []) (S : St) : VF (OG P) X 10 (frd + 51) (lod + 3225) S0 f_mi (C_X3_isDivided_83 F kR k48 x0 x2 x3 x5 x7 x8 x9 S) S 83 [(0, .ref x0), (2, .int x2), (3, .long x3), (5, .long x5), (7, .int x7), (8, .int x8), (9, .int x9)] [] := by
  unfold C_X3_isDivided_83
  refine v_iload C dX3_isDivided_83 6 rfl ?_
  refine v_if_ne C (tgt := 90) dX3_isDivided_85 rfl (fun _ => ?_) (fun _ => ?_)
  · refine v_iconst C dX3_isDivided_88 ci_0 ?_
    exact v_zreturn C hm dX3_isDivided_89 (Or.inl rfl) rfl
  · refine v_iload C dX3_isDivided_90 6 rfl ?_
    refine v_iconst C dX3_isDivided_92 ci_1 ?_
    refine v_isub C dX3_isDivided_93 ?_
    refine v_iload C dX3_isDivided_94 5 rfl ?_
    refine v_iand C dX3_isDivided_96 ?_
    refine v_leti (fun y7 hy7 => ?_)
    refine v_istore C (lv' := [(9, .int y7), (0, .ref x0), (2, .int x2), (3, .long x3), (5, .long x5), (7, .int x7), (8, .int x8)]) dX3_isDivided_97 (Nat.le_of_ble_eq_true rfl) rfl ?_
    refine v_goto C (tgt := 48) dX3_isDivided_99 rfl ?_
    exact v_sub [1, 2, 3, 4, 5, 6, 0] rfl (hk48 y7 S)
theorem w_X3_isDivided_48 {P : GP} {X : Ctx} {l : Launch} {S0 : St} {F : Nat} (hO : okG P) {frd lod : Nat} {kR : St → Nat → Int32 → Int32 → Int64 → Int64 → Option (Int32 × St)} (C : CX (OG P) X l cX3_isDivided 10 RX3 (some .boolean)) (hm : X.2.2.2.2.2.2.2.2.2 = none) (hkR : (∀ (S : St) (x0 : Nat) (x1 : Int32) (x2 : Int32) (x3 : Int64) (x5 : Int64) r, kR S x0 x1 x2 x3 x5 = some r → FM l (OG P) yX3_isDivided (ws_ yX3_isDivided cX3_isDivided 10 (some .boolean)) frd lod [.ref x0, .int x1, .int x2, .long x3, .long x5] S (f_mi r)) ∧ (∀ (S : St) (x0 : Nat) (x1 : Int32) (x2 : Int32) (x3 : Int64) (x5 : Int64) r, kR S x0 x1 x2 x3 x5 = some r → ∃ fs, gO S 3 x0 = some fs) ∧ True) {x0 : Nat} {x2 : Int32} {x3 : Int64} {x5 : Int64} {x7 : Int32} {x8 : Int32}  : ∀ (n : Nat) (x9 : Int32) (S : St), VF (OG P) X 10 (frd + 51) (lod + 3225) S0 f_mi (C_X3_isDivided_48 F kR x0 x2 x3 x5 x7 x8 n x9 S) S 48 [(0, .ref x0), (2, .int x2), (3, .long x3), (5, .long x5), (7, .int x7), (8, .int x8), (9, .int x9)] [] := by
  intro n
  induction n with
  | zero => intro x9 S; exact VF.none
  | succ n ih =>
    intro x9 S
    unfold C_X3_isDivided_48
    refine v_aload_n C dX3_isDivided_48 0 rfl ?_
    refine v_iload C dX3_isDivided_49 6 rfl ?_
    refine v_iload C dX3_isDivided_51 4 rfl ?_
    refine v_ior C dX3_isDivided_53 ?_
    refine v_lload_n C dX3_isDivided_54 2 rfl ?_
    refine v_lload C dX3_isDivided_55 3 rfl ?_
    refine g_callV_mi C (As := [.int (x9 ||| x7), .long x3, .long x5]) (st := []) lk_X3_198 dX3_isDivided_57 rfl (by omega) (by omega) (Nat.le_of_ble_eq_true rfl) cls_3.1 rfl (fun _ z => rc_X3_isAtMost z) (fun _ z => met_X3_isAtMost hO F S x0 (x9 ||| x7) x3 x5 z) (fun r5 hr5 => ?_)
    refine v_if_eq C (tgt := 83) dX3_isDivided_60 rfl (fun _ => ?_) (fun _ => ?_)
    · exact v_sub [0, 1, 2, 3, 4, 5, 6] rfl (w_X3_isDivided_83 hO C hm hkR (C_X3_isDivided_48 F kR x0 x2 x3 x5 x7 x8 n) ih r5.2)
    · refine v_aload_n C dX3_isDivided_63 0 rfl ?_
      refine v_iload C dX3_isDivided_64 5 rfl ?_
      refine v_iload C dX3_isDivided_66 6 rfl ?_
      refine v_ixor C dX3_isDivided_68 ?_
      refine v_iload_n C dX3_isDivided_69 1 rfl ?_
      refine v_iconst C dX3_isDivided_70 ci_1 ?_
      refine v_isub C dX3_isDivided_71 ?_
      refine v_lload_n C dX3_isDivided_72 2 rfl ?_
      refine v_lload C dX3_isDivided_73 3 rfl ?_
      refine g_callV_mi C (As := [.int (x8 ^^^ x9), .int (x2 - 1), .long x3, .long x5]) (st := []) lk_X3_201 dX3_isDivided_75 rfl (by omega) (by omega) (Nat.le_of_ble_eq_true rfl) cls_3.1 rfl (fun _ z => hkR.2.1 r5.2 x0 (x8 ^^^ x9) (x2 - 1) x3 x5 _ z) (fun _ z => hkR.1 r5.2 x0 (x8 ^^^ x9) (x2 - 1) x3 x5 _ z) (fun r6 hr6 => ?_)
      refine v_if_eq C (tgt := 83) dX3_isDivided_78 rfl (fun _ => ?_) (fun _ => ?_)
      · exact v_sub [0, 1, 2, 3, 4, 5, 6] rfl (w_X3_isDivided_83 hO C hm hkR (C_X3_isDivided_48 F kR x0 x2 x3 x5 x7 x8 n) ih r6.2)
      · refine v_iconst C dX3_isDivided_81 ci_1 ?_
        exact v_zreturn C hm dX3_isDivided_82 (Or.inr rfl) rfl
theorem met_X3_isDivided_b {P : GP} {l : Launch} (hO : okG P) (F : Nat) {frd lod : Nat} {kR : St → Nat → Int32 → Int32 → Int64 → Int64 → Option (Int32 × St)} (hkR : (∀ (S : St) (x0 : Nat) (x1 : Int32) (x2 : Int32) (x3 : Int64) (x5 : Int64) r, kR S x0 x1 x2 x3 x5 = some r → FM l (OG P) yX3_isDivided (ws_ yX3_isDivided cX3_isDivided 10 (some .boolean)) frd lod [.ref x0, .int x1, .int x2, .long x3, .long x5] S (f_mi r)) ∧ (∀ (S : St) (x0 : Nat) (x1 : Int32) (x2 : Int32) (x3 : Int64) (x5 : Int64) r, kR S x0 x1 x2 x3 x5 = some r → ∃ fs, gO S 3 x0 = some fs) ∧ True) (hmR : ∀ (S : St) (x0 : Nat) (x1 : Int32) (x2 : Int32) (x3 : Int64) (x5 : Int64) r, kR S x0 x1 x2 x3 x5 = some r → leG S r.2) (S : St) (x0 : Nat) (x1 : Int32) (x2 : Int32) (x3 : Int64) (x5 : Int64) {r : Int32 × St} (h : C_X3_isDivided_b F kR S x0 x1 x2 x3 x5 = some r) : FM l (OG P) yX3_isDivided (ws_ yX3_isDivided cX3_isDivided 10 (some .boolean)) (frd + 51) (lod + 3225) [.ref x0, .int x1, .int x2, .long x3, .long x5] S (f_mi r) := by
  refine FM.of (own := RX3) (lv := [(0, .ref x0), (1, .int x1), (2, .int x2), (3, .long x3), (5, .long x5)]) (OG_ok P hO) pl_X3 rfl (Nat.le_of_ble_eq_true rfl) rfl h (mono_X3_isDivided_b hmR _ h).LE (fun X C hm => ?_)
  unfold C_X3_isDivided_b
  refine VF.bind (fun _ _ => ?_)
  refine v_iload_n C dX3_isDivided_0 2 rfl ?_
  refine v_if_eq C (tgt := 8) dX3_isDivided_1 rfl (fun _ => ?_) (fun _ => ?_)
  · exact v_sub [1] rfl (w_X3_isDivided_8 hO C hm hkR S)
  · refine v_iload_n C dX3_isDivided_4 1 rfl ?_
    refine v_if_ne C (tgt := 18) dX3_isDivided_5 rfl (fun _ => ?_) (fun _ => ?_)
    · exact v_sub [1] rfl (w_X3_isDivided_8 hO C hm hkR S)
    · refine v_iload_n C dX3_isDivided_18 2 rfl ?_
      refine v_iconst C dX3_isDivided_19 ci_1 ?_
      refine v_icmp_ne C (tgt := 32) dX3_isDivided_20 rfl (fun _ => ?_) (fun _ => ?_)
      · refine v_aload_n C dX3_isDivided_23 0 rfl ?_
        refine v_iload_n C dX3_isDivided_24 1 rfl ?_
        refine v_lload_n C dX3_isDivided_25 3 rfl ?_
        refine v_lload C dX3_isDivided_26 4 rfl ?_
        refine g_callV_mi C (As := [.int x1, .long x3, .long x5]) (st := []) lk_X3_198 dX3_isDivided_28 rfl (by omega) (by omega) (Nat.le_of_ble_eq_true rfl) cls_3.1 rfl (fun _ z => rc_X3_isAtMost z) (fun _ z => met_X3_isAtMost hO F S x0 x1 x3 x5 z) (fun r1 hr1 => ?_)
        refine v_zz (fun b2 hb2 => ?_)
        exact v_zreturn C hm dX3_isDivided_31 hb2 rfl
      · refine v_iload_n C dX3_isDivided_32 1 rfl ?_
        refine v_iload_n C dX3_isDivided_33 1 rfl ?_
        refine v_ineg C dX3_isDivided_34 ?_
        refine v_iand C dX3_isDivided_35 ?_
        refine v_leti (fun y3 hy3 => ?_)
        refine v_istore C (lv' := [(7, .int y3), (0, .ref x0), (1, .int x1), (2, .int x2), (3, .long x3), (5, .long x5)]) dX3_isDivided_36 (Nat.le_of_ble_eq_true rfl) rfl ?_
        refine v_iload_n C dX3_isDivided_38 2 rfl ?_
        refine v_iload C dX3_isDivided_39 0 rfl ?_
        refine v_ixor C dX3_isDivided_41 ?_
        refine v_leti (fun y4 hy4 => ?_)
        refine v_istore C (lv' := [(8, .int y4), (7, .int y3), (0, .ref x0), (1, .int x1), (2, .int x2), (3, .long x3), (5, .long x5)]) dX3_isDivided_42 (Nat.le_of_ble_eq_true rfl) rfl ?_
        refine v_iload C dX3_isDivided_44 0 rfl ?_
        refine v_istore C (lv' := [(9, .int y4), (8, .int y4), (7, .int y3), (0, .ref x0), (1, .int x1), (2, .int x2), (3, .long x3), (5, .long x5)]) dX3_isDivided_46 (Nat.le_of_ble_eq_true rfl) rfl ?_
        exact v_sub [3, 5, 6, 7, 2, 1, 0] rfl (w_X3_isDivided_48 hO C hm hkR F y4 S)
theorem met_X3_isDivided_d {P : GP} {l : Launch} (hO : okG P) (F : Nat) : ∀ (d : Nat) (S : St) (x0 : Nat) (x1 : Int32) (x2 : Int32) (x3 : Int64) (x5 : Int64) {r : Int32 × St} (h : C_X3_isDivided_d F d S x0 x1 x2 x3 x5 = some r), FM l (OG P) yX3_isDivided (ws_ yX3_isDivided cX3_isDivided 10 (some .boolean)) (51 * d) (3225 * d) [.ref x0, .int x1, .int x2, .long x3, .long x5] S (f_mi r) := by
  intro d
  induction d with
  | zero => intro S x0 x1 x2 x3 x5 r h; cases h
  | succ d ih => intro S x0 x1 x2 x3 x5 r h; exact met_X3_isDivided_b hO F (frd := 51 * d) (lod := 3225 * d) (kR := C_X3_isDivided_d F d) ⟨fun S x0 x1 x2 x3 x5 r z => ih S x0 x1 x2 x3 x5 z, fun S x0 x1 x2 x3 x5 r z => rc_X3_isDivided_d z, trivial⟩ (mono_X3_isDivided_d d) S x0 x1 x2 x3 x5 h
theorem met_X3_isDivided {P : GP} {l : Launch} (hO : okG P) (F : Nat) (S : St) (x0 : Nat) (x1 : Int32) (x2 : Int32) (x3 : Int64) (x5 : Int64) {r : Int32 × St} (h : C_X3_isDivided F S x0 x1 x2 x3 x5 = some r) : FM l (OG P) yX3_isDivided (ws_ yX3_isDivided cX3_isDivided 10 (some .boolean)) 612 38700 [.ref x0, .int x1, .int x2, .long x3, .long x5] S (f_mi r) := met_X3_isDivided_d hO F 12 S x0 x1 x2 x3 x5 h
theorem o_X3_deciding_72 {F : Nat} {x0 : Nat} {x1 : Int32} {x2 : Int32} {x3 : Int32} {x4 : Int32} (k14 : Int32 → Int32 → St → Option (Int32 × St)) (hk14 : ∀ (z3 : Int32) (z4 : Int32) (τ : St), MF mf_p (k14 z3 z4 τ) τ) (S : St) : MF mf_p (C_X3_deciding_72 F k14 x0 x1 x2 x3 x4 S) S := by
  unfold C_X3_deciding_72
  refine mf_bind (fun y11 hy11 => ?_)
  exact (hk14 x3 y11 S)
theorem o_X3_deciding_14 {F : Nat} {x0 : Nat} {x1 : Int32} {x2 : Int32}  : ∀ (n : Nat) (x3 : Int32) (x4 : Int32) (S : St), MF mf_p (C_X3_deciding_14 F x0 x1 x2 n x3 x4 S) S := by
  intro n
  induction n with
  | zero => intro x3 x4 S; exact mf_none
  | succ n ih =>
    intro x3 x4 S
    unfold C_X3_deciding_14
    refine mf_ite ?_ ?_
    · exact mf_ret leG.rf
    · refine mf_call (fun _ z => mono_X3_above z) (fun r3 hr3 => ?_)
      refine mf_call (fun _ z => mono_X3_below z) (fun r4 hr4 => ?_)
      refine mf_call (fun _ z => mono_X3_above z) (fun r5 hr5 => ?_)
      refine mf_call (fun _ z => mono_X3_below z) (fun r6 hr6 => ?_)
      refine mf_bind (fun r7 hr7 => ?_)
      refine mf_ite ?_ ?_
      · exact (o_X3_deciding_72 (C_X3_deciding_14 F x0 x1 x2 n) ih r6.2)
      · refine mf_call (fun _ z => mono_X3_above z) (fun r8 hr8 => ?_)
        refine mf_call (fun _ z => mono_X3_below z) (fun r9 hr9 => ?_)
        refine mf_call (fun _ z => mono_X3_isDivided z) (fun r10 hr10 => ?_)
        refine mf_ite ?_ ?_
        · exact (o_X3_deciding_72 (C_X3_deciding_14 F x0 x1 x2 n) ih r10.2)
        · exact (o_X3_deciding_72 (C_X3_deciding_14 F x0 x1 x2 n) ih r10.2)
theorem mono_X3_deciding {F : Nat} {S : St} {x0 : Nat} {x1 : Int32} {r : Int32 × St} (h : C_X3_deciding F S x0 x1 = some r) : leG S r.2 := by
  have q : MF mf_p (C_X3_deciding F S x0 x1) S := by
    unfold C_X3_deciding
    refine mf_bind (fun _ _ => ?_)
    refine mf_bind (fun y1 hy1 => ?_)
    refine mf_bind (fun y2 hy2 => ?_)
    exact (o_X3_deciding_14 F y2 0 S)
  exact q r h
theorem w_X3_deciding_72 {P : GP} {X : Ctx} {l : Launch} {S0 : St} {F : Nat} (hO : okG P) (C : CX (OG P) X l cX3_deciding 5 RX3 (some .int)) (hm : X.2.2.2.2.2.2.2.2.2 = none) {x0 : Nat} {x1 : Int32} {x2 : Int32} {x3 : Int32} {x4 : Int32} (k14 : Int32 → Int32 → St → Option (Int32 × St)) (hk14 : ∀ (z3 : Int32) (z4 : Int32) (τ : St), VF (OG P) X 5 613 38729 S0 f_mi (k14 z3 z4 τ) τ 14 [(0, .ref x0), (1, .int x1), (2, .int x2), (3, .int z3), (4, .int z4)] []) (S : St) : VF (OG P) X 5 613 38729 S0 f_mi (C_X3_deciding_72 F k14 x0 x1 x2 x3 x4 S) S 72 [(0, .ref x0), (1, .int x1), (2, .int x2), (3, .int x3), (4, .int x4)] [] := by
  unfold C_X3_deciding_72
  refine v_iincN C (lv' := fun y11 => [(4, .int y11), (0, .ref x0), (1, .int x1), (2, .int x2), (3, .int x3)]) dX3_deciding_72 4 rfl ci_1 (Nat.le_of_ble_eq_true rfl) (fun _ => rfl) (fun y11 hy11 => ?_)
  refine v_goto C (tgt := 14) dX3_deciding_75 rfl ?_
  exact v_sub [1, 2, 3, 4, 0] rfl (hk14 x3 y11 S)
theorem w_X3_deciding_14 {P : GP} {X : Ctx} {l : Launch} {S0 : St} {F : Nat} (hO : okG P) (C : CX (OG P) X l cX3_deciding 5 RX3 (some .int)) (hm : X.2.2.2.2.2.2.2.2.2 = none) {x0 : Nat} {x1 : Int32} {x2 : Int32}  : ∀ (n : Nat) (x3 : Int32) (x4 : Int32) (S : St), VF (OG P) X 5 613 38729 S0 f_mi (C_X3_deciding_14 F x0 x1 x2 n x3 x4 S) S 14 [(0, .ref x0), (1, .int x1), (2, .int x2), (3, .int x3), (4, .int x4)] [] := by
  intro n
  induction n with
  | zero => intro x3 x4 S; exact VF.none
  | succ n ih =>
    intro x3 x4 S
    unfold C_X3_deciding_14
    refine v_iload C dX3_deciding_14 4 rfl ?_
    refine v_iload_n C dX3_deciding_16 2 rfl ?_
    refine v_icmp_gt C (tgt := 78) dX3_deciding_17 rfl (fun _ => ?_) (fun _ => ?_)
    · refine v_iload_n C dX3_deciding_78 3 rfl ?_
      exact v_ireturn C hm dX3_deciding_79 rfl
    · refine v_aload_n C dX3_deciding_20 0 rfl ?_
      refine v_iload C dX3_deciding_21 4 rfl ?_
      refine g_callV_ml C (As := [.int x4]) (st := []) lk_X3_185 dX3_deciding_23 rfl (Nat.le_of_ble_eq_true rfl) (Nat.le_of_ble_eq_true rfl) (Nat.le_of_ble_eq_true rfl) cls_3.1 rfl (fun _ z => rc_X3_above z) (fun _ z => met_X3_above hO F S x0 x4 z) (fun r3 hr3 => ?_)
      refine v_aload_n C dX3_deciding_26 0 rfl ?_
      refine v_iload C dX3_deciding_27 4 rfl ?_
      refine g_callV_ml C (As := [.int x4]) (st := [.long (r3.1)]) lk_X3_188 dX3_deciding_29 rfl (Nat.le_of_ble_eq_true rfl) (Nat.le_of_ble_eq_true rfl) (Nat.le_of_ble_eq_true rfl) cls_3.1 rfl (fun _ z => rc_X3_below z) (fun _ z => met_X3_below hO F r3.2 x0 x4 z) (fun r4 hr4 => ?_)
      refine v_aload_n C dX3_deciding_32 0 rfl ?_
      refine v_iload_n C dX3_deciding_33 3 rfl ?_
      refine g_callV_ml C (As := [.int x3]) (st := [.long (r4.1), .long (r3.1)]) lk_X3_185 dX3_deciding_34 rfl (Nat.le_of_ble_eq_true rfl) (Nat.le_of_ble_eq_true rfl) (Nat.le_of_ble_eq_true rfl) cls_3.1 rfl (fun _ z => rc_X3_above z) (fun _ z => met_X3_above hO F r4.2 x0 x3 z) (fun r5 hr5 => ?_)
      refine v_aload_n C dX3_deciding_37 0 rfl ?_
      refine v_iload_n C dX3_deciding_38 3 rfl ?_
      refine g_callV_ml C (As := [.int x3]) (st := [.long (r5.1), .long (r4.1), .long (r3.1)]) lk_X3_188 dX3_deciding_39 rfl (Nat.le_of_ble_eq_true rfl) (Nat.le_of_ble_eq_true rfl) (Nat.le_of_ble_eq_true rfl) cls_3.1 rfl (fun _ z => rc_X3_below z) (fun _ z => met_X3_below hO F r5.2 x0 x3 z) (fun r6 hr6 => ?_)
      refine v_callS_ri C (As := [.long (r3.1), .long (r4.1), .long (r5.1), .long (r6.1)]) (st := []) lk_X3_162 dX3_deciding_42 rfl (Nat.le_of_ble_eq_true rfl) (Nat.le_of_ble_eq_true rfl) (Nat.le_of_ble_eq_true rfl) (fun _ z => met_X3_isLess hO r6.2 (r3.1) (r4.1) (r5.1) (r6.1) z) (fun r7 hr7 => ?_)
      refine v_if_eq C (tgt := 72) dX3_deciding_45 rfl (fun _ => ?_) (fun _ => ?_)
      · exact v_sub [0, 1, 2, 3, 4] rfl (w_X3_deciding_72 hO C hm (C_X3_deciding_14 F x0 x1 x2 n) ih r6.2)
      · refine v_aload_n C dX3_deciding_48 0 rfl ?_
        refine v_iload_n C dX3_deciding_49 2 rfl ?_
        refine v_iload_n C dX3_deciding_50 1 rfl ?_
        refine v_aload_n C dX3_deciding_51 0 rfl ?_
        refine v_iload C dX3_deciding_52 4 rfl ?_
        refine g_callV_ml C (As := [.int x4]) (st := [.int x1, .int x2, .ref x0]) lk_X3_185 dX3_deciding_54 rfl (Nat.le_of_ble_eq_true rfl) (Nat.le_of_ble_eq_true rfl) (Nat.le_of_ble_eq_true rfl) cls_3.1 rfl (fun _ z => rc_X3_above z) (fun _ z => met_X3_above hO F r6.2 x0 x4 z) (fun r8 hr8 => ?_)
        refine v_aload_n C dX3_deciding_57 0 rfl ?_
        refine v_iload C dX3_deciding_58 4 rfl ?_
        refine g_callV_ml C (As := [.int x4]) (st := [.long (r8.1), .int x1, .int x2, .ref x0]) lk_X3_188 dX3_deciding_60 rfl (Nat.le_of_ble_eq_true rfl) (Nat.le_of_ble_eq_true rfl) (Nat.le_of_ble_eq_true rfl) cls_3.1 rfl (fun _ z => rc_X3_below z) (fun _ z => met_X3_below hO F r8.2 x0 x4 z) (fun r9 hr9 => ?_)
        refine g_callV_mi C (As := [.int x2, .int x1, .long (r8.1), .long (r9.1)]) (st := []) lk_X3_201 dX3_deciding_63 rfl (Nat.le_of_ble_eq_true rfl) (Nat.le_of_ble_eq_true rfl) (Nat.le_of_ble_eq_true rfl) cls_3.1 rfl (fun _ z => rc_X3_isDivided z) (fun _ z => met_X3_isDivided hO F r9.2 x0 x2 x1 (r8.1) (r9.1) z) (fun r10 hr10 => ?_)
        refine v_if_eq C (tgt := 72) dX3_deciding_66 rfl (fun _ => ?_) (fun _ => ?_)
        · exact v_sub [0, 1, 2, 3, 4] rfl (w_X3_deciding_72 hO C hm (C_X3_deciding_14 F x0 x1 x2 n) ih r10.2)
        · refine v_iload C dX3_deciding_69 4 rfl ?_
          refine v_istore_n C (lv' := [(3, .int x4), (0, .ref x0), (1, .int x1), (2, .int x2), (4, .int x4)]) dX3_deciding_71 (Nat.le_of_ble_eq_true rfl) rfl ?_
          exact v_sub [1, 2, 3, 0, 4] rfl (w_X3_deciding_72 hO C hm (C_X3_deciding_14 F x0 x1 x2 n) ih r10.2)
theorem met_X3_deciding {P : GP} {l : Launch} (hO : okG P) (F : Nat) (S : St) (x0 : Nat) (x1 : Int32) {r : Int32 × St} (h : C_X3_deciding F S x0 x1 = some r) : FM l (OG P) yX3_deciding (ws_ yX3_deciding cX3_deciding 5 (some .int)) 613 38729 [.ref x0, .int x1] S (f_mi r) := by
  refine FM.of (own := RX3) (lv := [(0, .ref x0), (1, .int x1)]) (OG_ok P hO) pl_X3 rfl (Nat.le_of_ble_eq_true rfl) rfl h (mono_X3_deciding h).LE (fun X C hm => ?_)
  unfold C_X3_deciding
  refine VF.bind (fun _ _ => ?_)
  refine v_iconst C dX3_deciding_0 ci_1 ?_
  refine v_aload_n C dX3_deciding_1 0 rfl ?_
  refine g_getI C dX3_deciding_2 cls_3 (Nat.le_of_ble_eq_true rfl) fl_X3_21 fs_X3_21 (fun y1 hy1 => ?_)
  refine v_ishl C dX3_deciding_5 ?_
  refine v_iconst C dX3_deciding_6 ci_1 ?_
  refine v_isub C dX3_deciding_7 ?_
  refine v_leti (fun y2 hy2 => ?_)
  refine v_istore_n C (lv' := [(2, .int y2), (0, .ref x0), (1, .int x1)]) dX3_deciding_8 (Nat.le_of_ble_eq_true rfl) rfl ?_
  refine v_iload_n C dX3_deciding_9 0 rfl ?_
  refine v_istore_n C (lv' := [(3, .int y2), (2, .int y2), (0, .ref x0), (1, .int x1)]) dX3_deciding_10 (Nat.le_of_ble_eq_true rfl) rfl ?_
  refine v_iconst C dX3_deciding_11 ci_0 ?_
  refine v_istore C (lv' := [(4, .int 0), (3, .int y2), (2, .int y2), (0, .ref x0), (1, .int x1)]) dX3_deciding_12 (Nat.le_of_ble_eq_true rfl) rfl ?_
  exact v_sub [3, 4, 2, 1, 0] rfl (w_X3_deciding_14 hO C hm F y2 0 S)
theorem mono_X3_radius {F : Nat} {S : St} {x0 : Nat} {x1 : Int32} {x2 : Int32} {r : Int32 × St} (h : C_X3_radius F S x0 x1 x2 = some r) : leG S r.2 := by
  have q : MF mf_p (C_X3_radius F S x0 x1 x2) S := by
    unfold C_X3_radius
    refine mf_bind (fun _ _ => ?_)
    refine mf_call (fun _ z => mono_X3_above z) (fun r1 hr1 => ?_)
    refine mf_call (fun _ z => mono_X3_below z) (fun r2 hr2 => ?_)
    refine mf_bind (fun r3 hr3 => ?_)
    exact mf_ret leG.rf
  exact q r h
theorem met_X3_radius {P : GP} {l : Launch} (hO : okG P) (F : Nat) (S : St) (x0 : Nat) (x1 : Int32) (x2 : Int32) {r : Int32 × St} (h : C_X3_radius F S x0 x1 x2 = some r) : FM l (OG P) yX3_radius (ws_ yX3_radius cX3_radius 3 (some .int)) 50 3200 [.ref x0, .int x1, .int x2] S (f_mi r) := by
  refine FM.of (own := RX3) (lv := [(0, .ref x0), (1, .int x1), (2, .int x2)]) (OG_ok P hO) pl_X3 rfl (Nat.le_of_ble_eq_true rfl) rfl h (mono_X3_radius h).LE (fun X C hm => ?_)
  unfold C_X3_radius
  refine VF.bind (fun _ _ => ?_)
  refine v_aload_n C dX3_radius_0 0 rfl ?_
  refine v_iload_n C dX3_radius_1 1 rfl ?_
  refine g_callV_ml C (As := [.int x1]) (st := []) lk_X3_185 dX3_radius_2 rfl (Nat.le_of_ble_eq_true rfl) (Nat.le_of_ble_eq_true rfl) (Nat.le_of_ble_eq_true rfl) cls_3.1 rfl (fun _ z => rc_X3_above z) (fun _ z => met_X3_above hO F S x0 x1 z) (fun r1 hr1 => ?_)
  refine v_aload_n C dX3_radius_5 0 rfl ?_
  refine v_iload_n C dX3_radius_6 1 rfl ?_
  refine g_callV_ml C (As := [.int x1]) (st := [.long (r1.1)]) lk_X3_188 dX3_radius_7 rfl (Nat.le_of_ble_eq_true rfl) (Nat.le_of_ble_eq_true rfl) (Nat.le_of_ble_eq_true rfl) cls_3.1 rfl (fun _ z => rc_X3_below z) (fun _ z => met_X3_below hO F r1.2 x0 x1 z) (fun r2 hr2 => ?_)
  refine v_iload_n C dX3_radius_10 2 rfl ?_
  refine g_callSN_ri C (As := [.long (r1.1), .long (r2.1), .int x2]) (st := []) lk_X3_190 dX3_radius_11 rfl (Nat.le_of_ble_eq_true rfl) (Nat.le_of_ble_eq_true rfl) (Nat.le_of_ble_eq_true rfl) (fun _ z => met_X1_partOf hO r2.2 (r1.1) (r2.1) x2 z) (fun r3 hr3 => ?_)
  exact v_ireturn C hm dX3_radius_14 rfl
theorem o_X1_mixCenters_178 {F : Nat} {x0 : Nat} {x3 : Int32} (k139 : Int32 → St → Option St) (hk139 : ∀ (z3 : Int32) (τ : St), MF mf_s (k139 z3 τ) τ) (S : St) : MF mf_s (C_X1_mixCenters_178 F k139 x0 x3 S) S := by
  unfold C_X1_mixCenters_178
  refine mf_bind (fun y36 hy36 => ?_)
  exact (hk139 y36 S)
theorem o_X1_mixCenters_154 {F : Nat} {x0 : Nat} {x3 : Int32} (k139 : Int32 → St → Option St) (hk139 : ∀ (z3 : Int32) (τ : St), MF mf_s (k139 z3 τ) τ) : ∀ (n : Nat) (x4 : Int32) (S : St), MF mf_s (C_X1_mixCenters_154 F k139 x0 x3 n x4 S) S := by
  intro n
  induction n with
  | zero => intro x4 S; exact mf_none
  | succ n ih =>
    intro x4 S
    unfold C_X1_mixCenters_154
    refine mf_ite ?_ ?_
    · exact (o_X1_mixCenters_178 k139 hk139 S)
    · refine mf_call (fun _ z => mono_X1_cornerOf z) (fun r33 hr33 => ?_)
      refine mf_callv (fun _ z => mono_X1_mix z) (fun r34 hr34 => ?_)
      refine mf_bind (fun y35 hy35 => ?_)
      exact (ih y35 r34)
theorem o_X1_mixCenters_139 {F : Nat} {x0 : Nat}  : ∀ (n : Nat) (x3 : Int32) (S : St), MF mf_s (C_X1_mixCenters_139 F x0 n x3 S) S := by
  intro n
  induction n with
  | zero => intro x3 S; exact mf_none
  | succ n ih =>
    intro x3 S
    unfold C_X1_mixCenters_139
    refine mf_bind (fun y30 hy30 => ?_)
    refine mf_bind (fun y31 hy31 => ?_)
    refine mf_bind (fun y32 hy32 => ?_)
    refine mf_ite ?_ ?_
    · exact mf_ret leG.rf
    · exact (o_X1_mixCenters_154 (C_X1_mixCenters_139 F x0 n) ih F 0 S)
theorem o_X1_mixCenters_102 {F : Nat} {x0 : Nat}  (S : St) : MF mf_s (C_X1_mixCenters_102 F x0 S) S := by
  unfold C_X1_mixCenters_102
  refine mf_bind (fun y21 hy21 => ?_)
  refine mf_call (fun _ z => mono_X3_deciding z) (fun r22 hr22 => ?_)
  refine mf_bind (fun y23 hy23 => ?_)
  refine mf_bind (fun y24 hy24 => ?_)
  refine mf_call (fun _ z => mono_X3_radius z) (fun r25 hr25 => ?_)
  refine mf_callv (fun _ z => mono_X1_mix z) (fun r26 hr26 => ?_)
  refine mf_bind (fun y27 hy27 => ?_)
  refine mf_call (fun _ z => mono_X3_radius z) (fun r28 hr28 => ?_)
  refine mf_callv (fun _ z => mono_X1_mix z) (fun r29 hr29 => ?_)
  exact (o_X1_mixCenters_139 F 0 r29)
theorem o_X1_mixCenters_82 {F : Nat} {x0 : Nat}  : ∀ (n : Nat) (x2 : Int32) (S : St), MF mf_s (C_X1_mixCenters_82 F x0 n x2 S) S := by
  intro n
  induction n with
  | zero => intro x2 S; exact mf_none
  | succ n ih =>
    intro x2 S
    unfold C_X1_mixCenters_82
    refine mf_ite ?_ ?_
    · exact (o_X1_mixCenters_102 S)
    · refine mf_call (fun _ z => mono_X1_medianOf z) (fun r18 hr18 => ?_)
      refine mf_callv (fun _ z => mono_X1_mix z) (fun r19 hr19 => ?_)
      refine mf_bind (fun y20 hy20 => ?_)
      exact (ih y20 r19)
theorem o_X1_mixCenters_68 {F : Nat} {x0 : Nat} {x1 : Int32}  (S : St) : MF mf_s (C_X1_mixCenters_68 F x0 x1 S) S := by
  unfold C_X1_mixCenters_68
  refine mf_bind (fun y15 hy15 => ?_)
  refine mf_call (fun _ z => mono_X3_critical z) (fun r16 hr16 => ?_)
  refine mf_callv (fun _ z => mono_X1_mix z) (fun r17 hr17 => ?_)
  exact (o_X1_mixCenters_82 F 0 r17)
theorem o_X1_mixCenters_40 {F : Nat} {x0 : Nat} {x1 : Int32}  : ∀ (n : Nat) (x2 : Int32) (S : St), MF mf_s (C_X1_mixCenters_40 F x0 x1 n x2 S) S := by
  intro n
  induction n with
  | zero => intro x2 S; exact mf_none
  | succ n ih =>
    intro x2 S
    unfold C_X1_mixCenters_40
    refine mf_ite ?_ ?_
    · exact (o_X1_mixCenters_68 S)
    · refine mf_bind (fun y10 hy10 => ?_)
      refine mf_call (fun _ z => mono_X3_center z) (fun r11 hr11 => ?_)
      refine mf_bind (fun r12 hr12 => ?_)
      refine mf_callv (fun _ z => mono_X1_mix z) (fun r13 hr13 => ?_)
      refine mf_bind (fun y14 hy14 => ?_)
      exact (ih y14 r13)
theorem mono_X1_mixCenters {F : Nat} {S : St} {x0 : Nat} {r : St} (h : C_X1_mixCenters F S x0 = some r) : leG S r := by
  have q : MF mf_s (C_X1_mixCenters F S x0) S := by
    unfold C_X1_mixCenters
    refine mf_bind (fun _ _ => ?_)
    refine mf_bind (fun y1 hy1 => ?_)
    refine mf_bind (fun r2 hr2 => ?_)
    refine mf_bind (fun y3 hy3 => ?_)
    refine mf_bind (fun y4 hy4 => ?_)
    refine mf_call (fun _ z => mono_X3_radius z) (fun r5 hr5 => ?_)
    refine mf_callv (fun _ z => mono_X1_mix z) (fun r6 hr6 => ?_)
    refine mf_bind (fun y7 hy7 => ?_)
    refine mf_call (fun _ z => mono_X3_radius z) (fun r8 hr8 => ?_)
    refine mf_callv (fun _ z => mono_X1_mix z) (fun r9 hr9 => ?_)
    exact (o_X1_mixCenters_40 F 0 r9)
  exact q r h
theorem w_X1_mixCenters_178 {P : GP} {X : Ctx} {l : Launch} {S0 : St} {F : Nat} (hO : okG P) (C : CX (OG P) X l cX1_mixCenters 5 RX1 none) (hm : X.2.2.2.2.2.2.2.2.2 = none) {x0 : Nat} {x3 : Int32} (k139 : Int32 → St → Option St) (hk139 : ∀ (z3 : Int32) (τ : St), VF (OG P) X 5 614 38753 S0 f_mv (k139 z3 τ) τ 139 [(0, .ref x0), (3, .int z3)] []) (S : St) : VF (OG P) X 5 614 38753 S0 f_mv (C_X1_mixCenters_178 F k139 x0 x3 S) S 178 [(0, .ref x0), (3, .int x3)] [] := by
  unfold C_X1_mixCenters_178
  refine v_iincN C (lv' := fun y36 => [(3, .int y36), (0, .ref x0)]) dX1_mixCenters_178 1 rfl ci_1 (Nat.le_of_ble_eq_true rfl) (fun _ => rfl) (fun y36 hy36 => ?_)
  refine v_goto C (tgt := 139) dX1_mixCenters_181 rfl ?_
  exact v_sub [1, 0] rfl (hk139 y36 S)
theorem w_X1_mixCenters_154 {P : GP} {X : Ctx} {l : Launch} {S0 : St} {F : Nat} (hO : okG P) (C : CX (OG P) X l cX1_mixCenters 5 RX1 none) (hm : X.2.2.2.2.2.2.2.2.2 = none) {x0 : Nat} {x3 : Int32} (k139 : Int32 → St → Option St) (hk139 : ∀ (z3 : Int32) (τ : St), VF (OG P) X 5 614 38753 S0 f_mv (k139 z3 τ) τ 139 [(0, .ref x0), (3, .int z3)] []) : ∀ (n : Nat) (x4 : Int32) (S : St), VF (OG P) X 5 614 38753 S0 f_mv (C_X1_mixCenters_154 F k139 x0 x3 n x4 S) S 154 [(0, .ref x0), (3, .int x3), (4, .int x4)] [] := by
  intro n
  induction n with
  | zero => intro x4 S; exact VF.none
  | succ n ih =>
    intro x4 S
    unfold C_X1_mixCenters_154
    refine v_iload C dX1_mixCenters_154 2 rfl ?_
    refine v_iconst C dX1_mixCenters_156 ci_4 ?_
    refine v_icmp_ge C (tgt := 178) dX1_mixCenters_157 rfl (fun _ => ?_) (fun _ => ?_)
    · exact v_sub [0, 1] rfl (w_X1_mixCenters_178 hO C hm k139 hk139 S)
    · refine v_aload_n C dX1_mixCenters_160 0 rfl ?_
      refine v_aload_n C dX1_mixCenters_161 0 rfl ?_
      refine v_iload_n C dX1_mixCenters_162 1 rfl ?_
      refine v_iconst C dX1_mixCenters_163 ci_1 ?_
      refine v_iload C dX1_mixCenters_164 2 rfl ?_
      refine g_callV_mi C (As := [.int x3, .int 1, .int x4]) (st := [.ref x0]) lk_X1_267 dX1_mixCenters_166 rfl (Nat.le_of_ble_eq_true rfl) (Nat.le_of_ble_eq_true rfl) (Nat.le_of_ble_eq_true rfl) cls_1.1 rfl (fun _ z => rc_X1_cornerOf z) (fun _ z => met_X1_cornerOf hO F S x0 x3 1 x4 z) (fun r33 hr33 => ?_)
      refine g_callV_mv C (As := [.int (r33.1)]) (st := []) lk_X1_360 dX1_mixCenters_169 rfl (Nat.le_of_ble_eq_true rfl) (Nat.le_of_ble_eq_true rfl) (Nat.le_of_ble_eq_true rfl) cls_1.1 rfl (fun _ z => rc_X1_mix z) (fun _ z => met_X1_mix hO r33.2 x0 (r33.1) z) (fun r34 hr34 => ?_)
      refine v_iincN C (lv' := fun y35 => [(4, .int y35), (0, .ref x0), (3, .int x3)]) dX1_mixCenters_172 2 rfl ci_1 (Nat.le_of_ble_eq_true rfl) (fun _ => rfl) (fun y35 hy35 => ?_)
      refine v_goto C (tgt := 154) dX1_mixCenters_175 rfl ?_
      exact v_sub [1, 2, 0] rfl (ih y35 r34)
theorem w_X1_mixCenters_139 {P : GP} {X : Ctx} {l : Launch} {S0 : St} {F : Nat} (hO : okG P) (C : CX (OG P) X l cX1_mixCenters 5 RX1 none) (hm : X.2.2.2.2.2.2.2.2.2 = none) {x0 : Nat}  : ∀ (n : Nat) (x3 : Int32) (S : St), VF (OG P) X 5 614 38753 S0 f_mv (C_X1_mixCenters_139 F x0 n x3 S) S 139 [(0, .ref x0), (3, .int x3)] [] := by
  intro n
  induction n with
  | zero => intro x3 S; exact VF.none
  | succ n ih =>
    intro x3 S
    unfold C_X1_mixCenters_139
    refine v_iload_n C dX1_mixCenters_139 1 rfl ?_
    refine v_aload_n C dX1_mixCenters_140 0 rfl ?_
    refine g_getA C dX1_mixCenters_141 cls_1 (Nat.le_of_ble_eq_true rfl) fl_X1_39 fs_X1_39 (fun y30 hy30 => ?_)
    refine g_getA C dX1_mixCenters_144 cls_2 (Nat.le_of_ble_eq_true rfl) fl_X1_83 fs_X1_83 (fun y31 hy31 => ?_)
    refine g_alen (kd := 3) (fun _ => rfl) C dX1_mixCenters_147 (fun y32 hy32 => ?_)
    refine v_icmp_ge C (tgt := 184) dX1_mixCenters_148 rfl (fun _ => ?_) (fun _ => ?_)
    · exact v_vreturn C hm dX1_mixCenters_184 rfl
    · refine v_iconst C dX1_mixCenters_151 ci_0 ?_
      refine v_istore C (lv' := [(4, .int 0), (0, .ref x0), (3, .int x3)]) dX1_mixCenters_152 (Nat.le_of_ble_eq_true rfl) rfl ?_
      exact v_sub [1, 2, 0] rfl (w_X1_mixCenters_154 hO C hm (C_X1_mixCenters_139 F x0 n) ih F 0 S)
theorem w_X1_mixCenters_102 {P : GP} {X : Ctx} {l : Launch} {S0 : St} {F : Nat} (hO : okG P) (C : CX (OG P) X l cX1_mixCenters 5 RX1 none) (hm : X.2.2.2.2.2.2.2.2.2 = none) {x0 : Nat}  (S : St) : VF (OG P) X 5 614 38753 S0 f_mv (C_X1_mixCenters_102 F x0 S) S 102 [(0, .ref x0)] [] := by
  unfold C_X1_mixCenters_102
  refine v_aload_n C dX1_mixCenters_102 0 rfl ?_
  refine g_getA C dX1_mixCenters_103 cls_1 (Nat.le_of_ble_eq_true rfl) fl_X1_48 fs_X1_48 (fun y21 hy21 => ?_)
  refine v_iconst C dX1_mixCenters_106 ci_2 ?_
  refine g_callV_mi C (As := [.int 2]) (st := []) lk_X1_294 dX1_mixCenters_107 rfl (Nat.le_of_ble_eq_true rfl) (Nat.le_of_ble_eq_true rfl) (Nat.le_of_ble_eq_true rfl) cls_3.1 rfl (fun _ z => rc_X3_deciding z) (fun _ z => met_X3_deciding hO F S y21 2 z) (fun r22 hr22 => ?_)
  refine v_leti (fun y23 hy23 => ?_)
  refine v_istore_n C (lv' := [(2, .int y23), (0, .ref x0)]) dX1_mixCenters_110 (Nat.le_of_ble_eq_true rfl) rfl ?_
  refine v_aload_n C dX1_mixCenters_111 1 rfl ?_
  refine v_aload_n C dX1_mixCenters_112 1 rfl ?_
  refine g_getA C dX1_mixCenters_113 cls_1 (Nat.le_of_ble_eq_true rfl) fl_X1_48 fs_X1_48 (fun y24 hy24 => ?_)
  refine v_iload_n C dX1_mixCenters_116 0 rfl ?_
  refine v_iconst C dX1_mixCenters_117 ci_0 ?_
  refine g_callV_mi C (As := [.int y23, .int 0]) (st := [.ref x0]) lk_X1_274 dX1_mixCenters_118 rfl (Nat.le_of_ble_eq_true rfl) (Nat.le_of_ble_eq_true rfl) (Nat.le_of_ble_eq_true rfl) cls_3.1 rfl (fun _ z => rc_X3_radius z) (fun _ z => met_X3_radius hO F r22.2 y24 y23 0 z) (fun r25 hr25 => ?_)
  refine g_callV_mv C (As := [.int (r25.1)]) (st := []) lk_X1_360 dX1_mixCenters_121 rfl (Nat.le_of_ble_eq_true rfl) (Nat.le_of_ble_eq_true rfl) (Nat.le_of_ble_eq_true rfl) cls_1.1 rfl (fun _ z => rc_X1_mix z) (fun _ z => met_X1_mix hO r25.2 x0 (r25.1) z) (fun r26 hr26 => ?_)
  refine v_aload_n C dX1_mixCenters_124 1 rfl ?_
  refine v_aload_n C dX1_mixCenters_125 1 rfl ?_
  refine g_getA C dX1_mixCenters_126 cls_1 (Nat.le_of_ble_eq_true rfl) fl_X1_48 fs_X1_48 (fun y27 hy27 => ?_)
  refine v_iload_n C dX1_mixCenters_129 0 rfl ?_
  refine v_iconst C dX1_mixCenters_130 ci_1 ?_
  refine g_callV_mi C (As := [.int y23, .int 1]) (st := [.ref x0]) lk_X1_274 dX1_mixCenters_131 rfl (Nat.le_of_ble_eq_true rfl) (Nat.le_of_ble_eq_true rfl) (Nat.le_of_ble_eq_true rfl) cls_3.1 rfl (fun _ z => rc_X3_radius z) (fun _ z => met_X3_radius hO F r26 y27 y23 1 z) (fun r28 hr28 => ?_)
  refine g_callV_mv C (As := [.int (r28.1)]) (st := []) lk_X1_360 dX1_mixCenters_134 rfl (Nat.le_of_ble_eq_true rfl) (Nat.le_of_ble_eq_true rfl) (Nat.le_of_ble_eq_true rfl) cls_1.1 rfl (fun _ z => rc_X1_mix z) (fun _ z => met_X1_mix hO r28.2 x0 (r28.1) z) (fun r29 hr29 => ?_)
  refine v_iconst C dX1_mixCenters_137 ci_0 ?_
  refine v_istore_n C (lv' := [(3, .int 0), (2, .int y23), (0, .ref x0)]) dX1_mixCenters_138 (Nat.le_of_ble_eq_true rfl) rfl ?_
  exact v_sub [2, 0] rfl (w_X1_mixCenters_139 hO C hm F 0 r29)
theorem w_X1_mixCenters_82 {P : GP} {X : Ctx} {l : Launch} {S0 : St} {F : Nat} (hO : okG P) (C : CX (OG P) X l cX1_mixCenters 5 RX1 none) (hm : X.2.2.2.2.2.2.2.2.2 = none) {x0 : Nat}  : ∀ (n : Nat) (x2 : Int32) (S : St), VF (OG P) X 5 614 38753 S0 f_mv (C_X1_mixCenters_82 F x0 n x2 S) S 82 [(0, .ref x0), (2, .int x2)] [] := by
  intro n
  induction n with
  | zero => intro x2 S; exact VF.none
  | succ n ih =>
    intro x2 S
    unfold C_X1_mixCenters_82
    refine v_iload_n C dX1_mixCenters_82 1 rfl ?_
    refine v_iconst C dX1_mixCenters_83 ci_5 ?_
    refine v_icmp_ge C (tgt := 102) dX1_mixCenters_84 rfl (fun _ => ?_) (fun _ => ?_)
    · exact v_sub [0] rfl (w_X1_mixCenters_102 hO C hm S)
    · refine v_aload_n C dX1_mixCenters_87 0 rfl ?_
      refine v_aload_n C dX1_mixCenters_88 0 rfl ?_
      refine v_iload_n C dX1_mixCenters_89 1 rfl ?_
      refine g_callV_mi C (As := [.int x2]) (st := [.ref x0]) lk_X1_291 dX1_mixCenters_90 rfl (Nat.le_of_ble_eq_true rfl) (Nat.le_of_ble_eq_true rfl) (Nat.le_of_ble_eq_true rfl) cls_1.1 rfl (fun _ z => rc_X1_medianOf z) (fun _ z => met_X1_medianOf hO F S x0 x2 z) (fun r18 hr18 => ?_)
      refine g_callV_mv C (As := [.int (r18.1)]) (st := []) lk_X1_360 dX1_mixCenters_93 rfl (Nat.le_of_ble_eq_true rfl) (Nat.le_of_ble_eq_true rfl) (Nat.le_of_ble_eq_true rfl) cls_1.1 rfl (fun _ z => rc_X1_mix z) (fun _ z => met_X1_mix hO r18.2 x0 (r18.1) z) (fun r19 hr19 => ?_)
      refine v_iincN C (lv' := fun y20 => [(2, .int y20), (0, .ref x0)]) dX1_mixCenters_96 1 rfl ci_1 (Nat.le_of_ble_eq_true rfl) (fun _ => rfl) (fun y20 hy20 => ?_)
      refine v_goto C (tgt := 82) dX1_mixCenters_99 rfl ?_
      exact v_sub [1, 0] rfl (ih y20 r19)
theorem w_X1_mixCenters_68 {P : GP} {X : Ctx} {l : Launch} {S0 : St} {F : Nat} (hO : okG P) (C : CX (OG P) X l cX1_mixCenters 5 RX1 none) (hm : X.2.2.2.2.2.2.2.2.2 = none) {x0 : Nat} {x1 : Int32}  (S : St) : VF (OG P) X 5 614 38753 S0 f_mv (C_X1_mixCenters_68 F x0 x1 S) S 68 [(0, .ref x0), (1, .int x1)] [] := by
  unfold C_X1_mixCenters_68
  refine v_aload_n C dX1_mixCenters_68 0 rfl ?_
  refine v_aload_n C dX1_mixCenters_69 0 rfl ?_
  refine g_getA C dX1_mixCenters_70 cls_1 (Nat.le_of_ble_eq_true rfl) fl_X1_48 fs_X1_48 (fun y15 hy15 => ?_)
  refine v_iload_n C dX1_mixCenters_73 1 rfl ?_
  refine g_callV_mi C (As := [.int x1]) (st := [.ref x0]) lk_X1_285 dX1_mixCenters_74 rfl (Nat.le_of_ble_eq_true rfl) (Nat.le_of_ble_eq_true rfl) (Nat.le_of_ble_eq_true rfl) cls_3.1 rfl (fun _ z => rc_X3_critical z) (fun _ z => met_X3_critical hO F S y15 x1 z) (fun r16 hr16 => ?_)
  refine g_callV_mv C (As := [.int (r16.1)]) (st := []) lk_X1_360 dX1_mixCenters_77 rfl (Nat.le_of_ble_eq_true rfl) (Nat.le_of_ble_eq_true rfl) (Nat.le_of_ble_eq_true rfl) cls_1.1 rfl (fun _ z => rc_X1_mix z) (fun _ z => met_X1_mix hO r16.2 x0 (r16.1) z) (fun r17 hr17 => ?_)
  refine v_iconst C dX1_mixCenters_80 ci_0 ?_
  refine v_istore_n C (lv' := [(2, .int 0), (0, .ref x0), (1, .int x1)]) dX1_mixCenters_81 (Nat.le_of_ble_eq_true rfl) rfl ?_
  exact v_sub [1, 0] rfl (w_X1_mixCenters_82 hO C hm F 0 r17)
theorem w_X1_mixCenters_40 {P : GP} {X : Ctx} {l : Launch} {S0 : St} {F : Nat} (hO : okG P) (C : CX (OG P) X l cX1_mixCenters 5 RX1 none) (hm : X.2.2.2.2.2.2.2.2.2 = none) {x0 : Nat} {x1 : Int32}  : ∀ (n : Nat) (x2 : Int32) (S : St), VF (OG P) X 5 614 38753 S0 f_mv (C_X1_mixCenters_40 F x0 x1 n x2 S) S 40 [(0, .ref x0), (1, .int x1), (2, .int x2)] [] := by
  intro n
  induction n with
  | zero => intro x2 S; exact VF.none
  | succ n ih =>
    intro x2 S
    unfold C_X1_mixCenters_40
    refine v_iload_n C dX1_mixCenters_40 2 rfl ?_
    refine v_iconst C dX1_mixCenters_41 ci_3 ?_
    refine v_icmp_ge C (tgt := 68) dX1_mixCenters_42 rfl (fun _ => ?_) (fun _ => ?_)
    · exact v_sub [0, 1] rfl (w_X1_mixCenters_68 hO C hm S)
    · refine v_aload_n C dX1_mixCenters_45 0 rfl ?_
      refine v_aload_n C dX1_mixCenters_46 0 rfl ?_
      refine v_aload_n C dX1_mixCenters_47 0 rfl ?_
      refine g_getA C dX1_mixCenters_48 cls_1 (Nat.le_of_ble_eq_true rfl) fl_X1_48 fs_X1_48 (fun y10 hy10 => ?_)
      refine v_iload_n C dX1_mixCenters_51 1 rfl ?_
      refine g_callV_mi C (As := [.int x1]) (st := [.ref x0, .ref x0]) lk_X1_279 dX1_mixCenters_52 rfl (Nat.le_of_ble_eq_true rfl) (Nat.le_of_ble_eq_true rfl) (Nat.le_of_ble_eq_true rfl) cls_3.1 rfl (fun _ z => rc_X3_center z) (fun _ z => met_X3_center hO F S y10 x1 z) (fun r11 hr11 => ?_)
      refine v_iload_n C dX1_mixCenters_55 2 rfl ?_
      refine g_callV_ri C (As := [.int (r11.1), .int x2]) (st := [.ref x0]) lk_X1_282 dX1_mixCenters_56 rfl (Nat.le_of_ble_eq_true rfl) (Nat.le_of_ble_eq_true rfl) (Nat.le_of_ble_eq_true rfl) cls_1.1 rfl (fun _ z => rc_X1_placeOf z) (fun _ z => met_X1_placeOf hO r11.2 x0 (r11.1) x2 z) (fun r12 hr12 => ?_)
      refine g_callV_mv C (As := [.int r12]) (st := []) lk_X1_360 dX1_mixCenters_59 rfl (Nat.le_of_ble_eq_true rfl) (Nat.le_of_ble_eq_true rfl) (Nat.le_of_ble_eq_true rfl) cls_1.1 rfl (fun _ z => rc_X1_mix z) (fun _ z => met_X1_mix hO r11.2 x0 r12 z) (fun r13 hr13 => ?_)
      refine v_iincN C (lv' := fun y14 => [(2, .int y14), (0, .ref x0), (1, .int x1)]) dX1_mixCenters_62 2 rfl ci_1 (Nat.le_of_ble_eq_true rfl) (fun _ => rfl) (fun y14 hy14 => ?_)
      refine v_goto C (tgt := 40) dX1_mixCenters_65 rfl ?_
      exact v_sub [1, 2, 0] rfl (ih y14 r13)
theorem met_X1_mixCenters {P : GP} {l : Launch} (hO : okG P) (F : Nat) (S : St) (x0 : Nat) {r : St} (h : C_X1_mixCenters F S x0 = some r) : FM l (OG P) yX1_mixCenters (ws_ yX1_mixCenters cX1_mixCenters 5 none) 614 38753 [.ref x0] S (f_mv r) := by
  refine FM.of (own := RX1) (lv := [(0, .ref x0)]) (OG_ok P hO) pl_X1 rfl (Nat.le_of_ble_eq_true rfl) rfl h (mono_X1_mixCenters h).LE (fun X C hm => ?_)
  unfold C_X1_mixCenters
  refine VF.bind (fun _ _ => ?_)
  refine v_iconst C dX1_mixCenters_0 ci_1 ?_
  refine v_aload_n C dX1_mixCenters_1 0 rfl ?_
  refine g_getA C dX1_mixCenters_2 cls_1 (Nat.le_of_ble_eq_true rfl) fl_X1_39 fs_X1_39 (fun y1 hy1 => ?_)
  refine g_callV_ri C (As := []) (st := [.int 1]) lk_X1_96 dX1_mixCenters_5 rfl (Nat.le_of_ble_eq_true rfl) (Nat.le_of_ble_eq_true rfl) (Nat.le_of_ble_eq_true rfl) cls_2.1 rfl (fun _ z => rc_X2_size z) (fun _ z => met_X2_size hO S y1 z) (fun r2 hr2 => ?_)
  refine v_ishl C dX1_mixCenters_8 ?_
  refine v_iconst C dX1_mixCenters_9 ci_1 ?_
  refine v_isub C dX1_mixCenters_10 ?_
  refine v_leti (fun y3 hy3 => ?_)
  refine v_istore_n C (lv' := [(1, .int y3), (0, .ref x0)]) dX1_mixCenters_11 (Nat.le_of_ble_eq_true rfl) rfl ?_
  refine v_aload_n C dX1_mixCenters_12 1 rfl ?_
  refine v_aload_n C dX1_mixCenters_13 1 rfl ?_
  refine g_getA C dX1_mixCenters_14 cls_1 (Nat.le_of_ble_eq_true rfl) fl_X1_48 fs_X1_48 (fun y4 hy4 => ?_)
  refine v_iload_n C dX1_mixCenters_17 0 rfl ?_
  refine v_iconst C dX1_mixCenters_18 ci_0 ?_
  refine g_callV_mi C (As := [.int y3, .int 0]) (st := [.ref x0]) lk_X1_274 dX1_mixCenters_19 rfl (Nat.le_of_ble_eq_true rfl) (Nat.le_of_ble_eq_true rfl) (Nat.le_of_ble_eq_true rfl) cls_3.1 rfl (fun _ z => rc_X3_radius z) (fun _ z => met_X3_radius hO F S y4 y3 0 z) (fun r5 hr5 => ?_)
  refine g_callV_mv C (As := [.int (r5.1)]) (st := []) lk_X1_360 dX1_mixCenters_22 rfl (Nat.le_of_ble_eq_true rfl) (Nat.le_of_ble_eq_true rfl) (Nat.le_of_ble_eq_true rfl) cls_1.1 rfl (fun _ z => rc_X1_mix z) (fun _ z => met_X1_mix hO r5.2 x0 (r5.1) z) (fun r6 hr6 => ?_)
  refine v_aload_n C dX1_mixCenters_25 1 rfl ?_
  refine v_aload_n C dX1_mixCenters_26 1 rfl ?_
  refine g_getA C dX1_mixCenters_27 cls_1 (Nat.le_of_ble_eq_true rfl) fl_X1_48 fs_X1_48 (fun y7 hy7 => ?_)
  refine v_iload_n C dX1_mixCenters_30 0 rfl ?_
  refine v_iconst C dX1_mixCenters_31 ci_1 ?_
  refine g_callV_mi C (As := [.int y3, .int 1]) (st := [.ref x0]) lk_X1_274 dX1_mixCenters_32 rfl (Nat.le_of_ble_eq_true rfl) (Nat.le_of_ble_eq_true rfl) (Nat.le_of_ble_eq_true rfl) cls_3.1 rfl (fun _ z => rc_X3_radius z) (fun _ z => met_X3_radius hO F r6 y7 y3 1 z) (fun r8 hr8 => ?_)
  refine g_callV_mv C (As := [.int (r8.1)]) (st := []) lk_X1_360 dX1_mixCenters_35 rfl (Nat.le_of_ble_eq_true rfl) (Nat.le_of_ble_eq_true rfl) (Nat.le_of_ble_eq_true rfl) cls_1.1 rfl (fun _ z => rc_X1_mix z) (fun _ z => met_X1_mix hO r8.2 x0 (r8.1) z) (fun r9 hr9 => ?_)
  refine v_iconst C dX1_mixCenters_38 ci_0 ?_
  refine v_istore_n C (lv' := [(2, .int 0), (1, .int y3), (0, .ref x0)]) dX1_mixCenters_39 (Nat.le_of_ble_eq_true rfl) rfl ?_
  exact v_sub [2, 1, 0] rfl (w_X1_mixCenters_40 hO C hm F 0 r9)
theorem w_X2_degree_45 {P : GP} {X : Ctx} {l : Launch} {F : Nat} {S : St} (hO : okG P) (C : CX (OG P) X l cX2_degree 4 RX2 (some .int)) (hm : X.2.2.2.2.2.2.2.2.2 = none) {x0 : Nat} {x1 : Int32} {x3 : Int32} (k4 : Int32 → Int32 → Option Int32) (hk4 : ∀ (z2 : Int32) (z3 : Int32), VF (OG P) X 4 0 0 S (f_ri S) (k4 z2 z3) S 4 [(0, .ref x0), (1, .int x1), (2, .int z2), (3, .int z3)] []) (s0 : Int32) (s1 : Int32) : VF (OG P) X 4 0 0 S (f_ri S) (C_X2_degree_45 F k4 S x0 x1 x3 s0 s1) S 45 [(0, .ref x0), (1, .int x1), (3, .int x3)] [.int s1, .int s0] := by
  unfold C_X2_degree_45
  refine v_iadd C dX2_degree_45 ?_
  refine v_leti (fun y9 hy9 => ?_)
  refine v_istore_n C (lv' := [(2, .int y9), (0, .ref x0), (1, .int x1), (3, .int x3)]) dX2_degree_46 (Nat.le_of_ble_eq_true rfl) rfl ?_
  refine v_iincN C (lv' := fun y10 => [(3, .int y10), (2, .int y9), (0, .ref x0), (1, .int x1)]) dX2_degree_47 3 rfl ci_1 (Nat.le_of_ble_eq_true rfl) (fun _ => rfl) (fun y10 hy10 => ?_)
  refine v_goto C (tgt := 4) dX2_degree_50 rfl ?_
  exact v_sub [2, 3, 1, 0] rfl (hk4 y9 y10)
theorem w_X2_degree_40 {P : GP} {X : Ctx} {l : Launch} {F : Nat} {S : St} (hO : okG P) (C : CX (OG P) X l cX2_degree 4 RX2 (some .int)) (hm : X.2.2.2.2.2.2.2.2.2 = none) {x0 : Nat} {x1 : Int32} {x3 : Int32} (k4 : Int32 → Int32 → Option Int32) (hk4 : ∀ (z2 : Int32) (z3 : Int32), VF (OG P) X 4 0 0 S (f_ri S) (k4 z2 z3) S 4 [(0, .ref x0), (1, .int x1), (2, .int z2), (3, .int z3)] []) (s0 : Int32) : VF (OG P) X 4 0 0 S (f_ri S) (C_X2_degree_40 F k4 S x0 x1 x3 s0) S 40 [(0, .ref x0), (1, .int x1), (3, .int x3)] [.int s0] := by
  unfold C_X2_degree_40
  refine v_iconst C dX2_degree_40 ci_1 ?_
  refine v_goto C (tgt := 45) dX2_degree_41 rfl ?_
  exact v_sub [0, 1, 2] rfl (w_X2_degree_45 hO C hm k4 hk4 s0 1)
theorem w_X2_degree_4 {P : GP} {X : Ctx} {l : Launch} {F : Nat} {S : St} (hO : okG P) (C : CX (OG P) X l cX2_degree 4 RX2 (some .int)) (hm : X.2.2.2.2.2.2.2.2.2 = none) {x0 : Nat} {x1 : Int32}  : ∀ (n : Nat) (x2 : Int32) (x3 : Int32), VF (OG P) X 4 0 0 S (f_ri S) (C_X2_degree_4 F S x0 x1 n x2 x3) S 4 [(0, .ref x0), (1, .int x1), (2, .int x2), (3, .int x3)] [] := by
  intro n
  induction n with
  | zero => intro x2 x3; exact VF.none
  | succ n ih =>
    intro x2 x3
    unfold C_X2_degree_4
    refine v_iload_n C dX2_degree_4 3 rfl ?_
    refine v_aload_n C dX2_degree_5 0 rfl ?_
    refine g_getA C dX2_degree_6 cls_2 (Nat.le_of_ble_eq_true rfl) fl_X2_25 fs_X2_25 (fun y1 hy1 => ?_)
    refine g_alen (kd := 3) (fun _ => rfl) C dX2_degree_9 (fun y2 hy2 => ?_)
    refine v_icmp_ge C (tgt := 53) dX2_degree_10 rfl (fun _ => ?_) (fun _ => ?_)
    · refine v_iload_n C dX2_degree_53 2 rfl ?_
      exact v_ireturn C hm dX2_degree_54 rfl
    · refine v_iload_n C dX2_degree_13 2 rfl ?_
      refine v_aload_n C dX2_degree_14 0 rfl ?_
      refine g_getA C dX2_degree_15 cls_2 (Nat.le_of_ble_eq_true rfl) fl_X2_25 fs_X2_25 (fun y3 hy3 => ?_)
      refine v_iload_n C dX2_degree_18 3 rfl ?_
      refine g_aalA3 C dX2_degree_19 (fun y4 hy4 => ?_)
      refine g_getI C dX2_degree_20 cls_4 (Nat.le_of_ble_eq_true rfl) fl_X2_100 fs_X2_100 (fun y5 hy5 => ?_)
      refine v_iload_n C dX2_degree_23 1 rfl ?_
      refine v_icmp_eq C (tgt := 40) dX2_degree_24 rfl (fun _ => ?_) (fun _ => ?_)
      · exact v_sub [0, 1, 3] rfl (w_X2_degree_40 hO C hm (C_X2_degree_4 F S x0 x1 n) ih x2)
      · refine v_aload_n C dX2_degree_27 0 rfl ?_
        refine g_getA C dX2_degree_28 cls_2 (Nat.le_of_ble_eq_true rfl) fl_X2_25 fs_X2_25 (fun y6 hy6 => ?_)
        refine v_iload_n C dX2_degree_31 3 rfl ?_
        refine g_aalA3 C dX2_degree_32 (fun y7 hy7 => ?_)
        refine g_getI C dX2_degree_33 cls_4 (Nat.le_of_ble_eq_true rfl) fl_X2_101 fs_X2_101 (fun y8 hy8 => ?_)
        refine v_iload_n C dX2_degree_36 1 rfl ?_
        refine v_icmp_ne C (tgt := 44) dX2_degree_37 rfl (fun _ => ?_) (fun _ => ?_)
        · exact v_sub [0, 1, 3] rfl (w_X2_degree_40 hO C hm (C_X2_degree_4 F S x0 x1 n) ih x2)
        · refine v_iconst C dX2_degree_44 ci_0 ?_
          exact v_sub [0, 1, 3] rfl (w_X2_degree_45 hO C hm (C_X2_degree_4 F S x0 x1 n) ih x2 0)
theorem met_X2_degree {P : GP} {l : Launch} (hO : okG P) (F : Nat) (S : St) (x0 : Nat) (x1 : Int32) {r : Int32} (h : C_X2_degree F S x0 x1 = some r) : FM l (OG P) yX2_degree (ws_ yX2_degree cX2_degree 4 (some .int)) 0 0 [.ref x0, .int x1] S ((f_ri S) r) := by
  refine FM.of (own := RX2) (lv := [(0, .ref x0), (1, .int x1)]) (OG_ok P hO) pl_X2 rfl (Nat.le_of_ble_eq_true rfl) rfl h LE.rf (fun X C hm => ?_)
  unfold C_X2_degree
  refine VF.bind (fun _ _ => ?_)
  refine v_iconst C dX2_degree_0 ci_0 ?_
  refine v_istore_n C (lv' := [(2, .int 0), (0, .ref x0), (1, .int x1)]) dX2_degree_1 (Nat.le_of_ble_eq_true rfl) rfl ?_
  refine v_iconst C dX2_degree_2 ci_0 ?_
  refine v_istore_n C (lv' := [(3, .int 0), (2, .int 0), (0, .ref x0), (1, .int x1)]) dX2_degree_3 (Nat.le_of_ble_eq_true rfl) rfl ?_
  exact v_sub [2, 3, 1, 0] rfl (w_X2_degree_4 hO C hm F 0 0)
theorem met_X1_propertyOf {P : GP} {l : Launch} (hO : okG P) (F : Nat) (S : St) (x0 : Nat) (x1 : Int32) (x2 : Int32) {r : Int32} (h : C_X1_propertyOf F S x0 x1 x2 = some r) : FM l (OG P) yX1_propertyOf (ws_ yX1_propertyOf cX1_propertyOf 3 (some .int)) 1 23 [.ref x0, .int x1, .int x2] S ((f_ri S) r) := by
  refine FM.of (own := RX1) (lv := [(0, .ref x0), (1, .int x1), (2, .int x2)]) (OG_ok P hO) pl_X1 rfl (Nat.le_of_ble_eq_true rfl) rfl h LE.rf (fun X C hm => ?_)
  unfold C_X1_propertyOf
  refine VF.bind (fun _ _ => ?_)
  refine v_iload_n C dX1_propertyOf_0 2 rfl ?_
  refine v_if_ne C (tgt := 16) dX1_propertyOf_1 rfl (fun _ => ?_) (fun _ => ?_)
  · refine v_aload_n C dX1_propertyOf_4 0 rfl ?_
    refine g_getA C dX1_propertyOf_5 cls_1 (Nat.le_of_ble_eq_true rfl) fl_X1_39 fs_X1_39 (fun y1 hy1 => ?_)
    refine g_getA C dX1_propertyOf_8 cls_2 (Nat.le_of_ble_eq_true rfl) fl_X1_152 fs_X1_152 (fun y2 hy2 => ?_)
    refine v_iload_n C dX1_propertyOf_11 1 rfl ?_
    refine g_ial C dX1_propertyOf_12 (fun y3 hy3 => ?_)
    refine v_goto C (tgt := 41) dX1_propertyOf_13 rfl ?_
    exact v_ireturn C hm dX1_propertyOf_41 rfl
  · refine v_iload_n C dX1_propertyOf_16 2 rfl ?_
    refine v_iconst C dX1_propertyOf_17 ci_1 ?_
    refine v_icmp_ne C (tgt := 33) dX1_propertyOf_18 rfl (fun _ => ?_) (fun _ => ?_)
    · refine v_aload_n C dX1_propertyOf_21 0 rfl ?_
      refine g_getA C dX1_propertyOf_22 cls_1 (Nat.le_of_ble_eq_true rfl) fl_X1_39 fs_X1_39 (fun y4 hy4 => ?_)
      refine g_getA C dX1_propertyOf_25 cls_2 (Nat.le_of_ble_eq_true rfl) fl_X1_160 fs_X1_160 (fun y5 hy5 => ?_)
      refine v_iload_n C dX1_propertyOf_28 1 rfl ?_
      refine g_ial C dX1_propertyOf_29 (fun y6 hy6 => ?_)
      refine v_goto C (tgt := 41) dX1_propertyOf_30 rfl ?_
      exact v_ireturn C hm dX1_propertyOf_41 rfl
    · refine v_aload_n C dX1_propertyOf_33 0 rfl ?_
      refine g_getA C dX1_propertyOf_34 cls_1 (Nat.le_of_ble_eq_true rfl) fl_X1_39 fs_X1_39 (fun y7 hy7 => ?_)
      refine v_iload_n C dX1_propertyOf_37 1 rfl ?_
      refine g_callV_ri C (As := [.int x1]) (st := []) lk_X1_196 dX1_propertyOf_38 rfl (Nat.le_of_ble_eq_true rfl) (Nat.le_of_ble_eq_true rfl) (Nat.le_of_ble_eq_true rfl) cls_2.1 rfl (fun _ z => rc_X2_degree z) (fun _ z => met_X2_degree hO F S y7 x1 z) (fun r8 hr8 => ?_)
      exact v_ireturn C hm dX1_propertyOf_41 rfl
theorem met_X5_property {P : GP} {l : Launch} (hO : okG P) (S : St) (x0 : Nat) (x1 : Int32) {r : Int32} (h : C_X5_property S x0 x1 = some r) : FM l (OG P) yX5_property (ws_ yX5_property cX5_property 2 (some .int)) 0 0 [.ref x0, .int x1] S ((f_ri S) r) := by
  refine FM.of (own := RX5) (lv := [(0, .ref x0), (1, .int x1)]) (OG_ok P hO) pl_X5 rfl (Nat.le_of_ble_eq_true rfl) rfl h LE.rf (fun X C hm => ?_)
  unfold C_X5_property
  refine VF.bind (fun _ _ => ?_)
  refine v_iload_n C dX5_property_0 1 rfl ?_
  refine v_if_ne C (tgt := 11) dX5_property_1 rfl (fun _ => ?_) (fun _ => ?_)
  · refine v_aload_n C dX5_property_4 0 rfl ?_
    refine g_getI C dX5_property_5 cls_4 (Nat.le_of_ble_eq_true rfl) fl_X5_7 fs_X5_7 (fun y1 hy1 => ?_)
    refine v_goto C (tgt := 27) dX5_property_8 rfl ?_
    exact v_ireturn C hm dX5_property_27 rfl
  · refine v_iload_n C dX5_property_11 1 rfl ?_
    refine v_iconst C dX5_property_12 ci_1 ?_
    refine v_icmp_ne C (tgt := 23) dX5_property_13 rfl (fun _ => ?_) (fun _ => ?_)
    · refine v_aload_n C dX5_property_16 0 rfl ?_
      refine g_getI C dX5_property_17 cls_4 (Nat.le_of_ble_eq_true rfl) fl_X5_13 fs_X5_13 (fun y2 hy2 => ?_)
      refine v_goto C (tgt := 27) dX5_property_20 rfl ?_
      exact v_ireturn C hm dX5_property_27 rfl
    · refine v_aload_n C dX5_property_23 0 rfl ?_
      refine g_getI C dX5_property_24 cls_4 (Nat.le_of_ble_eq_true rfl) fl_X5_16 fs_X5_16 (fun y3 hy3 => ?_)
      exact v_ireturn C hm dX5_property_27 rfl
theorem met_X3_isUsable {P : GP} {l : Launch} (hO : okG P) (F : Nat) (S : St) (x0 : Nat) {r : Int32} (h : C_X3_isUsable F S x0 = some r) : FM l (OG P) yX3_isUsable (ws_ yX3_isUsable cX3_isUsable 1 (some .boolean)) 2 44 [.ref x0] S ((f_ri S) r) := by
  refine FM.of (own := RX3) (lv := [(0, .ref x0)]) (OG_ok P hO) pl_X3 rfl (Nat.le_of_ble_eq_true rfl) rfl h LE.rf (fun X C hm => ?_)
  unfold C_X3_isUsable
  refine VF.bind (fun _ _ => ?_)
  refine v_aload_n C dX3_isUsable_0 0 rfl ?_
  refine g_callV_ri C (As := []) (st := []) lk_X3_54 dX3_isUsable_1 rfl (Nat.le_of_ble_eq_true rfl) (Nat.le_of_ble_eq_true rfl) (Nat.le_of_ble_eq_true rfl) cls_3.1 rfl (fun _ z => rc_X3_isConnected z) (fun _ z => met_X3_isConnected hO F S x0 z) (fun r1 hr1 => ?_)
  refine v_if_eq C (tgt := 22) dX3_isUsable_4 rfl (fun _ => ?_) (fun _ => ?_)
  · refine v_iconst C dX3_isUsable_22 ci_0 ?_
    exact v_zreturn C hm dX3_isUsable_23 (Or.inl rfl) rfl
  · refine v_aload_n C dX3_isUsable_7 0 rfl ?_
    refine g_getA C dX3_isUsable_8 cls_3 (Nat.le_of_ble_eq_true rfl) fl_X3_9 fs_X3_9 (fun y2 hy2 => ?_)
    refine g_getA C dX3_isUsable_11 cls_2 (Nat.le_of_ble_eq_true rfl) fl_X3_30 fs_X3_30 (fun y3 hy3 => ?_)
    refine g_alen (kd := 3) (fun _ => rfl) C dX3_isUsable_14 (fun y4 hy4 => ?_)
    refine v_if_le C (tgt := 22) dX3_isUsable_15 rfl (fun _ => ?_) (fun _ => ?_)
    · refine v_iconst C dX3_isUsable_22 ci_0 ?_
      exact v_zreturn C hm dX3_isUsable_23 (Or.inl rfl) rfl
    · refine v_iconst C dX3_isUsable_18 ci_1 ?_
      refine v_goto C (tgt := 23) dX3_isUsable_19 rfl ?_
      exact v_zreturn C hm dX3_isUsable_23 (Or.inr rfl) rfl
theorem met_X6_property {P : GP} {l : Launch} (hO : okG P) (S : St) (x0 : Nat) (x1 : Int32) {r : Int32} (h : C_X6_property S x0 x1 = some r) : FM l (OG P) yX6_property (ws_ yX6_property cX6_property 2 (some .int)) 0 0 [.ref x0, .int x1] S ((f_ri S) r) := by
  refine FM.of (own := RX6) (lv := [(0, .ref x0), (1, .int x1)]) (OG_ok P hO) pl_X6 rfl (Nat.le_of_ble_eq_true rfl) rfl h LE.rf (fun X C hm => ?_)
  unfold C_X6_property
  refine VF.bind (fun _ _ => ?_)
  refine v_iload_n C dX6_property_0 1 rfl ?_
  refine v_if_ne C (tgt := 11) dX6_property_1 rfl (fun _ => ?_) (fun _ => ?_)
  · refine v_aload_n C dX6_property_4 0 rfl ?_
    refine g_getI C dX6_property_5 cls_5 (Nat.le_of_ble_eq_true rfl) fl_X6_7 fs_X6_7 (fun y1 hy1 => ?_)
    refine v_goto C (tgt := 27) dX6_property_8 rfl ?_
    exact v_ireturn C hm dX6_property_27 rfl
  · refine v_iload_n C dX6_property_11 1 rfl ?_
    refine v_iconst C dX6_property_12 ci_1 ?_
    refine v_icmp_ne C (tgt := 23) dX6_property_13 rfl (fun _ => ?_) (fun _ => ?_)
    · refine v_aload_n C dX6_property_16 0 rfl ?_
      refine g_getI C dX6_property_17 cls_5 (Nat.le_of_ble_eq_true rfl) fl_X6_13 fs_X6_13 (fun y2 hy2 => ?_)
      refine v_goto C (tgt := 27) dX6_property_20 rfl ?_
      exact v_ireturn C hm dX6_property_27 rfl
    · refine v_aload_n C dX6_property_23 0 rfl ?_
      refine g_getI C dX6_property_24 cls_5 (Nat.le_of_ble_eq_true rfl) fl_X6_16 fs_X6_16 (fun y3 hy3 => ?_)
      exact v_ireturn C hm dX6_property_27 rfl
theorem o_X1_checksum_65 {F : Nat} {x0 : Nat} {x1 : Int32} (k31 : Int32 → St → Option (Int64 × St)) (hk31 : ∀ (z1 : Int32) (τ : St), MF mf_p (k31 z1 τ) τ) (S : St) : MF mf_p (C_X1_checksum_65 F k31 x0 x1 S) S := by
  unfold C_X1_checksum_65
  refine mf_bind (fun y13 hy13 => ?_)
  exact (hk31 y13 S)
theorem o_X1_checksum_44 {F : Nat} {x0 : Nat} {x1 : Int32} (k31 : Int32 → St → Option (Int64 × St)) (hk31 : ∀ (z1 : Int32) (τ : St), MF mf_p (k31 z1 τ) τ) : ∀ (n : Nat) (x2 : Int32) (S : St), MF mf_p (C_X1_checksum_44 F k31 x0 x1 n x2 S) S := by
  intro n
  induction n with
  | zero => intro x2 S; exact mf_none
  | succ n ih =>
    intro x2 S
    unfold C_X1_checksum_44
    refine mf_ite ?_ ?_
    · exact (o_X1_checksum_65 k31 hk31 S)
    · refine mf_bind (fun r7 hr7 => ?_)
      refine mf_callv (fun _ z => mono_X1_mix z) (fun r8 hr8 => ?_)
      refine mf_bind (fun y9 hy9 => ?_)
      exact (ih y9 r8)
theorem o_X1_checksum_115 {F : Nat} {x0 : Nat} {x1 : Int32} (k73 : Int32 → St → Option (Int64 × St)) (hk73 : ∀ (z1 : Int32) (τ : St), MF mf_p (k73 z1 τ) τ) (S : St) : MF mf_p (C_X1_checksum_115 F k73 x0 x1 S) S := by
  unfold C_X1_checksum_115
  refine mf_bind (fun y23 hy23 => ?_)
  exact (hk73 y23 S)
theorem o_X1_checksum_87 {F : Nat} {x0 : Nat} {x1 : Int32} (k73 : Int32 → St → Option (Int64 × St)) (hk73 : ∀ (z1 : Int32) (τ : St), MF mf_p (k73 z1 τ) τ) : ∀ (n : Nat) (x2 : Int32) (S : St), MF mf_p (C_X1_checksum_87 F k73 x0 x1 n x2 S) S := by
  intro n
  induction n with
  | zero => intro x2 S; exact mf_none
  | succ n ih =>
    intro x2 S
    unfold C_X1_checksum_87
    refine mf_ite ?_ ?_
    · exact (o_X1_checksum_115 k73 hk73 S)
    · refine mf_bind (fun y14 hy14 => ?_)
      refine mf_bind (fun y15 hy15 => ?_)
      refine mf_bind (fun y16 hy16 => ?_)
      refine mf_bind (fun r17 hr17 => ?_)
      refine mf_callv (fun _ z => mono_X1_mix z) (fun r18 hr18 => ?_)
      refine mf_bind (fun y19 hy19 => ?_)
      exact (ih y19 r18)
theorem o_X1_checksum_165 {F : Nat} {x0 : Nat} {x1 : Int32} (k123 : Int32 → St → Option (Int64 × St)) (hk123 : ∀ (z1 : Int32) (τ : St), MF mf_p (k123 z1 τ) τ) (S : St) : MF mf_p (C_X1_checksum_165 F k123 x0 x1 S) S := by
  unfold C_X1_checksum_165
  refine mf_bind (fun y40 hy40 => ?_)
  exact (hk123 y40 S)
theorem o_X1_checksum_137 {F : Nat} {x0 : Nat} {x1 : Int32} (k123 : Int32 → St → Option (Int64 × St)) (hk123 : ∀ (z1 : Int32) (τ : St), MF mf_p (k123 z1 τ) τ) : ∀ (n : Nat) (x2 : Int32) (S : St), MF mf_p (C_X1_checksum_137 F k123 x0 x1 n x2 S) S := by
  intro n
  induction n with
  | zero => intro x2 S; exact mf_none
  | succ n ih =>
    intro x2 S
    unfold C_X1_checksum_137
    refine mf_ite ?_ ?_
    · exact (o_X1_checksum_165 k123 hk123 S)
    · refine mf_bind (fun y27 hy27 => ?_)
      refine mf_bind (fun y28 hy28 => ?_)
      refine mf_bind (fun y29 hy29 => ?_)
      refine mf_bind (fun r30 hr30 => ?_)
      refine mf_callv (fun _ z => mono_X1_mix z) (fun r31 hr31 => ?_)
      refine mf_bind (fun y32 hy32 => ?_)
      exact (ih y32 r31)
theorem o_X1_checksum_185 {F : Nat} {x0 : Nat}  (S : St) : MF mf_p (C_X1_checksum_185 F x0 S) S := by
  unfold C_X1_checksum_185
  refine mf_bind (fun y33 hy33 => ?_)
  refine mf_bind (fun r34 hr34 => ?_)
  refine mf_callv (fun _ z => mono_X1_mix z) (fun r35 hr35 => ?_)
  refine mf_bind (fun y36 hy36 => ?_)
  refine mf_bind (fun r37 hr37 => ?_)
  refine mf_callv (fun _ z => mono_X1_mix z) (fun r38 hr38 => ?_)
  refine mf_bind (fun y39 hy39 => ?_)
  exact mf_ret leG.rf
theorem o_X1_checksum_171 {F : Nat} {x0 : Nat}  (S : St) : MF mf_p (C_X1_checksum_171 F x0 S) S := by
  unfold C_X1_checksum_171
  refine mf_bind (fun y24 hy24 => ?_)
  refine mf_bind (fun r25 hr25 => ?_)
  refine mf_ite ?_ ?_
  · exact (o_X1_checksum_185 S)
  · refine mf_callv (fun _ z => mono_X1_mixCenters z) (fun r26 hr26 => ?_)
    exact (o_X1_checksum_185 r26)
theorem o_X1_checksum_123 {F : Nat} {x0 : Nat}  : ∀ (n : Nat) (x1 : Int32) (S : St), MF mf_p (C_X1_checksum_123 F x0 n x1 S) S := by
  intro n
  induction n with
  | zero => intro x1 S; exact mf_none
  | succ n ih =>
    intro x1 S
    unfold C_X1_checksum_123
    refine mf_bind (fun y20 hy20 => ?_)
    refine mf_bind (fun y21 hy21 => ?_)
    refine mf_bind (fun y22 hy22 => ?_)
    refine mf_ite ?_ ?_
    · exact (o_X1_checksum_171 S)
    · exact (o_X1_checksum_137 (C_X1_checksum_123 F x0 n) ih F 0 S)
theorem o_X1_checksum_121 {F : Nat} {x0 : Nat}  (S : St) : MF mf_p (C_X1_checksum_121 F x0 S) S := by
  unfold C_X1_checksum_121
  exact (o_X1_checksum_123 F 0 S)
theorem o_X1_checksum_73 {F : Nat} {x0 : Nat}  : ∀ (n : Nat) (x1 : Int32) (S : St), MF mf_p (C_X1_checksum_73 F x0 n x1 S) S := by
  intro n
  induction n with
  | zero => intro x1 S; exact mf_none
  | succ n ih =>
    intro x1 S
    unfold C_X1_checksum_73
    refine mf_bind (fun y10 hy10 => ?_)
    refine mf_bind (fun y11 hy11 => ?_)
    refine mf_bind (fun y12 hy12 => ?_)
    refine mf_ite ?_ ?_
    · exact (o_X1_checksum_121 S)
    · exact (o_X1_checksum_87 (C_X1_checksum_73 F x0 n) ih F 0 S)
theorem o_X1_checksum_71 {F : Nat} {x0 : Nat}  (S : St) : MF mf_p (C_X1_checksum_71 F x0 S) S := by
  unfold C_X1_checksum_71
  exact (o_X1_checksum_73 F 0 S)
theorem o_X1_checksum_31 {F : Nat} {x0 : Nat}  : ∀ (n : Nat) (x1 : Int32) (S : St), MF mf_p (C_X1_checksum_31 F x0 n x1 S) S := by
  intro n
  induction n with
  | zero => intro x1 S; exact mf_none
  | succ n ih =>
    intro x1 S
    unfold C_X1_checksum_31
    refine mf_bind (fun y5 hy5 => ?_)
    refine mf_bind (fun r6 hr6 => ?_)
    refine mf_ite ?_ ?_
    · exact (o_X1_checksum_71 S)
    · exact (o_X1_checksum_44 (C_X1_checksum_31 F x0 n) ih F 0 S)
theorem o_X1_checksum_29 {F : Nat} {x0 : Nat}  (S : St) : MF mf_p (C_X1_checksum_29 F x0 S) S := by
  unfold C_X1_checksum_29
  exact (o_X1_checksum_31 F 0 S)
theorem o_X1_checksum_9 {F : Nat} {x0 : Nat}  : ∀ (n : Nat) (x1 : Int32) (S : St), MF mf_p (C_X1_checksum_9 F x0 n x1 S) S := by
  intro n
  induction n with
  | zero => intro x1 S; exact mf_none
  | succ n ih =>
    intro x1 S
    unfold C_X1_checksum_9
    refine mf_ite ?_ ?_
    · exact (o_X1_checksum_29 S)
    · refine mf_bind (fun r2 hr2 => ?_)
      refine mf_callv (fun _ z => mono_X1_mix z) (fun r3 hr3 => ?_)
      refine mf_bind (fun y4 hy4 => ?_)
      exact (ih y4 r3)
theorem mono_X1_checksum {F : Nat} {S : St} {x0 : Nat} {r : Int64 × St} (h : C_X1_checksum F S x0 = some r) : leG S r.2 := by
  have q : MF mf_p (C_X1_checksum F S x0) S := by
    unfold C_X1_checksum
    refine mf_bind (fun _ _ => ?_)
    refine mf_put (fun S1 hS1 => ?_)
    exact (o_X1_checksum_9 F 0 S1)
  exact q r h
theorem w_X1_checksum_65 {P : GP} {X : Ctx} {l : Launch} {S0 : St} {F : Nat} (hO : okG P) (C : CX (OG P) X l cX1_checksum 3 RX1 (some .long)) (hm : X.2.2.2.2.2.2.2.2.2 = none) {x0 : Nat} {x1 : Int32} (k31 : Int32 → St → Option (Int64 × St)) (hk31 : ∀ (z1 : Int32) (τ : St), VF (OG P) X 3 615 38777 S0 f_ml (k31 z1 τ) τ 31 [(0, .ref x0), (1, .int z1)] []) (S : St) : VF (OG P) X 3 615 38777 S0 f_ml (C_X1_checksum_65 F k31 x0 x1 S) S 65 [(0, .ref x0), (1, .int x1)] [] := by
  unfold C_X1_checksum_65
  refine v_iincN C (lv' := fun y13 => [(1, .int y13), (0, .ref x0)]) dX1_checksum_65 1 rfl ci_1 (Nat.le_of_ble_eq_true rfl) (fun _ => rfl) (fun y13 hy13 => ?_)
  refine v_goto C (tgt := 31) dX1_checksum_68 rfl ?_
  exact v_sub [1, 0] rfl (hk31 y13 S)
theorem w_X1_checksum_44 {P : GP} {X : Ctx} {l : Launch} {S0 : St} {F : Nat} (hO : okG P) (C : CX (OG P) X l cX1_checksum 3 RX1 (some .long)) (hm : X.2.2.2.2.2.2.2.2.2 = none) {x0 : Nat} {x1 : Int32} (k31 : Int32 → St → Option (Int64 × St)) (hk31 : ∀ (z1 : Int32) (τ : St), VF (OG P) X 3 615 38777 S0 f_ml (k31 z1 τ) τ 31 [(0, .ref x0), (1, .int z1)] []) : ∀ (n : Nat) (x2 : Int32) (S : St), VF (OG P) X 3 615 38777 S0 f_ml (C_X1_checksum_44 F k31 x0 x1 n x2 S) S 44 [(0, .ref x0), (1, .int x1), (2, .int x2)] [] := by
  intro n
  induction n with
  | zero => intro x2 S; exact VF.none
  | succ n ih =>
    intro x2 S
    unfold C_X1_checksum_44
    refine v_iload_n C dX1_checksum_44 2 rfl ?_
    refine v_iconst C dX1_checksum_45 ci_3 ?_
    refine v_icmp_ge C (tgt := 65) dX1_checksum_46 rfl (fun _ => ?_) (fun _ => ?_)
    · exact v_sub [0, 1] rfl (w_X1_checksum_65 hO C hm k31 hk31 S)
    · refine v_aload_n C dX1_checksum_49 0 rfl ?_
      refine v_aload_n C dX1_checksum_50 0 rfl ?_
      refine v_iload_n C dX1_checksum_51 1 rfl ?_
      refine v_iload_n C dX1_checksum_52 2 rfl ?_
      refine g_callV_ri C (As := [.int x1, .int x2]) (st := [.ref x0]) lk_X1_199 dX1_checksum_53 rfl (Nat.le_of_ble_eq_true rfl) (Nat.le_of_ble_eq_true rfl) (Nat.le_of_ble_eq_true rfl) cls_1.1 rfl (fun _ z => rc_X1_propertyOf z) (fun _ z => met_X1_propertyOf hO F S x0 x1 x2 z) (fun r7 hr7 => ?_)
      refine g_callV_mv C (As := [.int r7]) (st := []) lk_X1_360 dX1_checksum_56 rfl (Nat.le_of_ble_eq_true rfl) (Nat.le_of_ble_eq_true rfl) (Nat.le_of_ble_eq_true rfl) cls_1.1 rfl (fun _ z => rc_X1_mix z) (fun _ z => met_X1_mix hO S x0 r7 z) (fun r8 hr8 => ?_)
      refine v_iincN C (lv' := fun y9 => [(2, .int y9), (0, .ref x0), (1, .int x1)]) dX1_checksum_59 2 rfl ci_1 (Nat.le_of_ble_eq_true rfl) (fun _ => rfl) (fun y9 hy9 => ?_)
      refine v_goto C (tgt := 44) dX1_checksum_62 rfl ?_
      exact v_sub [1, 2, 0] rfl (ih y9 r8)
theorem w_X1_checksum_115 {P : GP} {X : Ctx} {l : Launch} {S0 : St} {F : Nat} (hO : okG P) (C : CX (OG P) X l cX1_checksum 3 RX1 (some .long)) (hm : X.2.2.2.2.2.2.2.2.2 = none) {x0 : Nat} {x1 : Int32} (k73 : Int32 → St → Option (Int64 × St)) (hk73 : ∀ (z1 : Int32) (τ : St), VF (OG P) X 3 615 38777 S0 f_ml (k73 z1 τ) τ 73 [(0, .ref x0), (1, .int z1)] []) (S : St) : VF (OG P) X 3 615 38777 S0 f_ml (C_X1_checksum_115 F k73 x0 x1 S) S 115 [(0, .ref x0), (1, .int x1)] [] := by
  unfold C_X1_checksum_115
  refine v_iincN C (lv' := fun y23 => [(1, .int y23), (0, .ref x0)]) dX1_checksum_115 1 rfl ci_1 (Nat.le_of_ble_eq_true rfl) (fun _ => rfl) (fun y23 hy23 => ?_)
  refine v_goto C (tgt := 73) dX1_checksum_118 rfl ?_
  exact v_sub [1, 0] rfl (hk73 y23 S)
theorem w_X1_checksum_87 {P : GP} {X : Ctx} {l : Launch} {S0 : St} {F : Nat} (hO : okG P) (C : CX (OG P) X l cX1_checksum 3 RX1 (some .long)) (hm : X.2.2.2.2.2.2.2.2.2 = none) {x0 : Nat} {x1 : Int32} (k73 : Int32 → St → Option (Int64 × St)) (hk73 : ∀ (z1 : Int32) (τ : St), VF (OG P) X 3 615 38777 S0 f_ml (k73 z1 τ) τ 73 [(0, .ref x0), (1, .int z1)] []) : ∀ (n : Nat) (x2 : Int32) (S : St), VF (OG P) X 3 615 38777 S0 f_ml (C_X1_checksum_87 F k73 x0 x1 n x2 S) S 87 [(0, .ref x0), (1, .int x1), (2, .int x2)] [] := by
  intro n
  induction n with
  | zero => intro x2 S; exact VF.none
  | succ n ih =>
    intro x2 S
    unfold C_X1_checksum_87
    refine v_iload_n C dX1_checksum_87 2 rfl ?_
    refine v_iconst C dX1_checksum_88 ci_3 ?_
    refine v_icmp_ge C (tgt := 115) dX1_checksum_89 rfl (fun _ => ?_) (fun _ => ?_)
    · exact v_sub [0, 1] rfl (w_X1_checksum_115 hO C hm k73 hk73 S)
    · refine v_aload_n C dX1_checksum_92 0 rfl ?_
      refine v_aload_n C dX1_checksum_93 0 rfl ?_
      refine g_getA C dX1_checksum_94 cls_1 (Nat.le_of_ble_eq_true rfl) fl_X1_39 fs_X1_39 (fun y14 hy14 => ?_)
      refine g_getA C dX1_checksum_97 cls_2 (Nat.le_of_ble_eq_true rfl) fl_X1_83 fs_X1_83 (fun y15 hy15 => ?_)
      refine v_iload_n C dX1_checksum_100 1 rfl ?_
      refine g_aalA3 C dX1_checksum_101 (fun y16 hy16 => ?_)
      refine v_iload_n C dX1_checksum_102 2 rfl ?_
      refine g_callV_ri C (As := [.int x2]) (st := [.ref x0]) lk_X1_193 dX1_checksum_103 rfl (Nat.le_of_ble_eq_true rfl) (Nat.le_of_ble_eq_true rfl) (Nat.le_of_ble_eq_true rfl) cls_4.1 rfl (fun _ z => rc_X5_property z) (fun _ z => met_X5_property hO S y16 x2 z) (fun r17 hr17 => ?_)
      refine g_callV_mv C (As := [.int r17]) (st := []) lk_X1_360 dX1_checksum_106 rfl (Nat.le_of_ble_eq_true rfl) (Nat.le_of_ble_eq_true rfl) (Nat.le_of_ble_eq_true rfl) cls_1.1 rfl (fun _ z => rc_X1_mix z) (fun _ z => met_X1_mix hO S x0 r17 z) (fun r18 hr18 => ?_)
      refine v_iincN C (lv' := fun y19 => [(2, .int y19), (0, .ref x0), (1, .int x1)]) dX1_checksum_109 2 rfl ci_1 (Nat.le_of_ble_eq_true rfl) (fun _ => rfl) (fun y19 hy19 => ?_)
      refine v_goto C (tgt := 87) dX1_checksum_112 rfl ?_
      exact v_sub [1, 2, 0] rfl (ih y19 r18)
theorem w_X1_checksum_165 {P : GP} {X : Ctx} {l : Launch} {S0 : St} {F : Nat} (hO : okG P) (C : CX (OG P) X l cX1_checksum 3 RX1 (some .long)) (hm : X.2.2.2.2.2.2.2.2.2 = none) {x0 : Nat} {x1 : Int32} (k123 : Int32 → St → Option (Int64 × St)) (hk123 : ∀ (z1 : Int32) (τ : St), VF (OG P) X 3 615 38777 S0 f_ml (k123 z1 τ) τ 123 [(0, .ref x0), (1, .int z1)] []) (S : St) : VF (OG P) X 3 615 38777 S0 f_ml (C_X1_checksum_165 F k123 x0 x1 S) S 165 [(0, .ref x0), (1, .int x1)] [] := by
  unfold C_X1_checksum_165
  refine v_iincN C (lv' := fun y40 => [(1, .int y40), (0, .ref x0)]) dX1_checksum_165 1 rfl ci_1 (Nat.le_of_ble_eq_true rfl) (fun _ => rfl) (fun y40 hy40 => ?_)
  refine v_goto C (tgt := 123) dX1_checksum_168 rfl ?_
  exact v_sub [1, 0] rfl (hk123 y40 S)
theorem w_X1_checksum_137 {P : GP} {X : Ctx} {l : Launch} {S0 : St} {F : Nat} (hO : okG P) (C : CX (OG P) X l cX1_checksum 3 RX1 (some .long)) (hm : X.2.2.2.2.2.2.2.2.2 = none) {x0 : Nat} {x1 : Int32} (k123 : Int32 → St → Option (Int64 × St)) (hk123 : ∀ (z1 : Int32) (τ : St), VF (OG P) X 3 615 38777 S0 f_ml (k123 z1 τ) τ 123 [(0, .ref x0), (1, .int z1)] []) : ∀ (n : Nat) (x2 : Int32) (S : St), VF (OG P) X 3 615 38777 S0 f_ml (C_X1_checksum_137 F k123 x0 x1 n x2 S) S 137 [(0, .ref x0), (1, .int x1), (2, .int x2)] [] := by
  intro n
  induction n with
  | zero => intro x2 S; exact VF.none
  | succ n ih =>
    intro x2 S
    unfold C_X1_checksum_137
    refine v_iload_n C dX1_checksum_137 2 rfl ?_
    refine v_iconst C dX1_checksum_138 ci_3 ?_
    refine v_icmp_ge C (tgt := 165) dX1_checksum_139 rfl (fun _ => ?_) (fun _ => ?_)
    · exact v_sub [0, 1] rfl (w_X1_checksum_165 hO C hm k123 hk123 S)
    · refine v_aload_n C dX1_checksum_142 0 rfl ?_
      refine v_aload_n C dX1_checksum_143 0 rfl ?_
      refine g_getA C dX1_checksum_144 cls_1 (Nat.le_of_ble_eq_true rfl) fl_X1_39 fs_X1_39 (fun y27 hy27 => ?_)
      refine g_getA C dX1_checksum_147 cls_2 (Nat.le_of_ble_eq_true rfl) fl_X1_144 fs_X1_144 (fun y28 hy28 => ?_)
      refine v_iload_n C dX1_checksum_150 1 rfl ?_
      refine g_aalA4 C dX1_checksum_151 (fun y29 hy29 => ?_)
      refine v_iload_n C dX1_checksum_152 2 rfl ?_
      refine g_callV_ri C (As := [.int x2]) (st := [.ref x0]) lk_X1_203 dX1_checksum_153 rfl (Nat.le_of_ble_eq_true rfl) (Nat.le_of_ble_eq_true rfl) (Nat.le_of_ble_eq_true rfl) cls_5.1 rfl (fun _ z => rc_X6_property z) (fun _ z => met_X6_property hO S y29 x2 z) (fun r30 hr30 => ?_)
      refine g_callV_mv C (As := [.int r30]) (st := []) lk_X1_360 dX1_checksum_156 rfl (Nat.le_of_ble_eq_true rfl) (Nat.le_of_ble_eq_true rfl) (Nat.le_of_ble_eq_true rfl) cls_1.1 rfl (fun _ z => rc_X1_mix z) (fun _ z => met_X1_mix hO S x0 r30 z) (fun r31 hr31 => ?_)
      refine v_iincN C (lv' := fun y32 => [(2, .int y32), (0, .ref x0), (1, .int x1)]) dX1_checksum_159 2 rfl ci_1 (Nat.le_of_ble_eq_true rfl) (fun _ => rfl) (fun y32 hy32 => ?_)
      refine v_goto C (tgt := 137) dX1_checksum_162 rfl ?_
      exact v_sub [1, 2, 0] rfl (ih y32 r31)
theorem w_X1_checksum_185 {P : GP} {X : Ctx} {l : Launch} {S0 : St} {F : Nat} (hO : okG P) (C : CX (OG P) X l cX1_checksum 3 RX1 (some .long)) (hm : X.2.2.2.2.2.2.2.2.2 = none) {x0 : Nat}  (S : St) : VF (OG P) X 3 615 38777 S0 f_ml (C_X1_checksum_185 F x0 S) S 185 [(0, .ref x0)] [] := by
  unfold C_X1_checksum_185
  refine v_aload_n C dX1_checksum_185 0 rfl ?_
  refine v_aload_n C dX1_checksum_186 0 rfl ?_
  refine g_getA C dX1_checksum_187 cls_1 (Nat.le_of_ble_eq_true rfl) fl_X1_62 fs_X1_62 (fun y33 hy33 => ?_)
  refine g_callV_ri C (As := []) (st := [.ref x0]) lk_X1_307 dX1_checksum_190 rfl (Nat.le_of_ble_eq_true rfl) (Nat.le_of_ble_eq_true rfl) (Nat.le_of_ble_eq_true rfl) cls_12.1 rfl (fun _ z => rc_J4_length z) (fun _ z => met_J4_length hO S y33 z) (fun r34 hr34 => ?_)
  refine g_callV_mv C (As := [.int r34]) (st := []) lk_X1_360 dX1_checksum_193 rfl (Nat.le_of_ble_eq_true rfl) (Nat.le_of_ble_eq_true rfl) (Nat.le_of_ble_eq_true rfl) cls_1.1 rfl (fun _ z => rc_X1_mix z) (fun _ z => met_X1_mix hO S x0 r34 z) (fun r35 hr35 => ?_)
  refine v_aload_n C dX1_checksum_196 0 rfl ?_
  refine v_aload_n C dX1_checksum_197 0 rfl ?_
  refine g_getA C dX1_checksum_198 cls_1 (Nat.le_of_ble_eq_true rfl) fl_X1_55 fs_X1_55 (fun y36 hy36 => ?_)
  refine g_callV_ri C (As := []) (st := [.ref x0]) lk_X1_100 dX1_checksum_201 rfl (Nat.le_of_ble_eq_true rfl) (Nat.le_of_ble_eq_true rfl) (Nat.le_of_ble_eq_true rfl) cls_11.1 rfl (fun _ z => rc_J2_size z) (fun _ z => met_J2_size hO r35 y36 z) (fun r37 hr37 => ?_)
  refine g_callV_mv C (As := [.int r37]) (st := []) lk_X1_360 dX1_checksum_204 rfl (Nat.le_of_ble_eq_true rfl) (Nat.le_of_ble_eq_true rfl) (Nat.le_of_ble_eq_true rfl) cls_1.1 rfl (fun _ z => rc_X1_mix z) (fun _ z => met_X1_mix hO r35 x0 r37 z) (fun r38 hr38 => ?_)
  refine v_aload_n C dX1_checksum_207 0 rfl ?_
  refine g_getJ C dX1_checksum_208 cls_1 (Nat.le_of_ble_eq_true rfl) fl_X1_356 fs_X1_356 (fun y39 hy39 => ?_)
  exact v_lreturn C hm dX1_checksum_211 rfl
theorem w_X1_checksum_171 {P : GP} {X : Ctx} {l : Launch} {S0 : St} {F : Nat} (hO : okG P) (C : CX (OG P) X l cX1_checksum 3 RX1 (some .long)) (hm : X.2.2.2.2.2.2.2.2.2 = none) {x0 : Nat}  (S : St) : VF (OG P) X 3 615 38777 S0 f_ml (C_X1_checksum_171 F x0 S) S 171 [(0, .ref x0)] [] := by
  unfold C_X1_checksum_171
  refine v_aload_n C dX1_checksum_171 0 rfl ?_
  refine g_getA C dX1_checksum_172 cls_1 (Nat.le_of_ble_eq_true rfl) fl_X1_48 fs_X1_48 (fun y24 hy24 => ?_)
  refine g_callV_ri C (As := []) (st := []) lk_X1_271 dX1_checksum_175 rfl (Nat.le_of_ble_eq_true rfl) (Nat.le_of_ble_eq_true rfl) (Nat.le_of_ble_eq_true rfl) cls_3.1 rfl (fun _ z => rc_X3_isUsable z) (fun _ z => met_X3_isUsable hO F S y24 z) (fun r25 hr25 => ?_)
  refine v_if_eq C (tgt := 185) dX1_checksum_178 rfl (fun _ => ?_) (fun _ => ?_)
  · exact v_sub [0] rfl (w_X1_checksum_185 hO C hm S)
  · refine v_aload_n C dX1_checksum_181 0 rfl ?_
    refine g_callV_mv C (As := []) (st := []) lk_X1_365 dX1_checksum_182 rfl (Nat.le_of_ble_eq_true rfl) (Nat.le_of_ble_eq_true rfl) (Nat.le_of_ble_eq_true rfl) cls_1.1 rfl (fun _ z => rc_X1_mixCenters z) (fun _ z => met_X1_mixCenters hO F S x0 z) (fun r26 hr26 => ?_)
    exact v_sub [0] rfl (w_X1_checksum_185 hO C hm r26)
theorem w_X1_checksum_123 {P : GP} {X : Ctx} {l : Launch} {S0 : St} {F : Nat} (hO : okG P) (C : CX (OG P) X l cX1_checksum 3 RX1 (some .long)) (hm : X.2.2.2.2.2.2.2.2.2 = none) {x0 : Nat}  : ∀ (n : Nat) (x1 : Int32) (S : St), VF (OG P) X 3 615 38777 S0 f_ml (C_X1_checksum_123 F x0 n x1 S) S 123 [(0, .ref x0), (1, .int x1)] [] := by
  intro n
  induction n with
  | zero => intro x1 S; exact VF.none
  | succ n ih =>
    intro x1 S
    unfold C_X1_checksum_123
    refine v_iload_n C dX1_checksum_123 1 rfl ?_
    refine v_aload_n C dX1_checksum_124 0 rfl ?_
    refine g_getA C dX1_checksum_125 cls_1 (Nat.le_of_ble_eq_true rfl) fl_X1_39 fs_X1_39 (fun y20 hy20 => ?_)
    refine g_getA C dX1_checksum_128 cls_2 (Nat.le_of_ble_eq_true rfl) fl_X1_144 fs_X1_144 (fun y21 hy21 => ?_)
    refine g_alen (kd := 4) (fun _ => rfl) C dX1_checksum_131 (fun y22 hy22 => ?_)
    refine v_icmp_ge C (tgt := 171) dX1_checksum_132 rfl (fun _ => ?_) (fun _ => ?_)
    · exact v_sub [0] rfl (w_X1_checksum_171 hO C hm S)
    · refine v_iconst C dX1_checksum_135 ci_0 ?_
      refine v_istore_n C (lv' := [(2, .int 0), (0, .ref x0), (1, .int x1)]) dX1_checksum_136 (Nat.le_of_ble_eq_true rfl) rfl ?_
      exact v_sub [1, 2, 0] rfl (w_X1_checksum_137 hO C hm (C_X1_checksum_123 F x0 n) ih F 0 S)
theorem w_X1_checksum_121 {P : GP} {X : Ctx} {l : Launch} {S0 : St} {F : Nat} (hO : okG P) (C : CX (OG P) X l cX1_checksum 3 RX1 (some .long)) (hm : X.2.2.2.2.2.2.2.2.2 = none) {x0 : Nat}  (S : St) : VF (OG P) X 3 615 38777 S0 f_ml (C_X1_checksum_121 F x0 S) S 121 [(0, .ref x0)] [] := by
  unfold C_X1_checksum_121
  refine v_iconst C dX1_checksum_121 ci_0 ?_
  refine v_istore_n C (lv' := [(1, .int 0), (0, .ref x0)]) dX1_checksum_122 (Nat.le_of_ble_eq_true rfl) rfl ?_
  exact v_sub [1, 0] rfl (w_X1_checksum_123 hO C hm F 0 S)
theorem w_X1_checksum_73 {P : GP} {X : Ctx} {l : Launch} {S0 : St} {F : Nat} (hO : okG P) (C : CX (OG P) X l cX1_checksum 3 RX1 (some .long)) (hm : X.2.2.2.2.2.2.2.2.2 = none) {x0 : Nat}  : ∀ (n : Nat) (x1 : Int32) (S : St), VF (OG P) X 3 615 38777 S0 f_ml (C_X1_checksum_73 F x0 n x1 S) S 73 [(0, .ref x0), (1, .int x1)] [] := by
  intro n
  induction n with
  | zero => intro x1 S; exact VF.none
  | succ n ih =>
    intro x1 S
    unfold C_X1_checksum_73
    refine v_iload_n C dX1_checksum_73 1 rfl ?_
    refine v_aload_n C dX1_checksum_74 0 rfl ?_
    refine g_getA C dX1_checksum_75 cls_1 (Nat.le_of_ble_eq_true rfl) fl_X1_39 fs_X1_39 (fun y10 hy10 => ?_)
    refine g_getA C dX1_checksum_78 cls_2 (Nat.le_of_ble_eq_true rfl) fl_X1_83 fs_X1_83 (fun y11 hy11 => ?_)
    refine g_alen (kd := 3) (fun _ => rfl) C dX1_checksum_81 (fun y12 hy12 => ?_)
    refine v_icmp_ge C (tgt := 121) dX1_checksum_82 rfl (fun _ => ?_) (fun _ => ?_)
    · exact v_sub [0] rfl (w_X1_checksum_121 hO C hm S)
    · refine v_iconst C dX1_checksum_85 ci_0 ?_
      refine v_istore_n C (lv' := [(2, .int 0), (0, .ref x0), (1, .int x1)]) dX1_checksum_86 (Nat.le_of_ble_eq_true rfl) rfl ?_
      exact v_sub [1, 2, 0] rfl (w_X1_checksum_87 hO C hm (C_X1_checksum_73 F x0 n) ih F 0 S)
theorem w_X1_checksum_71 {P : GP} {X : Ctx} {l : Launch} {S0 : St} {F : Nat} (hO : okG P) (C : CX (OG P) X l cX1_checksum 3 RX1 (some .long)) (hm : X.2.2.2.2.2.2.2.2.2 = none) {x0 : Nat}  (S : St) : VF (OG P) X 3 615 38777 S0 f_ml (C_X1_checksum_71 F x0 S) S 71 [(0, .ref x0)] [] := by
  unfold C_X1_checksum_71
  refine v_iconst C dX1_checksum_71 ci_0 ?_
  refine v_istore_n C (lv' := [(1, .int 0), (0, .ref x0)]) dX1_checksum_72 (Nat.le_of_ble_eq_true rfl) rfl ?_
  exact v_sub [1, 0] rfl (w_X1_checksum_73 hO C hm F 0 S)
theorem w_X1_checksum_31 {P : GP} {X : Ctx} {l : Launch} {S0 : St} {F : Nat} (hO : okG P) (C : CX (OG P) X l cX1_checksum 3 RX1 (some .long)) (hm : X.2.2.2.2.2.2.2.2.2 = none) {x0 : Nat}  : ∀ (n : Nat) (x1 : Int32) (S : St), VF (OG P) X 3 615 38777 S0 f_ml (C_X1_checksum_31 F x0 n x1 S) S 31 [(0, .ref x0), (1, .int x1)] [] := by
  intro n
  induction n with
  | zero => intro x1 S; exact VF.none
  | succ n ih =>
    intro x1 S
    unfold C_X1_checksum_31
    refine v_iload_n C dX1_checksum_31 1 rfl ?_
    refine v_aload_n C dX1_checksum_32 0 rfl ?_
    refine g_getA C dX1_checksum_33 cls_1 (Nat.le_of_ble_eq_true rfl) fl_X1_39 fs_X1_39 (fun y5 hy5 => ?_)
    refine g_callV_ri C (As := []) (st := [.int x1]) lk_X1_96 dX1_checksum_36 rfl (Nat.le_of_ble_eq_true rfl) (Nat.le_of_ble_eq_true rfl) (Nat.le_of_ble_eq_true rfl) cls_2.1 rfl (fun _ z => rc_X2_size z) (fun _ z => met_X2_size hO S y5 z) (fun r6 hr6 => ?_)
    refine v_icmp_ge C (tgt := 71) dX1_checksum_39 rfl (fun _ => ?_) (fun _ => ?_)
    · exact v_sub [0] rfl (w_X1_checksum_71 hO C hm S)
    · refine v_iconst C dX1_checksum_42 ci_0 ?_
      refine v_istore_n C (lv' := [(2, .int 0), (0, .ref x0), (1, .int x1)]) dX1_checksum_43 (Nat.le_of_ble_eq_true rfl) rfl ?_
      exact v_sub [1, 2, 0] rfl (w_X1_checksum_44 hO C hm (C_X1_checksum_31 F x0 n) ih F 0 S)
theorem w_X1_checksum_29 {P : GP} {X : Ctx} {l : Launch} {S0 : St} {F : Nat} (hO : okG P) (C : CX (OG P) X l cX1_checksum 3 RX1 (some .long)) (hm : X.2.2.2.2.2.2.2.2.2 = none) {x0 : Nat}  (S : St) : VF (OG P) X 3 615 38777 S0 f_ml (C_X1_checksum_29 F x0 S) S 29 [(0, .ref x0)] [] := by
  unfold C_X1_checksum_29
  refine v_iconst C dX1_checksum_29 ci_0 ?_
  refine v_istore_n C (lv' := [(1, .int 0), (0, .ref x0)]) dX1_checksum_30 (Nat.le_of_ble_eq_true rfl) rfl ?_
  exact v_sub [1, 0] rfl (w_X1_checksum_31 hO C hm F 0 S)
theorem w_X1_checksum_9 {P : GP} {X : Ctx} {l : Launch} {S0 : St} {F : Nat} (hO : okG P) (C : CX (OG P) X l cX1_checksum 3 RX1 (some .long)) (hm : X.2.2.2.2.2.2.2.2.2 = none) {x0 : Nat}  : ∀ (n : Nat) (x1 : Int32) (S : St), VF (OG P) X 3 615 38777 S0 f_ml (C_X1_checksum_9 F x0 n x1 S) S 9 [(0, .ref x0), (1, .int x1)] [] := by
  intro n
  induction n with
  | zero => intro x1 S; exact VF.none
  | succ n ih =>
    intro x1 S
    unfold C_X1_checksum_9
    refine v_iload_n C dX1_checksum_9 1 rfl ?_
    refine v_iconst C dX1_checksum_10 ci_4 ?_
    refine v_icmp_ge C (tgt := 29) dX1_checksum_11 rfl (fun _ => ?_) (fun _ => ?_)
    · exact v_sub [0] rfl (w_X1_checksum_29 hO C hm S)
    · refine v_aload_n C dX1_checksum_14 0 rfl ?_
      refine v_aload_n C dX1_checksum_15 0 rfl ?_
      refine v_iload_n C dX1_checksum_16 1 rfl ?_
      refine g_callV_ri C (As := [.int x1]) (st := [.ref x0]) lk_X1_189 dX1_checksum_17 rfl (Nat.le_of_ble_eq_true rfl) (Nat.le_of_ble_eq_true rfl) (Nat.le_of_ble_eq_true rfl) cls_1.1 rfl (fun _ z => rc_X1_counted z) (fun _ z => met_X1_counted hO F S x0 x1 z) (fun r2 hr2 => ?_)
      refine g_callV_mv C (As := [.int r2]) (st := []) lk_X1_360 dX1_checksum_20 rfl (Nat.le_of_ble_eq_true rfl) (Nat.le_of_ble_eq_true rfl) (Nat.le_of_ble_eq_true rfl) cls_1.1 rfl (fun _ z => rc_X1_mix z) (fun _ z => met_X1_mix hO S x0 r2 z) (fun r3 hr3 => ?_)
      refine v_iincN C (lv' := fun y4 => [(1, .int y4), (0, .ref x0)]) dX1_checksum_23 1 rfl ci_1 (Nat.le_of_ble_eq_true rfl) (fun _ => rfl) (fun y4 hy4 => ?_)
      refine v_goto C (tgt := 9) dX1_checksum_26 rfl ?_
      exact v_sub [1, 0] rfl (ih y4 r3)
theorem met_X1_checksum {P : GP} {l : Launch} (hO : okG P) (F : Nat) (S : St) (x0 : Nat) {r : Int64 × St} (h : C_X1_checksum F S x0 = some r) : FM l (OG P) yX1_checksum (ws_ yX1_checksum cX1_checksum 3 (some .long)) 615 38777 [.ref x0] S (f_ml r) := by
  refine FM.of (own := RX1) (lv := [(0, .ref x0)]) (OG_ok P hO) pl_X1 rfl (Nat.le_of_ble_eq_true rfl) rfl h (mono_X1_checksum h).LE (fun X C hm => ?_)
  unfold C_X1_checksum
  refine VF.bind (fun _ _ => ?_)
  refine v_aload_n C dX1_checksum_0 0 rfl ?_
  refine v_ldc2 C dX1_checksum_1 q812 ?_
  refine g_putV C dX1_checksum_4 cls_1 (Nat.le_of_ble_eq_true rfl) fl_X1_356 fs_X1_356 rfl rfl rfl (fun S1 hS1 => ?_)
  refine v_iconst C dX1_checksum_7 ci_0 ?_
  refine v_istore_n C (lv' := [(1, .int 0), (0, .ref x0)]) dX1_checksum_8 (Nat.le_of_ble_eq_true rfl) rfl ?_
  exact v_sub [1, 0] rfl (w_X1_checksum_9 hO C hm F 0 S1)
theorem o_X1_save_20 {F : Nat} {x0 : Nat}  (S : St) : MF mf_s (C_X1_save_20 F x0 S) S := by
  unfold C_X1_save_20
  refine mf_bind (fun y5 hy5 => ?_)
  refine mf_bind (fun y6 hy6 => ?_)
  refine mf_callv (fun _ z => mono_J2_addLast z) (fun r7 hr7 => ?_)
  exact mf_ret leG.rf
theorem mono_X1_save {F : Nat} {S : St} {x0 : Nat} {r : St} (h : C_X1_save F S x0 = some r) : leG S r := by
  have q : MF mf_s (C_X1_save F S x0) S := by
    unfold C_X1_save
    refine mf_bind (fun _ _ => ?_)
    refine mf_bind (fun y1 hy1 => ?_)
    refine mf_bind (fun r2 hr2 => ?_)
    refine mf_ite ?_ ?_
    · refine mf_bind (fun y3 hy3 => ?_)
      refine mf_call (fun _ z => mono_J2_removeFirst z) (fun r4 hr4 => ?_)
      exact (o_X1_save_20 r4.2)
    · exact (o_X1_save_20 S)
  exact q r h
theorem w_X1_save_20 {P : GP} {X : Ctx} {l : Launch} {S0 : St} {F : Nat} (hO : okG P) (C : CX (OG P) X l cX1_save 1 RX1 none) (hm : X.2.2.2.2.2.2.2.2.2 = none) {x0 : Nat}  (S : St) : VF (OG P) X 1 5 128 S0 f_mv (C_X1_save_20 F x0 S) S 20 [(0, .ref x0)] [] := by
  unfold C_X1_save_20
  refine v_aload_n C dX1_save_20 0 rfl ?_
  refine g_getA C dX1_save_21 cls_1 (Nat.le_of_ble_eq_true rfl) fl_X1_55 fs_X1_55 (fun y5 hy5 => ?_)
  refine v_aload_n C dX1_save_24 0 rfl ?_
  refine g_getA C dX1_save_25 cls_1 (Nat.le_of_ble_eq_true rfl) fl_X1_39 fs_X1_39 (fun y6 hy6 => ?_)
  refine g_callV_mv C (As := [.ref y6]) (st := []) lk_X1_105 dX1_save_28 rfl (Nat.le_of_ble_eq_true rfl) (Nat.le_of_ble_eq_true rfl) (Nat.le_of_ble_eq_true rfl) cls_11.1 rfl (fun _ z => rc_J2_addLast z) (fun _ z => met_J2_addLast hO F S y5 y6 z) (fun r7 hr7 => ?_)
  exact v_vreturn C hm dX1_save_31 rfl
theorem met_X1_save {P : GP} {l : Launch} (hO : okG P) (F : Nat) (S : St) (x0 : Nat) {r : St} (h : C_X1_save F S x0 = some r) : FM l (OG P) yX1_save (ws_ yX1_save cX1_save 1 none) 5 128 [.ref x0] S (f_mv r) := by
  refine FM.of (own := RX1) (lv := [(0, .ref x0)]) (OG_ok P hO) pl_X1 rfl (Nat.le_of_ble_eq_true rfl) rfl h (mono_X1_save h).LE (fun X C hm => ?_)
  unfold C_X1_save
  refine VF.bind (fun _ _ => ?_)
  refine v_aload_n C dX1_save_0 0 rfl ?_
  refine g_getA C dX1_save_1 cls_1 (Nat.le_of_ble_eq_true rfl) fl_X1_55 fs_X1_55 (fun y1 hy1 => ?_)
  refine g_callV_ri C (As := []) (st := []) lk_X1_100 dX1_save_4 rfl (Nat.le_of_ble_eq_true rfl) (Nat.le_of_ble_eq_true rfl) (Nat.le_of_ble_eq_true rfl) cls_11.1 rfl (fun _ z => rc_J2_size z) (fun _ z => met_J2_size hO S y1 z) (fun r2 hr2 => ?_)
  refine v_bipush C dX1_save_7 cb_6 ?_
  refine v_icmp_ne C (tgt := 20) dX1_save_9 rfl (fun _ => ?_) (fun _ => ?_)
  · refine v_aload_n C dX1_save_12 0 rfl ?_
    refine g_getA C dX1_save_13 cls_1 (Nat.le_of_ble_eq_true rfl) fl_X1_55 fs_X1_55 (fun y3 hy3 => ?_)
    refine g_callV_ma C (As := []) (st := []) lk_X1_101 dX1_save_16 rfl (Nat.le_of_ble_eq_true rfl) (Nat.le_of_ble_eq_true rfl) (Nat.le_of_ble_eq_true rfl) cls_11.1 rfl (fun _ z => rc_J2_removeFirst z) (fun _ z => met_J2_removeFirst hO S y3 z) (fun r4 hr4 => ?_)
    refine v_pop C dX1_save_19 rfl ?_
    exact v_sub [0] rfl (w_X1_save_20 hO C hm r4.2)
  · exact v_sub [0] rfl (w_X1_save_20 hO C hm S)
theorem mono_X1_stand {F : Nat} {S : St} {x0 : Nat} {x1 : Nat} {r : St} (h : C_X1_stand F S x0 x1 = some r) : leG S r := by
  have q : MF mf_s (C_X1_stand F S x0 x1) S := by
    unfold C_X1_stand
    refine mf_bind (fun _ _ => ?_)
    refine mf_put (fun S1 hS1 => ?_)
    refine mf_new (fun r2 hr2 => ?_)
    refine mf_callv (fun _ z => mono_X3_init z) (fun r3 hr3 => ?_)
    refine mf_put (fun S4 hS4 => ?_)
    exact mf_ret leG.rf
  exact q r h
theorem met_X1_stand {P : GP} {l : Launch} (hO : okG P) (F : Nat) (S : St) (x0 : Nat) (x1 : Nat) {r : St} (h : C_X1_stand F S x0 x1 = some r) : FM l (OG P) yX1_stand (ws_ yX1_stand cX1_stand 2 none) 2 57 [.ref x0, .ref x1] S (f_mv r) := by
  refine FM.of (own := RX1) (lv := [(0, .ref x0), (1, .ref x1)]) (OG_ok P hO) pl_X1 rfl (Nat.le_of_ble_eq_true rfl) rfl h (mono_X1_stand h).LE (fun X C hm => ?_)
  unfold C_X1_stand
  refine VF.bind (fun _ _ => ?_)
  refine v_aload_n C dX1_stand_0 0 rfl ?_
  refine v_aload_n C dX1_stand_1 1 rfl ?_
  refine g_putV C dX1_stand_2 cls_1 (Nat.le_of_ble_eq_true rfl) fl_X1_39 fs_X1_39 rfl rfl rfl (fun S1 hS1 => ?_)
  refine v_aload_n C dX1_stand_5 0 rfl ?_
  refine g_new C dX1_stand_6 cls_3 q195 q196 q107 dfok_3 (fun r2 hr2 => ?_)
  refine v_dup C dX1_stand_9 rfl ?_
  refine v_aload_n C dX1_stand_10 1 rfl ?_
  refine v_callI_mv C (As := [.ref x1]) (st := [.ref (r2.1), .ref x0]) lk_X1_45 dX1_stand_11 rfl (Nat.le_of_ble_eq_true rfl) (Nat.le_of_ble_eq_true rfl) (Nat.le_of_ble_eq_true rfl) (fun _ z => met_X3_init hO F r2.2 (r2.1) x1 z) (fun r3 hr3 => ?_)
  refine g_putV C dX1_stand_14 cls_1 (Nat.le_of_ble_eq_true rfl) fl_X1_48 fs_X1_48 rfl rfl rfl (fun S4 hS4 => ?_)
  exact v_vreturn C hm dX1_stand_17 rfl
theorem mono_X1_become {F : Nat} {S : St} {x0 : Nat} {x1 : Nat} {r : St} (h : C_X1_become F S x0 x1 = some r) : leG S r := by
  have q : MF mf_s (C_X1_become F S x0 x1) S := by
    unfold C_X1_become
    refine mf_bind (fun _ _ => ?_)
    refine mf_callv (fun _ z => mono_X1_save z) (fun r1 hr1 => ?_)
    refine mf_callv (fun _ z => mono_X1_stand z) (fun r2 hr2 => ?_)
    exact mf_ret leG.rf
  exact q r h
theorem met_X1_become {P : GP} {l : Launch} (hO : okG P) (F : Nat) (S : St) (x0 : Nat) (x1 : Nat) {r : St} (h : C_X1_become F S x0 x1 = some r) : FM l (OG P) yX1_become (ws_ yX1_become cX1_become 2 none) 6 148 [.ref x0, .ref x1] S (f_mv r) := by
  refine FM.of (own := RX1) (lv := [(0, .ref x0), (1, .ref x1)]) (OG_ok P hO) pl_X1 rfl (Nat.le_of_ble_eq_true rfl) rfl h (mono_X1_become h).LE (fun X C hm => ?_)
  unfold C_X1_become
  refine VF.bind (fun _ _ => ?_)
  refine v_aload_n C dX1_become_0 0 rfl ?_
  refine g_callV_mv C (As := []) (st := []) lk_X1_109 dX1_become_1 rfl (Nat.le_of_ble_eq_true rfl) (Nat.le_of_ble_eq_true rfl) (Nat.le_of_ble_eq_true rfl) cls_1.1 rfl (fun _ z => rc_X1_save z) (fun _ z => met_X1_save hO F S x0 z) (fun r1 hr1 => ?_)
  refine v_aload_n C dX1_become_4 0 rfl ?_
  refine v_aload_n C dX1_become_5 1 rfl ?_
  refine g_callV_mv C (As := [.ref x1]) (st := []) lk_X1_112 dX1_become_6 rfl (Nat.le_of_ble_eq_true rfl) (Nat.le_of_ble_eq_true rfl) (Nat.le_of_ble_eq_true rfl) cls_1.1 rfl (fun _ z => rc_X1_stand z) (fun _ z => met_X1_stand hO F r1 x0 x1 z) (fun r2 hr2 => ?_)
  exact v_vreturn C hm dX1_become_9 rfl
theorem met_X1_checkThat {P : GP} {l : Launch} (hO : okG P) (S : St) (x0 : Int32) {r : Unit} (h : C_X1_checkThat x0 = some r) : FM l (OG P) yX1_checkThat (ws_ yX1_checkThat cX1_checkThat 1 none) 0 0 [.int x0] S ((f_rv S) r) := by
  refine FM.of (own := RX1) (lv := [(0, .int x0)]) (OG_ok P hO) pl_X1 rfl (Nat.le_of_ble_eq_true rfl) rfl h LE.rf (fun X C hm => ?_)
  unfold C_X1_checkThat
  refine v_iload_n C dX1_checkThat_0 0 rfl ?_
  refine v_if_ne C (tgt := 12) dX1_checkThat_1 rfl (fun _ => ?_) (fun _ => ?_)
  · exact VF.none
  · exact v_vreturn C hm dX1_checkThat_12 rfl
theorem mono_X1_reset {F : Nat} {S : St} {x0 : Nat} {x1 : Int32} {r : Int32 × St} (h : C_X1_reset F S x0 x1 = some r) : leG S r.2 := by
  have q : MF mf_p (C_X1_reset F S x0 x1) S := by
    unfold C_X1_reset
    refine mf_bind (fun _ _ => ?_)
    refine mf_bind (fun r1 hr1 => ?_)
    refine mf_bind (fun r2 hr2 => ?_)
    refine mf_bind (fun y3 hy3 => ?_)
    refine mf_bind (fun r4 hr4 => ?_)
    refine mf_new (fun r5 hr5 => ?_)
    refine mf_callv (fun _ z => mono_X2_init z) (fun r6 hr6 => ?_)
    refine mf_callv (fun _ z => mono_X1_become z) (fun r7 hr7 => ?_)
    exact mf_ret leG.rf
  exact q r h
theorem met_X1_reset {P : GP} {l : Launch} (hO : okG P) (F : Nat) (S : St) (x0 : Nat) (x1 : Int32) {r : Int32 × St} (h : C_X1_reset F S x0 x1 = some r) : FM l (OG P) yX1_reset (ws_ yX1_reset cX1_reset 3 (some .int)) 7 169 [.ref x0, .int x1] S (f_mi r) := by
  refine FM.of (own := RX1) (lv := [(0, .ref x0), (1, .int x1)]) (OG_ok P hO) pl_X1 rfl (Nat.le_of_ble_eq_true rfl) rfl h (mono_X1_reset h).LE (fun X C hm => ?_)
  unfold C_X1_reset
  refine VF.bind (fun _ _ => ?_)
  refine v_iload_n C dX1_reset_0 1 rfl ?_
  refine v_iconst C dX1_reset_1 ci_1 ?_
  refine v_bipush C dX1_reset_2 cb_8 ?_
  refine v_callS_ri C (As := [.int x1, .int 1, .int 8]) (st := []) lk_X1_87 dX1_reset_4 rfl (Nat.le_of_ble_eq_true rfl) (Nat.le_of_ble_eq_true rfl) (Nat.le_of_ble_eq_true rfl) (fun _ z => met_X1_isIn hO S x1 1 8 z) (fun r1 hr1 => ?_)
  refine v_callS_rv C (As := [.int r1]) (st := []) lk_X1_115 dX1_reset_7 rfl (Nat.le_of_ble_eq_true rfl) (Nat.le_of_ble_eq_true rfl) (Nat.le_of_ble_eq_true rfl) (fun _ z => met_X1_checkThat hO S r1 z) (fun r2 hr2 => ?_)
  refine v_aload_n C dX1_reset_10 0 rfl ?_
  refine g_getA C dX1_reset_11 cls_1 (Nat.le_of_ble_eq_true rfl) fl_X1_39 fs_X1_39 (fun y3 hy3 => ?_)
  refine g_callV_ri C (As := []) (st := []) lk_X1_96 dX1_reset_14 rfl (Nat.le_of_ble_eq_true rfl) (Nat.le_of_ble_eq_true rfl) (Nat.le_of_ble_eq_true rfl) cls_2.1 rfl (fun _ z => rc_X2_size z) (fun _ z => met_X2_size hO S y3 z) (fun r4 hr4 => ?_)
  refine v_istore_n C (lv' := [(2, .int r4), (0, .ref x0), (1, .int x1)]) dX1_reset_17 (Nat.le_of_ble_eq_true rfl) rfl ?_
  refine v_aload_n C dX1_reset_18 1 rfl ?_
  refine g_new C dX1_reset_19 cls_2 q159 q160 q106 dfok_2 (fun r5 hr5 => ?_)
  refine v_dup C dX1_reset_22 rfl ?_
  refine v_iload_n C dX1_reset_23 2 rfl ?_
  refine v_callI_mv C (As := [.int x1]) (st := [.ref (r5.1), .ref x0]) lk_X1_36 dX1_reset_24 rfl (Nat.le_of_ble_eq_true rfl) (Nat.le_of_ble_eq_true rfl) (Nat.le_of_ble_eq_true rfl) (fun _ z => met_X2_init hO F r5.2 (r5.1) x1 z) (fun r6 hr6 => ?_)
  refine g_callV_mv C (As := [.ref (r5.1)]) (st := []) lk_X1_118 dX1_reset_27 rfl (Nat.le_of_ble_eq_true rfl) (Nat.le_of_ble_eq_true rfl) (Nat.le_of_ble_eq_true rfl) cls_1.1 rfl (fun _ z => rc_X1_become z) (fun _ z => met_X1_become hO F r6 x0 (r5.1) z) (fun r7 hr7 => ?_)
  refine v_iload_n C dX1_reset_30 0 rfl ?_
  exact v_ireturn C hm dX1_reset_31 rfl
theorem met_X1_checkIndex {P : GP} {l : Launch} (hO : okG P) (S : St) (x0 : Int32) {r : Unit} (h : C_X1_checkIndex x0 = some r) : FM l (OG P) yX1_checkIndex (ws_ yX1_checkIndex cX1_checkIndex 1 none) 0 0 [.int x0] S ((f_rv S) r) := by
  refine FM.of (own := RX1) (lv := [(0, .int x0)]) (OG_ok P hO) pl_X1 rfl (Nat.le_of_ble_eq_true rfl) rfl h LE.rf (fun X C hm => ?_)
  unfold C_X1_checkIndex
  refine v_iload_n C dX1_checkIndex_0 0 rfl ?_
  refine v_if_ne C (tgt := 12) dX1_checkIndex_1 rfl (fun _ => ?_) (fun _ => ?_)
  · exact VF.none
  · exact v_vreturn C hm dX1_checkIndex_12 rfl
theorem met_X2_isNode {P : GP} {l : Launch} (hO : okG P) (S : St) (x0 : Nat) (x1 : Int32) {r : Int32} (h : C_X2_isNode S x0 x1 = some r) : FM l (OG P) yX2_isNode (ws_ yX2_isNode cX2_isNode 2 (some .boolean)) 1 22 [.ref x0, .int x1] S ((f_ri S) r) := by
  refine FM.of (own := RX2) (lv := [(0, .ref x0), (1, .int x1)]) (OG_ok P hO) pl_X2 rfl (Nat.le_of_ble_eq_true rfl) rfl h LE.rf (fun X C hm => ?_)
  unfold C_X2_isNode
  refine VF.bind (fun _ _ => ?_)
  refine v_iload_n C dX2_isNode_0 1 rfl ?_
  refine v_iconst C dX2_isNode_1 ci_0 ?_
  refine v_aload_n C dX2_isNode_2 0 rfl ?_
  refine g_callV_ri C (As := []) (st := [.int 0, .int x1]) lk_X2_33 dX2_isNode_3 rfl (Nat.le_of_ble_eq_true rfl) (Nat.le_of_ble_eq_true rfl) (Nat.le_of_ble_eq_true rfl) cls_2.1 rfl (fun _ z => rc_X2_size z) (fun _ z => met_X2_size hO S x0 z) (fun r1 hr1 => ?_)
  refine v_iconst C dX2_isNode_6 ci_1 ?_
  refine v_isub C dX2_isNode_7 ?_
  refine g_callSN_ri C (As := [.int x1, .int 0, .int (r1 - 1)]) (st := []) lk_X2_37 dX2_isNode_8 rfl (Nat.le_of_ble_eq_true rfl) (Nat.le_of_ble_eq_true rfl) (Nat.le_of_ble_eq_true rfl) (fun _ z => met_X1_isIn hO S x1 0 (r1 - 1) z) (fun r2 hr2 => ?_)
  refine v_zz (fun b3 hb3 => ?_)
  exact v_zreturn C hm dX2_isNode_11 hb3 rfl
theorem met_X1_checkNode {P : GP} {l : Launch} (hO : okG P) (S : St) (x0 : Nat) (x1 : Int32) {r : Unit} (h : C_X1_checkNode S x0 x1 = some r) : FM l (OG P) yX1_checkNode (ws_ yX1_checkNode cX1_checkNode 2 none) 2 43 [.ref x0, .int x1] S ((f_rv S) r) := by
  refine FM.of (own := RX1) (lv := [(0, .ref x0), (1, .int x1)]) (OG_ok P hO) pl_X1 rfl (Nat.le_of_ble_eq_true rfl) rfl h LE.rf (fun X C hm => ?_)
  unfold C_X1_checkNode
  refine VF.bind (fun _ _ => ?_)
  refine v_aload_n C dX1_checkNode_0 0 rfl ?_
  refine g_getA C dX1_checkNode_1 cls_1 (Nat.le_of_ble_eq_true rfl) fl_X1_39 fs_X1_39 (fun y1 hy1 => ?_)
  refine v_iload_n C dX1_checkNode_4 1 rfl ?_
  refine g_callV_ri C (As := [.int x1]) (st := []) lk_X1_75 dX1_checkNode_5 rfl (Nat.le_of_ble_eq_true rfl) (Nat.le_of_ble_eq_true rfl) (Nat.le_of_ble_eq_true rfl) cls_2.1 rfl (fun _ z => rc_X2_isNode z) (fun _ z => met_X2_isNode hO S y1 x1 z) (fun r2 hr2 => ?_)
  refine v_callS_rv C (As := [.int r2]) (st := []) lk_X1_79 dX1_checkNode_8 rfl (Nat.le_of_ble_eq_true rfl) (Nat.le_of_ble_eq_true rfl) (Nat.le_of_ble_eq_true rfl) (fun _ z => met_X1_checkIndex hO S r2 z) (fun r3 hr3 => ?_)
  exact v_vreturn C hm dX1_checkNode_11 rfl
theorem met_X1_checkState {P : GP} {l : Launch} (hO : okG P) (S : St) (x0 : Int32) {r : Unit} (h : C_X1_checkState x0 = some r) : FM l (OG P) yX1_checkState (ws_ yX1_checkState cX1_checkState 1 none) 0 0 [.int x0] S ((f_rv S) r) := by
  refine FM.of (own := RX1) (lv := [(0, .int x0)]) (OG_ok P hO) pl_X1 rfl (Nat.le_of_ble_eq_true rfl) rfl h LE.rf (fun X C hm => ?_)
  unfold C_X1_checkState
  refine v_iload_n C dX1_checkState_0 0 rfl ?_
  refine v_if_ne C (tgt := 12) dX1_checkState_1 rfl (fun _ => ?_) (fun _ => ?_)
  · exact VF.none
  · exact v_vreturn C hm dX1_checkState_12 rfl
theorem mono_X5_init {S : St} {x0 : Nat} {x1 : Int32} {x2 : Int32} {x3 : Int32} {r : St} (h : C_X5_init S x0 x1 x2 x3 = some r) : leG S r := by
  have q : MF mf_s (C_X5_init S x0 x1 x2 x3) S := by
    unfold C_X5_init
    refine mf_put (fun S1 hS1 => ?_)
    refine mf_put (fun S2 hS2 => ?_)
    refine mf_put (fun S3 hS3 => ?_)
    exact mf_ret leG.rf
  exact q r h
theorem met_X5_init {P : GP} {l : Launch} (hO : okG P) (S : St) (x0 : Nat) (x1 : Int32) (x2 : Int32) (x3 : Int32) {r : St} (h : C_X5_init S x0 x1 x2 x3 = some r) : FM l (OG P) yX5_init (ws_ yX5_init cX5_init 4 none) 1 34 [.ref x0, .int x1, .int x2, .int x3] S (f_mv r) := by
  refine FM.ofI (own := RX5) (lv := [(0, .ref x0), (1, .int x1), (2, .int x2), (3, .int x3)]) hO pl_X5 rfl rfl (Nat.le_of_ble_eq_true rfl) rfl h (mono_X5_init h).LE (fun X C hm hin2 => ?_)
  unfold C_X5_init
  refine v_aload_n C dX5_init_0 0 rfl ?_
  refine g_objInit C dX5_init_1 lkO_X5_1 (Nat.le_of_ble_eq_true rfl) (Nat.le_of_ble_eq_true rfl) ?_
  refine v_aload_n C dX5_init_4 0 rfl ?_
  refine v_iload_n C dX5_init_5 1 rfl ?_
  refine g_putFV C hin2 dX5_init_6 cls_4 (Nat.le_of_ble_eq_true rfl) q1336 rfl rfl rfl rfl (fun S1 hS1 => ?_)
  refine v_aload_n C dX5_init_9 0 rfl ?_
  refine v_iload_n C dX5_init_10 2 rfl ?_
  refine g_putFV C hin2 dX5_init_11 cls_4 (Nat.le_of_ble_eq_true rfl) q1340 rfl rfl rfl rfl (fun S2 hS2 => ?_)
  refine v_aload_n C dX5_init_14 0 rfl ?_
  refine v_iload_n C dX5_init_15 3 rfl ?_
  refine g_putFV C hin2 dX5_init_16 cls_4 (Nat.le_of_ble_eq_true rfl) q1344 rfl rfl rfl rfl (fun S3 hS3 => ?_)
  exact v_vreturn C hm dX5_init_19 rfl
theorem w_X5_joins_16 {P : GP} {X : Ctx} {l : Launch} {S : St} (hO : okG P) (C : CX (OG P) X l cX5_joins 3 RX5 (some .boolean)) (hm : X.2.2.2.2.2.2.2.2.2 = none) {x0 : Nat} {x1 : Int32} {x2 : Int32}   : VF (OG P) X 3 0 0 S (f_ri S) (C_X5_joins_16 S x0 x1 x2) S 16 [(0, .ref x0), (1, .int x1), (2, .int x2)] [] := by
  unfold C_X5_joins_16
  refine v_aload_n C dX5_joins_16 0 rfl ?_
  refine g_getI C dX5_joins_17 cls_4 (Nat.le_of_ble_eq_true rfl) fl_X5_7 fs_X5_7 (fun y3 hy3 => ?_)
  refine v_iload_n C dX5_joins_20 2 rfl ?_
  refine v_icmp_ne C (tgt := 36) dX5_joins_21 rfl (fun _ => ?_) (fun _ => ?_)
  · refine v_aload_n C dX5_joins_24 0 rfl ?_
    refine g_getI C dX5_joins_25 cls_4 (Nat.le_of_ble_eq_true rfl) fl_X5_13 fs_X5_13 (fun y4 hy4 => ?_)
    refine v_iload_n C dX5_joins_28 1 rfl ?_
    refine v_icmp_ne C (tgt := 36) dX5_joins_29 rfl (fun _ => ?_) (fun _ => ?_)
    · refine v_iconst C dX5_joins_32 ci_1 ?_
      refine v_goto C (tgt := 37) dX5_joins_33 rfl ?_
      exact v_zreturn C hm dX5_joins_37 (Or.inr rfl) rfl
    · refine v_iconst C dX5_joins_36 ci_0 ?_
      exact v_zreturn C hm dX5_joins_37 (Or.inl rfl) rfl
  · refine v_iconst C dX5_joins_36 ci_0 ?_
    exact v_zreturn C hm dX5_joins_37 (Or.inl rfl) rfl
theorem met_X5_joins {P : GP} {l : Launch} (hO : okG P) (S : St) (x0 : Nat) (x1 : Int32) (x2 : Int32) {r : Int32} (h : C_X5_joins S x0 x1 x2 = some r) : FM l (OG P) yX5_joins (ws_ yX5_joins cX5_joins 3 (some .boolean)) 0 0 [.ref x0, .int x1, .int x2] S ((f_ri S) r) := by
  refine FM.of (own := RX5) (lv := [(0, .ref x0), (1, .int x1), (2, .int x2)]) (OG_ok P hO) pl_X5 rfl (Nat.le_of_ble_eq_true rfl) rfl h LE.rf (fun X C hm => ?_)
  unfold C_X5_joins
  refine VF.bind (fun _ _ => ?_)
  refine v_aload_n C dX5_joins_0 0 rfl ?_
  refine g_getI C dX5_joins_1 cls_4 (Nat.le_of_ble_eq_true rfl) fl_X5_7 fs_X5_7 (fun y1 hy1 => ?_)
  refine v_iload_n C dX5_joins_4 1 rfl ?_
  refine v_icmp_ne C (tgt := 16) dX5_joins_5 rfl (fun _ => ?_) (fun _ => ?_)
  · refine v_aload_n C dX5_joins_8 0 rfl ?_
    refine g_getI C dX5_joins_9 cls_4 (Nat.le_of_ble_eq_true rfl) fl_X5_13 fs_X5_13 (fun y2 hy2 => ?_)
    refine v_iload_n C dX5_joins_12 2 rfl ?_
    refine v_icmp_eq C (tgt := 32) dX5_joins_13 rfl (fun _ => ?_) (fun _ => ?_)
    · refine v_iconst C dX5_joins_32 ci_1 ?_
      refine v_goto C (tgt := 37) dX5_joins_33 rfl ?_
      exact v_zreturn C hm dX5_joins_37 (Or.inr rfl) rfl
    · exact v_sub [0, 1, 2] rfl (w_X5_joins_16 hO C hm)
  · exact v_sub [0, 1, 2] rfl (w_X5_joins_16 hO C hm)
theorem w_X2_isJoined_5 {P : GP} {X : Ctx} {l : Launch} {F : Nat} {S : St} (hO : okG P) (C : CX (OG P) X l cX2_isJoined 5 RX2 (some .boolean)) (hm : X.2.2.2.2.2.2.2.2.2 = none) {x0 : Nat} {x1 : Int32} {x2 : Int32}  : ∀ (n : Nat) (x3 : Int32) (x4 : Int32), VF (OG P) X 5 1 22 S (f_ri S) (C_X2_isJoined_5 F S x0 x1 x2 n x3 x4) S 5 [(0, .ref x0), (1, .int x1), (2, .int x2), (3, .int x3), (4, .int x4)] [] := by
  intro n
  induction n with
  | zero => intro x3 x4; exact VF.none
  | succ n ih =>
    intro x3 x4
    unfold C_X2_isJoined_5
    refine v_iload C dX2_isJoined_5 4 rfl ?_
    refine v_aload_n C dX2_isJoined_7 0 rfl ?_
    refine g_getA C dX2_isJoined_8 cls_2 (Nat.le_of_ble_eq_true rfl) fl_X2_25 fs_X2_25 (fun y1 hy1 => ?_)
    refine g_alen (kd := 3) (fun _ => rfl) C dX2_isJoined_11 (fun y2 hy2 => ?_)
    refine v_icmp_ge C (tgt := 36) dX2_isJoined_12 rfl (fun _ => ?_) (fun _ => ?_)
    · refine v_iload_n C dX2_isJoined_36 3 rfl ?_
      refine v_zz (fun b3 hb3 => ?_)
      exact v_zreturn C hm dX2_isJoined_37 hb3 rfl
    · refine v_iload_n C dX2_isJoined_15 3 rfl ?_
      refine v_aload_n C dX2_isJoined_16 0 rfl ?_
      refine g_getA C dX2_isJoined_17 cls_2 (Nat.le_of_ble_eq_true rfl) fl_X2_25 fs_X2_25 (fun y4 hy4 => ?_)
      refine v_iload C dX2_isJoined_20 4 rfl ?_
      refine g_aalA3 C dX2_isJoined_22 (fun y5 hy5 => ?_)
      refine v_iload_n C dX2_isJoined_23 1 rfl ?_
      refine v_iload_n C dX2_isJoined_24 2 rfl ?_
      refine g_callV_ri C (As := [.int x1, .int x2]) (st := [.int x3]) lk_X2_96 dX2_isJoined_25 rfl (Nat.le_of_ble_eq_true rfl) (Nat.le_of_ble_eq_true rfl) (Nat.le_of_ble_eq_true rfl) cls_4.1 rfl (fun _ z => rc_X5_joins z) (fun _ z => met_X5_joins hO S y5 x1 x2 z) (fun r6 hr6 => ?_)
      refine v_ior C dX2_isJoined_28 ?_
      refine v_leti (fun y7 hy7 => ?_)
      refine v_istore_n C (lv' := [(3, .int y7), (0, .ref x0), (1, .int x1), (2, .int x2), (4, .int x4)]) dX2_isJoined_29 (Nat.le_of_ble_eq_true rfl) rfl ?_
      refine v_iincN C (lv' := fun y8 => [(4, .int y8), (3, .int y7), (0, .ref x0), (1, .int x1), (2, .int x2)]) dX2_isJoined_30 4 rfl ci_1 (Nat.le_of_ble_eq_true rfl) (fun _ => rfl) (fun y8 hy8 => ?_)
      refine v_goto C (tgt := 5) dX2_isJoined_33 rfl ?_
      exact v_sub [2, 3, 4, 1, 0] rfl (ih y7 y8)
theorem met_X2_isJoined {P : GP} {l : Launch} (hO : okG P) (F : Nat) (S : St) (x0 : Nat) (x1 : Int32) (x2 : Int32) {r : Int32} (h : C_X2_isJoined F S x0 x1 x2 = some r) : FM l (OG P) yX2_isJoined (ws_ yX2_isJoined cX2_isJoined 5 (some .boolean)) 1 22 [.ref x0, .int x1, .int x2] S ((f_ri S) r) := by
  refine FM.of (own := RX2) (lv := [(0, .ref x0), (1, .int x1), (2, .int x2)]) (OG_ok P hO) pl_X2 rfl (Nat.le_of_ble_eq_true rfl) rfl h LE.rf (fun X C hm => ?_)
  unfold C_X2_isJoined
  refine VF.bind (fun _ _ => ?_)
  refine v_iconst C dX2_isJoined_0 ci_0 ?_
  refine v_istore_n C (lv' := [(3, .int 0), (0, .ref x0), (1, .int x1), (2, .int x2)]) dX2_isJoined_1 (Nat.le_of_ble_eq_true rfl) rfl ?_
  refine v_iconst C dX2_isJoined_2 ci_0 ?_
  refine v_istore C (lv' := [(4, .int 0), (3, .int 0), (0, .ref x0), (1, .int x1), (2, .int x2)]) dX2_isJoined_3 (Nat.le_of_ble_eq_true rfl) rfl ?_
  exact v_sub [2, 3, 4, 1, 0] rfl (w_X2_isJoined_5 hO C hm F 0 0)
theorem met_X2_hasRoomFor {P : GP} {l : Launch} (hO : okG P) (F : Nat) (S : St) (x0 : Nat) (x1 : Int32) (x2 : Int32) {r : Int32} (h : C_X2_hasRoomFor F S x0 x1 x2 = some r) : FM l (OG P) yX2_hasRoomFor (ws_ yX2_hasRoomFor cX2_hasRoomFor 3 (some .boolean)) 2 46 [.ref x0, .int x1, .int x2] S ((f_ri S) r) := by
  refine FM.of (own := RX2) (lv := [(0, .ref x0), (1, .int x1), (2, .int x2)]) (OG_ok P hO) pl_X2 rfl (Nat.le_of_ble_eq_true rfl) rfl h LE.rf (fun X C hm => ?_)
  unfold C_X2_hasRoomFor
  refine VF.bind (fun _ _ => ?_)
  refine v_aload_n C dX2_hasRoomFor_0 0 rfl ?_
  refine v_iload_n C dX2_hasRoomFor_1 1 rfl ?_
  refine v_iload_n C dX2_hasRoomFor_2 2 rfl ?_
  refine g_callV_ri C (As := [.int x1, .int x2]) (st := []) lk_X2_106 dX2_hasRoomFor_3 rfl (Nat.le_of_ble_eq_true rfl) (Nat.le_of_ble_eq_true rfl) (Nat.le_of_ble_eq_true rfl) cls_2.1 rfl (fun _ z => rc_X2_isJoined z) (fun _ z => met_X2_isJoined hO F S x0 x1 x2 z) (fun r1 hr1 => ?_)
  refine v_if_ne C (tgt := 23) dX2_hasRoomFor_6 rfl (fun _ => ?_) (fun _ => ?_)
  · refine v_aload_n C dX2_hasRoomFor_9 0 rfl ?_
    refine g_getA C dX2_hasRoomFor_10 cls_2 (Nat.le_of_ble_eq_true rfl) fl_X2_25 fs_X2_25 (fun y2 hy2 => ?_)
    refine g_alen (kd := 3) (fun _ => rfl) C dX2_hasRoomFor_13 (fun y3 hy3 => ?_)
    refine v_bipush C dX2_hasRoomFor_14 cb_12 ?_
    refine v_icmp_ge C (tgt := 23) dX2_hasRoomFor_16 rfl (fun _ => ?_) (fun _ => ?_)
    · refine v_iconst C dX2_hasRoomFor_23 ci_0 ?_
      exact v_zreturn C hm dX2_hasRoomFor_24 (Or.inl rfl) rfl
    · refine v_iconst C dX2_hasRoomFor_19 ci_1 ?_
      refine v_goto C (tgt := 24) dX2_hasRoomFor_20 rfl ?_
      exact v_zreturn C hm dX2_hasRoomFor_24 (Or.inr rfl) rfl
  · refine v_iconst C dX2_hasRoomFor_23 ci_0 ?_
    exact v_zreturn C hm dX2_hasRoomFor_24 (Or.inl rfl) rfl
theorem met_X2_mayConnect {P : GP} {l : Launch} (hO : okG P) (S : St) (x0 : Nat) (x1 : Int32) (x2 : Int32) (x3 : Int32) {r : Int32} (h : C_X2_mayConnect S x0 x1 x2 x3 = some r) : FM l (OG P) yX2_mayConnect (ws_ yX2_mayConnect cX2_mayConnect 4 (some .boolean)) 1 22 [.ref x0, .int x1, .int x2, .int x3] S ((f_ri S) r) := by
  refine FM.of (own := RX2) (lv := [(0, .ref x0), (1, .int x1), (2, .int x2), (3, .int x3)]) (OG_ok P hO) pl_X2 rfl (Nat.le_of_ble_eq_true rfl) rfl h LE.rf (fun X C hm => ?_)
  unfold C_X2_mayConnect
  refine VF.bind (fun _ _ => ?_)
  refine v_iload_n C dX2_mayConnect_0 1 rfl ?_
  refine v_iload_n C dX2_mayConnect_1 2 rfl ?_
  refine v_icmp_eq C (tgt := 19) dX2_mayConnect_2 rfl (fun _ => ?_) (fun _ => ?_)
  · refine v_iconst C dX2_mayConnect_19 ci_0 ?_
    exact v_zreturn C hm dX2_mayConnect_20 (Or.inl rfl) rfl
  · refine v_iload_n C dX2_mayConnect_5 3 rfl ?_
    refine v_iconst C dX2_mayConnect_6 ci_1 ?_
    refine v_bipush C dX2_mayConnect_7 cb_50 ?_
    refine g_callSN_ri C (As := [.int x3, .int 1, .int 50]) (st := []) lk_X2_37 dX2_mayConnect_9 rfl (Nat.le_of_ble_eq_true rfl) (Nat.le_of_ble_eq_true rfl) (Nat.le_of_ble_eq_true rfl) (fun _ z => met_X1_isIn hO S x3 1 50 z) (fun r1 hr1 => ?_)
    refine v_if_eq C (tgt := 19) dX2_mayConnect_12 rfl (fun _ => ?_) (fun _ => ?_)
    · refine v_iconst C dX2_mayConnect_19 ci_0 ?_
      exact v_zreturn C hm dX2_mayConnect_20 (Or.inl rfl) rfl
    · refine v_iconst C dX2_mayConnect_15 ci_1 ?_
      refine v_goto C (tgt := 20) dX2_mayConnect_16 rfl ?_
      exact v_zreturn C hm dX2_mayConnect_20 (Or.inr rfl) rfl
theorem mono_X2_withEdge {S : St} {x0 : Nat} {x1 : Nat} {r : Nat × St} (h : C_X2_withEdge S x0 x1 = some r) : leG S r.2 := by
  have q : MF mf_p (C_X2_withEdge S x0 x1) S := by
    unfold C_X2_withEdge
    refine mf_bind (fun _ _ => ?_)
    refine mf_bind (fun y1 hy1 => ?_)
    refine mf_bind (fun y2 hy2 => ?_)
    refine mf_nQ_ (fun r3 hr3 => ?_)
    refine mf_bind (fun y4 hy4 => ?_)
    refine mf_bind (fun y5 hy5 => ?_)
    refine mf_bind (fun y6 hy6 => ?_)
    refine mf_cQ (fun S7 hS7 => ?_)
    refine mf_bind (fun y8 hy8 => ?_)
    refine mf_bind (fun y9 hy9 => ?_)
    refine mf_tA (fun S10 hS10 => ?_)
    refine mf_new (fun r11 hr11 => ?_)
    refine mf_bind (fun y12 hy12 => ?_)
    refine mf_bind (fun y13 hy13 => ?_)
    refine mf_bind (fun y14 hy14 => ?_)
    refine mf_callv (fun _ z => mono_X2_init_2 z) (fun r15 hr15 => ?_)
    exact mf_ret leG.rf
  exact q r h
theorem met_X2_withEdge {P : GP} {l : Launch} (hO : okG P) (S : St) (x0 : Nat) (x1 : Nat) {r : Nat × St} (h : C_X2_withEdge S x0 x1 = some r) : FM l (OG P) yX2_withEdge (ws_ yX2_withEdge cX2_withEdge 3 (some (.object "NetworkCenters$Network"))) 2 58 [.ref x0, .ref x1] S (f_ma r) := by
  refine FM.of (own := RX2) (lv := [(0, .ref x0), (1, .ref x1)]) (OG_ok P hO) pl_X2 rfl (Nat.le_of_ble_eq_true rfl) rfl h (mono_X2_withEdge h).LE (fun X C hm => ?_)
  unfold C_X2_withEdge
  refine VF.bind (fun _ _ => ?_)
  refine v_aload_n C dX2_withEdge_0 0 rfl ?_
  refine g_getA C dX2_withEdge_1 cls_2 (Nat.le_of_ble_eq_true rfl) fl_X2_25 fs_X2_25 (fun y1 hy1 => ?_)
  refine g_alen (kd := 3) (fun _ => rfl) C dX2_withEdge_4 (fun y2 hy2 => ?_)
  refine v_iconst C dX2_withEdge_5 ci_1 ?_
  refine v_iadd C dX2_withEdge_6 ?_
  refine g_naQ3 C dX2_withEdge_7 q164 (fun r3 hr3 => ?_)
  refine v_astore_n C (lv' := [(2, .ref (r3.1)), (0, .ref x0), (1, .ref x1)]) dX2_withEdge_10 (Nat.le_of_ble_eq_true rfl) rfl ?_
  refine v_aload_n C dX2_withEdge_11 1 rfl ?_
  refine g_getA C dX2_withEdge_12 cls_2 (Nat.le_of_ble_eq_true rfl) fl_X2_25 fs_X2_25 (fun y4 hy4 => ?_)
  refine v_iconst C dX2_withEdge_15 ci_0 ?_
  refine v_aload_n C dX2_withEdge_16 0 rfl ?_
  refine v_iconst C dX2_withEdge_17 ci_0 ?_
  refine v_aload_n C dX2_withEdge_18 1 rfl ?_
  refine g_getA C dX2_withEdge_19 cls_2 (Nat.le_of_ble_eq_true rfl) fl_X2_25 fs_X2_25 (fun y5 hy5 => ?_)
  refine g_alen (kd := 3) (fun _ => rfl) C dX2_withEdge_22 (fun y6 hy6 => ?_)
  refine g_cpQ3 C dX2_withEdge_23 lkC_X2_50 (Nat.le_of_ble_eq_true rfl) (Nat.le_of_ble_eq_true rfl) (fun S7 hS7 => ?_)
  refine v_aload_n C dX2_withEdge_26 0 rfl ?_
  refine v_aload_n C dX2_withEdge_27 1 rfl ?_
  refine g_getA C dX2_withEdge_28 cls_2 (Nat.le_of_ble_eq_true rfl) fl_X2_25 fs_X2_25 (fun y8 hy8 => ?_)
  refine g_alen (kd := 3) (fun _ => rfl) C dX2_withEdge_31 (fun y9 hy9 => ?_)
  refine v_aload_n C dX2_withEdge_32 2 rfl ?_
  refine g_aas C dX2_withEdge_33 (fun _ => rfl) rfl (Or.inl rfl) (fun S10 hS10 => ?_)
  refine g_new C dX2_withEdge_34 cls_2 q1360 q160 q106 dfok_2 (fun r11 hr11 => ?_)
  refine v_dup C dX2_withEdge_37 rfl ?_
  refine v_aload_n C dX2_withEdge_38 1 rfl ?_
  refine g_getA C dX2_withEdge_39 cls_2 (Nat.le_of_ble_eq_true rfl) fl_X2_13 fs_X2_13 (fun y12 hy12 => ?_)
  refine v_aload_n C dX2_withEdge_42 1 rfl ?_
  refine g_getA C dX2_withEdge_43 cls_2 (Nat.le_of_ble_eq_true rfl) fl_X2_22 fs_X2_22 (fun y13 hy13 => ?_)
  refine v_aload_n C dX2_withEdge_46 0 rfl ?_
  refine v_aload_n C dX2_withEdge_47 1 rfl ?_
  refine g_getA C dX2_withEdge_48 cls_2 (Nat.le_of_ble_eq_true rfl) fl_X2_29 fs_X2_29 (fun y14 hy14 => ?_)
  refine v_callI_mv C (As := [.ref y12, .ref y13, .ref (r3.1), .ref y14]) (st := [.ref (r11.1)]) lk_X2_7 dX2_withEdge_51 rfl (Nat.le_of_ble_eq_true rfl) (Nat.le_of_ble_eq_true rfl) (Nat.le_of_ble_eq_true rfl) (fun _ z => met_X2_init_2 hO r11.2 (r11.1) y12 y13 (r3.1) y14 z) (fun r15 hr15 => ?_)
  exact v_areturn C hm dX2_withEdge_54 (Or.inl ⟨_, rfl⟩) (Or.inr ⟨_, rfl⟩) rfl
theorem mono_X1_connect {F : Nat} {S : St} {x0 : Nat} {x1 : Int32} {x2 : Int32} {x3 : Int32} {r : Int32 × St} (h : C_X1_connect F S x0 x1 x2 x3 = some r) : leG S r.2 := by
  have q : MF mf_p (C_X1_connect F S x0 x1 x2 x3) S := by
    unfold C_X1_connect
    refine mf_bind (fun _ _ => ?_)
    refine mf_bind (fun r1 hr1 => ?_)
    refine mf_bind (fun r2 hr2 => ?_)
    refine mf_bind (fun y3 hy3 => ?_)
    refine mf_bind (fun r4 hr4 => ?_)
    refine mf_bind (fun r5 hr5 => ?_)
    refine mf_bind (fun y6 hy6 => ?_)
    refine mf_bind (fun r7 hr7 => ?_)
    refine mf_bind (fun r8 hr8 => ?_)
    refine mf_bind (fun y9 hy9 => ?_)
    refine mf_new (fun r10 hr10 => ?_)
    refine mf_callv (fun _ z => mono_X5_init z) (fun r11 hr11 => ?_)
    refine mf_call (fun _ z => mono_X2_withEdge z) (fun r12 hr12 => ?_)
    refine mf_callv (fun _ z => mono_X1_become z) (fun r13 hr13 => ?_)
    refine mf_bind (fun y14 hy14 => ?_)
    refine mf_bind (fun y15 hy15 => ?_)
    refine mf_bind (fun y16 hy16 => ?_)
    exact mf_ret leG.rf
  exact q r h
theorem met_X1_connect {P : GP} {l : Launch} (hO : okG P) (F : Nat) (S : St) (x0 : Nat) (x1 : Int32) (x2 : Int32) (x3 : Int32) {r : Int32 × St} (h : C_X1_connect F S x0 x1 x2 x3 = some r) : FM l (OG P) yX1_connect (ws_ yX1_connect cX1_connect 4 (some .int)) 7 169 [.ref x0, .int x1, .int x2, .int x3] S (f_mi r) := by
  refine FM.of (own := RX1) (lv := [(0, .ref x0), (1, .int x1), (2, .int x2), (3, .int x3)]) (OG_ok P hO) pl_X1 rfl (Nat.le_of_ble_eq_true rfl) rfl h (mono_X1_connect h).LE (fun X C hm => ?_)
  unfold C_X1_connect
  refine VF.bind (fun _ _ => ?_)
  refine v_aload_n C dX1_connect_0 0 rfl ?_
  refine v_iload_n C dX1_connect_1 1 rfl ?_
  refine g_callV_rv C (As := [.int x1]) (st := []) lk_X1_121 dX1_connect_2 rfl (Nat.le_of_ble_eq_true rfl) (Nat.le_of_ble_eq_true rfl) (Nat.le_of_ble_eq_true rfl) cls_1.1 rfl (fun _ z => rc_X1_checkNode z) (fun _ z => met_X1_checkNode hO S x0 x1 z) (fun r1 hr1 => ?_)
  refine v_aload_n C dX1_connect_5 0 rfl ?_
  refine v_iload_n C dX1_connect_6 2 rfl ?_
  refine g_callV_rv C (As := [.int x2]) (st := []) lk_X1_121 dX1_connect_7 rfl (Nat.le_of_ble_eq_true rfl) (Nat.le_of_ble_eq_true rfl) (Nat.le_of_ble_eq_true rfl) cls_1.1 rfl (fun _ z => rc_X1_checkNode z) (fun _ z => met_X1_checkNode hO S x0 x2 z) (fun r2 hr2 => ?_)
  refine v_aload_n C dX1_connect_10 0 rfl ?_
  refine g_getA C dX1_connect_11 cls_1 (Nat.le_of_ble_eq_true rfl) fl_X1_39 fs_X1_39 (fun y3 hy3 => ?_)
  refine v_iload_n C dX1_connect_14 1 rfl ?_
  refine v_iload_n C dX1_connect_15 2 rfl ?_
  refine v_iload_n C dX1_connect_16 3 rfl ?_
  refine g_callV_ri C (As := [.int x1, .int x2, .int x3]) (st := []) lk_X1_124 dX1_connect_17 rfl (Nat.le_of_ble_eq_true rfl) (Nat.le_of_ble_eq_true rfl) (Nat.le_of_ble_eq_true rfl) cls_2.1 rfl (fun _ z => rc_X2_mayConnect z) (fun _ z => met_X2_mayConnect hO S y3 x1 x2 x3 z) (fun r4 hr4 => ?_)
  refine v_callS_rv C (As := [.int r4]) (st := []) lk_X1_115 dX1_connect_20 rfl (Nat.le_of_ble_eq_true rfl) (Nat.le_of_ble_eq_true rfl) (Nat.le_of_ble_eq_true rfl) (fun _ z => met_X1_checkThat hO S r4 z) (fun r5 hr5 => ?_)
  refine v_aload_n C dX1_connect_23 0 rfl ?_
  refine g_getA C dX1_connect_24 cls_1 (Nat.le_of_ble_eq_true rfl) fl_X1_39 fs_X1_39 (fun y6 hy6 => ?_)
  refine v_iload_n C dX1_connect_27 1 rfl ?_
  refine v_iload_n C dX1_connect_28 2 rfl ?_
  refine g_callV_ri C (As := [.int x1, .int x2]) (st := []) lk_X1_127 dX1_connect_29 rfl (Nat.le_of_ble_eq_true rfl) (Nat.le_of_ble_eq_true rfl) (Nat.le_of_ble_eq_true rfl) cls_2.1 rfl (fun _ z => rc_X2_hasRoomFor z) (fun _ z => met_X2_hasRoomFor hO F S y6 x1 x2 z) (fun r7 hr7 => ?_)
  refine v_callS_rv C (As := [.int r7]) (st := []) lk_X1_131 dX1_connect_32 rfl (Nat.le_of_ble_eq_true rfl) (Nat.le_of_ble_eq_true rfl) (Nat.le_of_ble_eq_true rfl) (fun _ z => met_X1_checkState hO S r7 z) (fun r8 hr8 => ?_)
  refine v_aload_n C dX1_connect_35 0 rfl ?_
  refine v_aload_n C dX1_connect_36 0 rfl ?_
  refine g_getA C dX1_connect_37 cls_1 (Nat.le_of_ble_eq_true rfl) fl_X1_39 fs_X1_39 (fun y9 hy9 => ?_)
  refine g_new C dX1_connect_40 cls_4 q1330 q1331 q125 dfok_4 (fun r10 hr10 => ?_)
  refine v_dup C dX1_connect_43 rfl ?_
  refine v_iload_n C dX1_connect_44 1 rfl ?_
  refine v_iload_n C dX1_connect_45 2 rfl ?_
  refine v_iload_n C dX1_connect_46 3 rfl ?_
  refine v_callI_mv C (As := [.int x1, .int x2, .int x3]) (st := [.ref (r10.1), .ref y9, .ref x0]) lk_X1_134 dX1_connect_47 rfl (Nat.le_of_ble_eq_true rfl) (Nat.le_of_ble_eq_true rfl) (Nat.le_of_ble_eq_true rfl) (fun _ z => met_X5_init hO r10.2 (r10.1) x1 x2 x3 z) (fun r11 hr11 => ?_)
  refine g_callV_ma C (As := [.ref (r10.1)]) (st := [.ref x0]) lk_X1_137 dX1_connect_50 rfl (Nat.le_of_ble_eq_true rfl) (Nat.le_of_ble_eq_true rfl) (Nat.le_of_ble_eq_true rfl) cls_2.1 rfl (fun _ z => rc_X2_withEdge z) (fun _ z => met_X2_withEdge hO r11 y9 (r10.1) z) (fun r12 hr12 => ?_)
  refine g_callV_mv C (As := [.ref (r12.1)]) (st := []) lk_X1_118 dX1_connect_53 rfl (Nat.le_of_ble_eq_true rfl) (Nat.le_of_ble_eq_true rfl) (Nat.le_of_ble_eq_true rfl) cls_1.1 rfl (fun _ z => rc_X1_become z) (fun _ z => met_X1_become hO F r12.2 x0 (r12.1) z) (fun r13 hr13 => ?_)
  refine v_aload_n C dX1_connect_56 0 rfl ?_
  refine g_getA C dX1_connect_57 cls_1 (Nat.le_of_ble_eq_true rfl) fl_X1_39 fs_X1_39 (fun y14 hy14 => ?_)
  refine g_getA C dX1_connect_60 cls_2 (Nat.le_of_ble_eq_true rfl) fl_X1_83 fs_X1_83 (fun y15 hy15 => ?_)
  refine g_alen (kd := 3) (fun _ => rfl) C dX1_connect_63 (fun y16 hy16 => ?_)
  refine v_iconst C dX1_connect_64 ci_1 ?_
  refine v_isub C dX1_connect_65 ?_
  exact v_ireturn C hm dX1_connect_66 rfl
theorem met_X1_checkEdge {P : GP} {l : Launch} (hO : okG P) (S : St) (x0 : Nat) (x1 : Int32) {r : Unit} (h : C_X1_checkEdge S x0 x1 = some r) : FM l (OG P) yX1_checkEdge (ws_ yX1_checkEdge cX1_checkEdge 2 none) 1 22 [.ref x0, .int x1] S ((f_rv S) r) := by
  refine FM.of (own := RX1) (lv := [(0, .ref x0), (1, .int x1)]) (OG_ok P hO) pl_X1 rfl (Nat.le_of_ble_eq_true rfl) rfl h LE.rf (fun X C hm => ?_)
  unfold C_X1_checkEdge
  refine VF.bind (fun _ _ => ?_)
  refine v_iload_n C dX1_checkEdge_0 1 rfl ?_
  refine v_iconst C dX1_checkEdge_1 ci_0 ?_
  refine v_aload_n C dX1_checkEdge_2 0 rfl ?_
  refine g_getA C dX1_checkEdge_3 cls_1 (Nat.le_of_ble_eq_true rfl) fl_X1_39 fs_X1_39 (fun y1 hy1 => ?_)
  refine g_getA C dX1_checkEdge_6 cls_2 (Nat.le_of_ble_eq_true rfl) fl_X1_83 fs_X1_83 (fun y2 hy2 => ?_)
  refine g_alen (kd := 3) (fun _ => rfl) C dX1_checkEdge_9 (fun y3 hy3 => ?_)
  refine v_iconst C dX1_checkEdge_10 ci_1 ?_
  refine v_isub C dX1_checkEdge_11 ?_
  refine v_callS_ri C (As := [.int x1, .int 0, .int (y3 - 1)]) (st := []) lk_X1_87 dX1_checkEdge_12 rfl (Nat.le_of_ble_eq_true rfl) (Nat.le_of_ble_eq_true rfl) (Nat.le_of_ble_eq_true rfl) (fun _ z => met_X1_isIn hO S x1 0 (y3 - 1) z) (fun r4 hr4 => ?_)
  refine v_callS_rv C (As := [.int r4]) (st := []) lk_X1_79 dX1_checkEdge_15 rfl (Nat.le_of_ble_eq_true rfl) (Nat.le_of_ble_eq_true rfl) (Nat.le_of_ble_eq_true rfl) (fun _ z => met_X1_checkIndex hO S r4 z) (fun r5 hr5 => ?_)
  exact v_vreturn C hm dX1_checkEdge_18 rfl
theorem mono_X6_init {S : St} {x0 : Nat} {x1 : Int32} {x2 : Int32} {x3 : Int32} {r : St} (h : C_X6_init S x0 x1 x2 x3 = some r) : leG S r := by
  have q : MF mf_s (C_X6_init S x0 x1 x2 x3) S := by
    unfold C_X6_init
    refine mf_put (fun S1 hS1 => ?_)
    refine mf_put (fun S2 hS2 => ?_)
    refine mf_put (fun S3 hS3 => ?_)
    exact mf_ret leG.rf
  exact q r h
theorem met_X6_init {P : GP} {l : Launch} (hO : okG P) (S : St) (x0 : Nat) (x1 : Int32) (x2 : Int32) (x3 : Int32) {r : St} (h : C_X6_init S x0 x1 x2 x3 = some r) : FM l (OG P) yX6_init (ws_ yX6_init cX6_init 4 none) 1 34 [.ref x0, .int x1, .int x2, .int x3] S (f_mv r) := by
  refine FM.ofI (own := RX6) (lv := [(0, .ref x0), (1, .int x1), (2, .int x2), (3, .int x3)]) hO pl_X6 rfl rfl (Nat.le_of_ble_eq_true rfl) rfl h (mono_X6_init h).LE (fun X C hm hin2 => ?_)
  unfold C_X6_init
  refine v_aload_n C dX6_init_0 0 rfl ?_
  refine g_objInit C dX6_init_1 lkO_X6_1 (Nat.le_of_ble_eq_true rfl) (Nat.le_of_ble_eq_true rfl) ?_
  refine v_aload_n C dX6_init_4 0 rfl ?_
  refine v_iload_n C dX6_init_5 1 rfl ?_
  refine g_putFV C hin2 dX6_init_6 cls_5 (Nat.le_of_ble_eq_true rfl) q1684 rfl rfl rfl rfl (fun S1 hS1 => ?_)
  refine v_aload_n C dX6_init_9 0 rfl ?_
  refine v_iload_n C dX6_init_10 2 rfl ?_
  refine g_putFV C hin2 dX6_init_11 cls_5 (Nat.le_of_ble_eq_true rfl) q1688 rfl rfl rfl rfl (fun S2 hS2 => ?_)
  refine v_aload_n C dX6_init_14 0 rfl ?_
  refine v_iload_n C dX6_init_15 3 rfl ?_
  refine g_putFV C hin2 dX6_init_16 cls_5 (Nat.le_of_ble_eq_true rfl) q1691 rfl rfl rfl rfl (fun S3 hS3 => ?_)
  exact v_vreturn C hm dX6_init_19 rfl
theorem o_X2_withoutEdge_191 {F : Nat} {x0 : Nat} {x1 : Int32} {x2 : Nat} {x3 : Nat} {x5 : Nat} {x6 : Int32} (k132 : Int32 → St → Option (Nat × St)) (hk132 : ∀ (z6 : Int32) (τ : St), MF mf_p (k132 z6 τ) τ) (s0 : Nat) (s1 : Int32) (s2 : Nat) (S : St) : MF mf_p (C_X2_withoutEdge_191 F k132 x0 x1 x2 x3 x5 x6 s0 s1 s2 S) S := by
  unfold C_X2_withoutEdge_191
  refine mf_tA (fun S38 hS38 => ?_)
  refine mf_bind (fun y39 hy39 => ?_)
  exact (hk132 y39 S38)
theorem o_X2_withoutEdge_198 {F : Nat} {x0 : Nat} {x2 : Nat} {x5 : Nat}  (S : St) : MF mf_p (C_X2_withoutEdge_198 F x0 x2 x5 S) S := by
  unfold C_X2_withoutEdge_198
  refine mf_new (fun r34 hr34 => ?_)
  refine mf_bind (fun y35 hy35 => ?_)
  refine mf_bind (fun y36 hy36 => ?_)
  refine mf_callv (fun _ z => mono_X2_init_2 z) (fun r37 hr37 => ?_)
  exact mf_ret leG.rf
theorem o_X2_withoutEdge_132 {F : Nat} {x0 : Nat} {x1 : Int32} {x2 : Nat} {x3 : Nat} {x5 : Nat}  : ∀ (n : Nat) (x6 : Int32) (S : St), MF mf_p (C_X2_withoutEdge_132 F x0 x1 x2 x3 x5 n x6 S) S := by
  intro n
  induction n with
  | zero => intro x6 S; exact mf_none
  | succ n ih =>
    intro x6 S
    unfold C_X2_withoutEdge_132
    refine mf_bind (fun y25 hy25 => ?_)
    refine mf_ite ?_ ?_
    · exact (o_X2_withoutEdge_198 S)
    · refine mf_call (fun _ z => mono_J17_removeFirst z) (fun r26 hr26 => ?_)
      refine mf_bind (fun y27 hy27 => ?_)
      refine mf_bind (fun y28 hy28 => ?_)
      refine mf_ite ?_ ?_
      · exact (o_X2_withoutEdge_191 (C_X2_withoutEdge_132 F x0 x1 x2 x3 x5 n) ih x5 x6 (r26.1) r26.2)
      · refine mf_new (fun r29 hr29 => ?_)
        refine mf_bind (fun y30 hy30 => ?_)
        refine mf_bind (fun y31 hy31 => ?_)
        refine mf_bind (fun y32 hy32 => ?_)
        refine mf_callv (fun _ z => mono_X6_init z) (fun r33 hr33 => ?_)
        exact (o_X2_withoutEdge_191 (C_X2_withoutEdge_132 F x0 x1 x2 x3 x5 n) ih x5 x6 (r29.1) r33)
theorem o_X2_withoutEdge_120 {F : Nat} {x0 : Nat} {x1 : Int32} {x2 : Nat} {x3 : Nat}  (S : St) : MF mf_p (C_X2_withoutEdge_120 F x0 x1 x2 x3 S) S := by
  unfold C_X2_withoutEdge_120
  refine mf_bind (fun r23 hr23 => ?_)
  refine mf_nQ_ (fun r24 hr24 => ?_)
  exact (o_X2_withoutEdge_132 F 0 r24.2)
theorem o_X2_withoutEdge_83 {F : Nat} {x0 : Nat} {x1 : Int32} {x2 : Nat} {x3 : Nat} {x4 : Nat}  : ∀ (n : Nat) (S : St), MF mf_p (C_X2_withoutEdge_83 F x0 x1 x2 x3 x4 n S) S := by
  intro n
  induction n with
  | zero => intro S; exact mf_none
  | succ n ih =>
    intro S
    unfold C_X2_withoutEdge_83
    refine mf_bind (fun r18 hr18 => ?_)
    refine mf_ite ?_ ?_
    · exact (o_X2_withoutEdge_120 S)
    · refine mf_call (fun _ z => mono_J24_next z) (fun r19 hr19 => ?_)
      refine mf_bind (fun y20 hy20 => ?_)
      refine mf_bind (fun y21 hy21 => ?_)
      refine mf_ite ?_ ?_
      · refine mf_callv (fun _ z => mono_J24_remove z) (fun r22 hr22 => ?_)
        exact (ih r22)
      · exact (ih r19.2)
theorem o_X2_withoutEdge_77 {F : Nat} {x0 : Nat} {x1 : Int32} {x2 : Nat} {x3 : Nat}  (S : St) : MF mf_p (C_X2_withoutEdge_77 F x0 x1 x2 x3 S) S := by
  unfold C_X2_withoutEdge_77
  refine mf_call (fun _ z => mono_J16_iterator z) (fun r17 hr17 => ?_)
  exact (o_X2_withoutEdge_83 F r17.2)
theorem o_X2_withoutEdge_49 {F : Nat} {x0 : Nat} {x1 : Int32} {x2 : Nat} {x3 : Nat}  : ∀ (n : Nat) (x4 : Int32) (S : St), MF mf_p (C_X2_withoutEdge_49 F x0 x1 x2 x3 n x4 S) S := by
  intro n
  induction n with
  | zero => intro x4 S; exact mf_none
  | succ n ih =>
    intro x4 S
    unfold C_X2_withoutEdge_49
    refine mf_bind (fun y11 hy11 => ?_)
    refine mf_bind (fun y12 hy12 => ?_)
    refine mf_ite ?_ ?_
    · exact (o_X2_withoutEdge_77 S)
    · refine mf_bind (fun y13 hy13 => ?_)
      refine mf_bind (fun y14 hy14 => ?_)
      refine mf_call (fun _ z => mono_J17_add z) (fun r15 hr15 => ?_)
      refine mf_bind (fun y16 hy16 => ?_)
      exact (ih y16 r15.2)
theorem mono_X2_withoutEdge {F : Nat} {S : St} {x0 : Nat} {x1 : Int32} {r : Nat × St} (h : C_X2_withoutEdge F S x0 x1 = some r) : leG S r.2 := by
  have q : MF mf_p (C_X2_withoutEdge F S x0 x1) S := by
    unfold C_X2_withoutEdge
    refine mf_bind (fun _ _ => ?_)
    refine mf_bind (fun y1 hy1 => ?_)
    refine mf_bind (fun y2 hy2 => ?_)
    refine mf_nQ_ (fun r3 hr3 => ?_)
    refine mf_bind (fun y4 hy4 => ?_)
    refine mf_cQ (fun S5 hS5 => ?_)
    refine mf_bind (fun y6 hy6 => ?_)
    refine mf_bind (fun y7 hy7 => ?_)
    refine mf_cQ (fun S8 hS8 => ?_)
    refine mf_new (fun r9 hr9 => ?_)
    refine mf_callv (fun _ z => mono_J17_init z) (fun r10 hr10 => ?_)
    exact (o_X2_withoutEdge_49 F 0 r10)
  exact q r h
theorem w_X2_withoutEdge_191 {P : GP} {X : Ctx} {l : Launch} {S0 : St} {F : Nat} (hO : okG P) (C : CX (OG P) X l cX2_withoutEdge 8 RX2 (some (.object "NetworkCenters$Network"))) (hm : X.2.2.2.2.2.2.2.2.2 = none) {x0 : Nat} {x1 : Int32} {x2 : Nat} {x3 : Nat} {x5 : Nat} {x6 : Int32} (k132 : Int32 → St → Option (Nat × St)) (hk132 : ∀ (z6 : Int32) (τ : St), VF (OG P) X 8 12 272 S0 f_ma (k132 z6 τ) τ 132 [(0, .ref x0), (1, .int x1), (2, .ref x2), (3, .ref x3), (5, .ref x5), (6, .int z6)] []) (s0 : Nat) (s1 : Int32) (s2 : Nat) (S : St) : VF (OG P) X 8 12 272 S0 f_ma (C_X2_withoutEdge_191 F k132 x0 x1 x2 x3 x5 x6 s0 s1 s2 S) S 191 [(0, .ref x0), (1, .int x1), (2, .ref x2), (3, .ref x3), (5, .ref x5), (6, .int x6)] [.ref s2, .int s1, .ref s0] := by
  unfold C_X2_withoutEdge_191
  refine g_aas C dX2_withoutEdge_191 (fun _ => rfl) rfl (Or.inl rfl) (fun S38 hS38 => ?_)
  refine v_iincN C (lv' := fun y39 => [(6, .int y39), (0, .ref x0), (1, .int x1), (2, .ref x2), (3, .ref x3), (5, .ref x5)]) dX2_withoutEdge_192 5 rfl ci_1 (Nat.le_of_ble_eq_true rfl) (fun _ => rfl) (fun y39 hy39 => ?_)
  refine v_goto C (tgt := 132) dX2_withoutEdge_195 rfl ?_
  exact v_sub [1, 2, 3, 4, 5, 0] rfl (hk132 y39 S38)
theorem w_X2_withoutEdge_198 {P : GP} {X : Ctx} {l : Launch} {S0 : St} {F : Nat} (hO : okG P) (C : CX (OG P) X l cX2_withoutEdge 8 RX2 (some (.object "NetworkCenters$Network"))) (hm : X.2.2.2.2.2.2.2.2.2 = none) {x0 : Nat} {x2 : Nat} {x5 : Nat}  (S : St) : VF (OG P) X 8 12 272 S0 f_ma (C_X2_withoutEdge_198 F x0 x2 x5 S) S 198 [(0, .ref x0), (2, .ref x2), (5, .ref x5)] [] := by
  unfold C_X2_withoutEdge_198
  refine g_new C dX2_withoutEdge_198 cls_2 q1360 q160 q106 dfok_2 (fun r34 hr34 => ?_)
  refine v_dup C dX2_withoutEdge_201 rfl ?_
  refine v_aload_n C dX2_withoutEdge_202 0 rfl ?_
  refine g_getA C dX2_withoutEdge_203 cls_2 (Nat.le_of_ble_eq_true rfl) fl_X2_13 fs_X2_13 (fun y35 hy35 => ?_)
  refine v_aload_n C dX2_withoutEdge_206 0 rfl ?_
  refine g_getA C dX2_withoutEdge_207 cls_2 (Nat.le_of_ble_eq_true rfl) fl_X2_22 fs_X2_22 (fun y36 hy36 => ?_)
  refine v_aload_n C dX2_withoutEdge_210 1 rfl ?_
  refine v_aload C dX2_withoutEdge_211 2 rfl ?_
  refine v_callI_mv C (As := [.ref y35, .ref y36, .ref x2, .ref x5]) (st := [.ref (r34.1)]) lk_X2_7 dX2_withoutEdge_213 rfl (Nat.le_of_ble_eq_true rfl) (Nat.le_of_ble_eq_true rfl) (Nat.le_of_ble_eq_true rfl) (fun _ z => met_X2_init_2 hO r34.2 (r34.1) y35 y36 x2 x5 z) (fun r37 hr37 => ?_)
  exact v_areturn C hm dX2_withoutEdge_216 (Or.inl ⟨_, rfl⟩) (Or.inr ⟨_, rfl⟩) rfl
theorem w_X2_withoutEdge_132 {P : GP} {X : Ctx} {l : Launch} {S0 : St} {F : Nat} (hO : okG P) (C : CX (OG P) X l cX2_withoutEdge 8 RX2 (some (.object "NetworkCenters$Network"))) (hm : X.2.2.2.2.2.2.2.2.2 = none) {x0 : Nat} {x1 : Int32} {x2 : Nat} {x3 : Nat} {x5 : Nat}  : ∀ (n : Nat) (x6 : Int32) (S : St), VF (OG P) X 8 12 272 S0 f_ma (C_X2_withoutEdge_132 F x0 x1 x2 x3 x5 n x6 S) S 132 [(0, .ref x0), (1, .int x1), (2, .ref x2), (3, .ref x3), (5, .ref x5), (6, .int x6)] [] := by
  intro n
  induction n with
  | zero => intro x6 S; exact VF.none
  | succ n ih =>
    intro x6 S
    unfold C_X2_withoutEdge_132
    refine v_iload C dX2_withoutEdge_132 5 rfl ?_
    refine v_aload C dX2_withoutEdge_134 4 rfl ?_
    refine g_alen (kd := 4) (fun _ => rfl) C dX2_withoutEdge_136 (fun y25 hy25 => ?_)
    refine v_icmp_ge C (tgt := 198) dX2_withoutEdge_137 rfl (fun _ => ?_) (fun _ => ?_)
    · exact v_sub [0, 2, 4] rfl (w_X2_withoutEdge_198 hO C hm S)
    · refine v_aload_n C dX2_withoutEdge_140 3 rfl ?_
      refine g_callV_ma C (As := []) (st := []) lk_X2_84 dX2_withoutEdge_141 rfl (Nat.le_of_ble_eq_true rfl) (Nat.le_of_ble_eq_true rfl) (Nat.le_of_ble_eq_true rfl) cls_13.1 rfl (fun _ z => rc_J17_removeFirst z) (fun _ z => met_J17_removeFirst hO S x3 z) (fun r26 hr26 => ?_)
      refine g_castS C dX2_withoutEdge_144 cls_5.1 q166 (fun y27 hy27 => ?_)
      refine v_astore C (lv' := [(7, .ref (r26.1)), (0, .ref x0), (1, .int x1), (2, .ref x2), (3, .ref x3), (5, .ref x5), (6, .int x6)]) dX2_withoutEdge_147 (Nat.le_of_ble_eq_true rfl) rfl ?_
      refine v_aload C dX2_withoutEdge_149 5 rfl ?_
      refine v_iload C dX2_withoutEdge_151 6 rfl ?_
      refine v_aload C dX2_withoutEdge_153 0 rfl ?_
      refine g_getI C dX2_withoutEdge_155 cls_5 (Nat.le_of_ble_eq_true rfl) fl_X2_76 fs_X2_76 (fun y28 hy28 => ?_)
      refine v_iload_n C dX2_withoutEdge_158 2 rfl ?_
      refine v_icmp_le C (tgt := 189) dX2_withoutEdge_159 rfl (fun _ => ?_) (fun _ => ?_)
      · refine v_aload C dX2_withoutEdge_189 0 rfl ?_
        exact v_sub [1, 2, 3, 4, 5, 6] rfl (w_X2_withoutEdge_191 hO C hm (C_X2_withoutEdge_132 F x0 x1 x2 x3 x5 n) ih x5 x6 (r26.1) r26.2)
      · refine g_new C dX2_withoutEdge_162 cls_5 q166 q1679 q140 dfok_5 (fun r29 hr29 => ?_)
        refine v_dup C dX2_withoutEdge_165 rfl ?_
        refine v_aload C dX2_withoutEdge_166 0 rfl ?_
        refine g_getI C dX2_withoutEdge_168 cls_5 (Nat.le_of_ble_eq_true rfl) fl_X2_76 fs_X2_76 (fun y30 hy30 => ?_)
        refine v_iconst C dX2_withoutEdge_171 ci_1 ?_
        refine v_isub C dX2_withoutEdge_172 ?_
        refine v_aload C dX2_withoutEdge_173 0 rfl ?_
        refine g_getI C dX2_withoutEdge_175 cls_5 (Nat.le_of_ble_eq_true rfl) fl_X2_87 fs_X2_87 (fun y31 hy31 => ?_)
        refine v_aload C dX2_withoutEdge_178 0 rfl ?_
        refine g_getI C dX2_withoutEdge_180 cls_5 (Nat.le_of_ble_eq_true rfl) fl_X2_90 fs_X2_90 (fun y32 hy32 => ?_)
        refine v_callI_mv C (As := [.int (y30 - 1), .int y31, .int y32]) (st := [.ref (r29.1), .int x6, .ref x5]) lk_X2_93 dX2_withoutEdge_183 rfl (Nat.le_of_ble_eq_true rfl) (Nat.le_of_ble_eq_true rfl) (Nat.le_of_ble_eq_true rfl) (fun _ z => met_X6_init hO r29.2 (r29.1) (y30 - 1) y31 y32 z) (fun r33 hr33 => ?_)
        refine v_goto C (tgt := 191) dX2_withoutEdge_186 rfl ?_
        exact v_sub [1, 2, 3, 4, 5, 6] rfl (w_X2_withoutEdge_191 hO C hm (C_X2_withoutEdge_132 F x0 x1 x2 x3 x5 n) ih x5 x6 (r29.1) r33)
theorem w_X2_withoutEdge_120 {P : GP} {X : Ctx} {l : Launch} {S0 : St} {F : Nat} (hO : okG P) (C : CX (OG P) X l cX2_withoutEdge 8 RX2 (some (.object "NetworkCenters$Network"))) (hm : X.2.2.2.2.2.2.2.2.2 = none) {x0 : Nat} {x1 : Int32} {x2 : Nat} {x3 : Nat}  (S : St) : VF (OG P) X 8 12 272 S0 f_ma (C_X2_withoutEdge_120 F x0 x1 x2 x3 S) S 120 [(0, .ref x0), (1, .int x1), (2, .ref x2), (3, .ref x3)] [] := by
  unfold C_X2_withoutEdge_120
  refine v_aload_n C dX2_withoutEdge_120 3 rfl ?_
  refine g_callV_ri C (As := []) (st := []) lk_X2_83 dX2_withoutEdge_121 rfl (Nat.le_of_ble_eq_true rfl) (Nat.le_of_ble_eq_true rfl) (Nat.le_of_ble_eq_true rfl) cls_13.1 rfl (fun _ z => rc_J17_size z) (fun _ z => met_J17_size hO S x3 z) (fun r23 hr23 => ?_)
  refine g_naQ4 C dX2_withoutEdge_124 q166 (fun r24 hr24 => ?_)
  refine v_astore C (lv' := [(5, .ref (r24.1)), (0, .ref x0), (1, .int x1), (2, .ref x2), (3, .ref x3)]) dX2_withoutEdge_127 (Nat.le_of_ble_eq_true rfl) rfl ?_
  refine v_iconst C dX2_withoutEdge_129 ci_0 ?_
  refine v_istore C (lv' := [(6, .int 0), (5, .ref (r24.1)), (0, .ref x0), (1, .int x1), (2, .ref x2), (3, .ref x3)]) dX2_withoutEdge_130 (Nat.le_of_ble_eq_true rfl) rfl ?_
  exact v_sub [2, 3, 4, 5, 1, 0] rfl (w_X2_withoutEdge_132 hO C hm F 0 r24.2)
theorem w_X2_withoutEdge_83 {P : GP} {X : Ctx} {l : Launch} {S0 : St} {F : Nat} (hO : okG P) (C : CX (OG P) X l cX2_withoutEdge 8 RX2 (some (.object "NetworkCenters$Network"))) (hm : X.2.2.2.2.2.2.2.2.2 = none) {x0 : Nat} {x1 : Int32} {x2 : Nat} {x3 : Nat} {x4 : Nat}  : ∀ (n : Nat) (S : St), VF (OG P) X 8 12 272 S0 f_ma (C_X2_withoutEdge_83 F x0 x1 x2 x3 x4 n S) S 83 [(0, .ref x0), (1, .int x1), (2, .ref x2), (3, .ref x3), (4, .ref x4)] [] := by
  intro n
  induction n with
  | zero => intro S; exact VF.none
  | succ n ih =>
    intro S
    unfold C_X2_withoutEdge_83
    refine v_aload C dX2_withoutEdge_83 4 rfl ?_
    refine g_callF_ri C (As := []) (st := []) lk_X2_67 dX2_withoutEdge_85 rfl (Nat.le_of_ble_eq_true rfl) (Nat.le_of_ble_eq_true rfl) (Nat.le_of_ble_eq_true rfl) cls_15.1 (fun _ z => rc_J24_hasNext z) (fun _ z => met_J24_hasNext hO S x4 z) (fun r18 hr18 => ?_)
    refine v_if_eq C (tgt := 120) dX2_withoutEdge_90 rfl (fun _ => ?_) (fun _ => ?_)
    · exact v_sub [0, 1, 2, 3] rfl (w_X2_withoutEdge_120 hO C hm S)
    · refine v_aload C dX2_withoutEdge_93 4 rfl ?_
      refine g_callF_ma C (As := []) (st := []) lk_X2_73 dX2_withoutEdge_95 rfl (Nat.le_of_ble_eq_true rfl) (Nat.le_of_ble_eq_true rfl) (Nat.le_of_ble_eq_true rfl) cls_15.1 (fun _ z => rc_J24_next z) (fun _ z => met_J24_next hO S x4 z) (fun r19 hr19 => ?_)
      refine g_castS C dX2_withoutEdge_100 cls_5.1 q166 (fun y20 hy20 => ?_)
      refine g_getI C dX2_withoutEdge_103 cls_5 (Nat.le_of_ble_eq_true rfl) fl_X2_76 fs_X2_76 (fun y21 hy21 => ?_)
      refine v_iload_n C dX2_withoutEdge_106 1 rfl ?_
      refine v_icmp_ne C (tgt := 83) dX2_withoutEdge_107 rfl (fun _ => ?_) (fun _ => ?_)
      · refine v_aload C dX2_withoutEdge_110 4 rfl ?_
        refine g_callF_mv C (As := []) (st := []) lk_X2_80 dX2_withoutEdge_112 rfl (Nat.le_of_ble_eq_true rfl) (Nat.le_of_ble_eq_true rfl) (Nat.le_of_ble_eq_true rfl) cls_15.1 (fun _ z => rc_J24_remove z) (fun _ z => met_J24_remove hO r19.2 x4 z) (fun r22 hr22 => ?_)
        refine v_goto C (tgt := 83) dX2_withoutEdge_117 rfl ?_
        exact v_sub [0, 1, 2, 3, 4] rfl (ih r22)
      · exact v_sub [0, 1, 2, 3, 4] rfl (ih r19.2)
theorem w_X2_withoutEdge_77 {P : GP} {X : Ctx} {l : Launch} {S0 : St} {F : Nat} (hO : okG P) (C : CX (OG P) X l cX2_withoutEdge 8 RX2 (some (.object "NetworkCenters$Network"))) (hm : X.2.2.2.2.2.2.2.2.2 = none) {x0 : Nat} {x1 : Int32} {x2 : Nat} {x3 : Nat}  (S : St) : VF (OG P) X 8 12 272 S0 f_ma (C_X2_withoutEdge_77 F x0 x1 x2 x3 S) S 77 [(0, .ref x0), (1, .int x1), (2, .ref x2), (3, .ref x3)] [] := by
  unfold C_X2_withoutEdge_77
  refine v_aload_n C dX2_withoutEdge_77 3 rfl ?_
  refine g_callU_ma C (As := []) (st := []) lk_X2_63 dX2_withoutEdge_78 rfl (Nat.le_of_ble_eq_true rfl) (Nat.le_of_ble_eq_true rfl) (Nat.le_of_ble_eq_true rfl) cls_13.1 (fun _ z => rc_J16_iterator z) (fun _ z => met_J16_iterator hO F S x3 z) (fun r17 hr17 => ?_)
  refine v_astore C (lv' := [(4, .ref (r17.1)), (0, .ref x0), (1, .int x1), (2, .ref x2), (3, .ref x3)]) dX2_withoutEdge_81 (Nat.le_of_ble_eq_true rfl) rfl ?_
  exact v_sub [1, 2, 3, 4, 0] rfl (w_X2_withoutEdge_83 hO C hm F r17.2)
theorem w_X2_withoutEdge_49 {P : GP} {X : Ctx} {l : Launch} {S0 : St} {F : Nat} (hO : okG P) (C : CX (OG P) X l cX2_withoutEdge 8 RX2 (some (.object "NetworkCenters$Network"))) (hm : X.2.2.2.2.2.2.2.2.2 = none) {x0 : Nat} {x1 : Int32} {x2 : Nat} {x3 : Nat}  : ∀ (n : Nat) (x4 : Int32) (S : St), VF (OG P) X 8 12 272 S0 f_ma (C_X2_withoutEdge_49 F x0 x1 x2 x3 n x4 S) S 49 [(0, .ref x0), (1, .int x1), (2, .ref x2), (3, .ref x3), (4, .int x4)] [] := by
  intro n
  induction n with
  | zero => intro x4 S; exact VF.none
  | succ n ih =>
    intro x4 S
    unfold C_X2_withoutEdge_49
    refine v_iload C dX2_withoutEdge_49 4 rfl ?_
    refine v_aload_n C dX2_withoutEdge_51 0 rfl ?_
    refine g_getA C dX2_withoutEdge_52 cls_2 (Nat.le_of_ble_eq_true rfl) fl_X2_29 fs_X2_29 (fun y11 hy11 => ?_)
    refine g_alen (kd := 4) (fun _ => rfl) C dX2_withoutEdge_55 (fun y12 hy12 => ?_)
    refine v_icmp_ge C (tgt := 77) dX2_withoutEdge_56 rfl (fun _ => ?_) (fun _ => ?_)
    · exact v_sub [0, 1, 2, 3] rfl (w_X2_withoutEdge_77 hO C hm S)
    · refine v_aload_n C dX2_withoutEdge_59 3 rfl ?_
      refine v_aload_n C dX2_withoutEdge_60 0 rfl ?_
      refine g_getA C dX2_withoutEdge_61 cls_2 (Nat.le_of_ble_eq_true rfl) fl_X2_29 fs_X2_29 (fun y13 hy13 => ?_)
      refine v_iload C dX2_withoutEdge_64 4 rfl ?_
      refine g_aalA4 C dX2_withoutEdge_66 (fun y14 hy14 => ?_)
      refine g_callV_mi C (As := [.ref y14]) (st := []) lk_X2_59 dX2_withoutEdge_67 rfl (Nat.le_of_ble_eq_true rfl) (Nat.le_of_ble_eq_true rfl) (Nat.le_of_ble_eq_true rfl) cls_13.1 rfl (fun _ z => rc_J17_add z) (fun _ z => met_J17_add hO S x3 y14 z) (fun r15 hr15 => ?_)
      refine v_pop C dX2_withoutEdge_70 rfl ?_
      refine v_iincN C (lv' := fun y16 => [(4, .int y16), (0, .ref x0), (1, .int x1), (2, .ref x2), (3, .ref x3)]) dX2_withoutEdge_71 4 rfl ci_1 (Nat.le_of_ble_eq_true rfl) (fun _ => rfl) (fun y16 hy16 => ?_)
      refine v_goto C (tgt := 49) dX2_withoutEdge_74 rfl ?_
      exact v_sub [1, 2, 3, 4, 0] rfl (ih y16 r15.2)
theorem met_X2_withoutEdge {P : GP} {l : Launch} (hO : okG P) (F : Nat) (S : St) (x0 : Nat) (x1 : Int32) {r : Nat × St} (h : C_X2_withoutEdge F S x0 x1 = some r) : FM l (OG P) yX2_withoutEdge (ws_ yX2_withoutEdge cX2_withoutEdge 8 (some (.object "NetworkCenters$Network"))) 12 272 [.ref x0, .int x1] S (f_ma r) := by
  refine FM.of (own := RX2) (lv := [(0, .ref x0), (1, .int x1)]) (OG_ok P hO) pl_X2 rfl (Nat.le_of_ble_eq_true rfl) rfl h (mono_X2_withoutEdge h).LE (fun X C hm => ?_)
  unfold C_X2_withoutEdge
  refine VF.bind (fun _ _ => ?_)
  refine v_aload_n C dX2_withoutEdge_0 0 rfl ?_
  refine g_getA C dX2_withoutEdge_1 cls_2 (Nat.le_of_ble_eq_true rfl) fl_X2_25 fs_X2_25 (fun y1 hy1 => ?_)
  refine g_alen (kd := 3) (fun _ => rfl) C dX2_withoutEdge_4 (fun y2 hy2 => ?_)
  refine v_iconst C dX2_withoutEdge_5 ci_1 ?_
  refine v_isub C dX2_withoutEdge_6 ?_
  refine g_naQ3 C dX2_withoutEdge_7 q164 (fun r3 hr3 => ?_)
  refine v_astore_n C (lv' := [(2, .ref (r3.1)), (0, .ref x0), (1, .int x1)]) dX2_withoutEdge_10 (Nat.le_of_ble_eq_true rfl) rfl ?_
  refine v_aload_n C dX2_withoutEdge_11 1 rfl ?_
  refine g_getA C dX2_withoutEdge_12 cls_2 (Nat.le_of_ble_eq_true rfl) fl_X2_25 fs_X2_25 (fun y4 hy4 => ?_)
  refine v_iconst C dX2_withoutEdge_15 ci_0 ?_
  refine v_aload_n C dX2_withoutEdge_16 0 rfl ?_
  refine v_iconst C dX2_withoutEdge_17 ci_0 ?_
  refine v_iload_n C dX2_withoutEdge_18 2 rfl ?_
  refine g_cpQ3 C dX2_withoutEdge_19 lkC_X2_50 (Nat.le_of_ble_eq_true rfl) (Nat.le_of_ble_eq_true rfl) (fun S5 hS5 => ?_)
  refine v_aload_n C dX2_withoutEdge_22 1 rfl ?_
  refine g_getA C dX2_withoutEdge_23 cls_2 (Nat.le_of_ble_eq_true rfl) fl_X2_25 fs_X2_25 (fun y6 hy6 => ?_)
  refine v_iload_n C dX2_withoutEdge_26 2 rfl ?_
  refine v_iconst C dX2_withoutEdge_27 ci_1 ?_
  refine v_iadd C dX2_withoutEdge_28 ?_
  refine v_aload_n C dX2_withoutEdge_29 0 rfl ?_
  refine v_iload_n C dX2_withoutEdge_30 2 rfl ?_
  refine v_aload_n C dX2_withoutEdge_31 0 rfl ?_
  refine g_alen (kd := 3) (fun _ => rfl) C dX2_withoutEdge_32 (fun y7 hy7 => ?_)
  refine v_iload_n C dX2_withoutEdge_33 2 rfl ?_
  refine v_isub C dX2_withoutEdge_34 ?_
  refine g_cpQ3 C dX2_withoutEdge_35 lkC_X2_50 (Nat.le_of_ble_eq_true rfl) (Nat.le_of_ble_eq_true rfl) (fun S8 hS8 => ?_)
  refine g_new C dX2_withoutEdge_38 cls_13 q1376 q1377 q128 dfok_13 (fun r9 hr9 => ?_)
  refine v_dup C dX2_withoutEdge_41 rfl ?_
  refine v_callI_mv C (As := []) (st := [.ref (r9.1)]) lk_X2_58 dX2_withoutEdge_42 rfl (Nat.le_of_ble_eq_true rfl) (Nat.le_of_ble_eq_true rfl) (Nat.le_of_ble_eq_true rfl) (fun _ z => met_J17_init hO r9.2 (r9.1) z) (fun r10 hr10 => ?_)
  refine v_astore_n C (lv' := [(3, .ref (r9.1)), (2, .ref (r3.1)), (0, .ref x0), (1, .int x1)]) dX2_withoutEdge_45 (Nat.le_of_ble_eq_true rfl) rfl ?_
  refine v_iconst C dX2_withoutEdge_46 ci_0 ?_
  refine v_istore C (lv' := [(4, .int 0), (3, .ref (r9.1)), (2, .ref (r3.1)), (0, .ref x0), (1, .int x1)]) dX2_withoutEdge_47 (Nat.le_of_ble_eq_true rfl) rfl ?_
  exact v_sub [3, 4, 2, 1, 0] rfl (w_X2_withoutEdge_49 hO C hm F 0 r10)
theorem mono_X1_disconnect {F : Nat} {S : St} {x0 : Nat} {x1 : Int32} {r : Int32 × St} (h : C_X1_disconnect F S x0 x1 = some r) : leG S r.2 := by
  have q : MF mf_p (C_X1_disconnect F S x0 x1) S := by
    unfold C_X1_disconnect
    refine mf_bind (fun _ _ => ?_)
    refine mf_bind (fun r1 hr1 => ?_)
    refine mf_bind (fun y2 hy2 => ?_)
    refine mf_bind (fun y3 hy3 => ?_)
    refine mf_bind (fun y4 hy4 => ?_)
    refine mf_bind (fun y5 hy5 => ?_)
    refine mf_call (fun _ z => mono_X2_withoutEdge z) (fun r6 hr6 => ?_)
    refine mf_callv (fun _ z => mono_X1_become z) (fun r7 hr7 => ?_)
    refine mf_bind (fun y8 hy8 => ?_)
    refine mf_bind (fun y9 hy9 => ?_)
    refine mf_bind (fun y10 hy10 => ?_)
    exact mf_ret leG.rf
  exact q r h
theorem met_X1_disconnect {P : GP} {l : Launch} (hO : okG P) (F : Nat) (S : St) (x0 : Nat) (x1 : Int32) {r : Int32 × St} (h : C_X1_disconnect F S x0 x1 = some r) : FM l (OG P) yX1_disconnect (ws_ yX1_disconnect cX1_disconnect 3 (some .int)) 13 299 [.ref x0, .int x1] S (f_mi r) := by
  refine FM.of (own := RX1) (lv := [(0, .ref x0), (1, .int x1)]) (OG_ok P hO) pl_X1 rfl (Nat.le_of_ble_eq_true rfl) rfl h (mono_X1_disconnect h).LE (fun X C hm => ?_)
  unfold C_X1_disconnect
  refine VF.bind (fun _ _ => ?_)
  refine v_aload_n C dX1_disconnect_0 0 rfl ?_
  refine v_iload_n C dX1_disconnect_1 1 rfl ?_
  refine g_callV_rv C (As := [.int x1]) (st := []) lk_X1_141 dX1_disconnect_2 rfl (Nat.le_of_ble_eq_true rfl) (Nat.le_of_ble_eq_true rfl) (Nat.le_of_ble_eq_true rfl) cls_1.1 rfl (fun _ z => rc_X1_checkEdge z) (fun _ z => met_X1_checkEdge hO S x0 x1 z) (fun r1 hr1 => ?_)
  refine v_aload_n C dX1_disconnect_5 0 rfl ?_
  refine g_getA C dX1_disconnect_6 cls_1 (Nat.le_of_ble_eq_true rfl) fl_X1_39 fs_X1_39 (fun y2 hy2 => ?_)
  refine g_getA C dX1_disconnect_9 cls_2 (Nat.le_of_ble_eq_true rfl) fl_X1_144 fs_X1_144 (fun y3 hy3 => ?_)
  refine g_alen (kd := 4) (fun _ => rfl) C dX1_disconnect_12 (fun y4 hy4 => ?_)
  refine v_istore_n C (lv' := [(2, .int y4), (0, .ref x0), (1, .int x1)]) dX1_disconnect_13 (Nat.le_of_ble_eq_true rfl) rfl ?_
  refine v_aload_n C dX1_disconnect_14 1 rfl ?_
  refine v_aload_n C dX1_disconnect_15 1 rfl ?_
  refine g_getA C dX1_disconnect_16 cls_1 (Nat.le_of_ble_eq_true rfl) fl_X1_39 fs_X1_39 (fun y5 hy5 => ?_)
  refine v_iload_n C dX1_disconnect_19 2 rfl ?_
  refine g_callV_ma C (As := [.int x1]) (st := [.ref x0]) lk_X1_148 dX1_disconnect_20 rfl (Nat.le_of_ble_eq_true rfl) (Nat.le_of_ble_eq_true rfl) (Nat.le_of_ble_eq_true rfl) cls_2.1 rfl (fun _ z => rc_X2_withoutEdge z) (fun _ z => met_X2_withoutEdge hO F S y5 x1 z) (fun r6 hr6 => ?_)
  refine g_callV_mv C (As := [.ref (r6.1)]) (st := []) lk_X1_118 dX1_disconnect_23 rfl (Nat.le_of_ble_eq_true rfl) (Nat.le_of_ble_eq_true rfl) (Nat.le_of_ble_eq_true rfl) cls_1.1 rfl (fun _ z => rc_X1_become z) (fun _ z => met_X1_become hO F r6.2 x0 (r6.1) z) (fun r7 hr7 => ?_)
  refine v_iload_n C dX1_disconnect_26 0 rfl ?_
  refine v_aload_n C dX1_disconnect_27 1 rfl ?_
  refine g_getA C dX1_disconnect_28 cls_1 (Nat.le_of_ble_eq_true rfl) fl_X1_39 fs_X1_39 (fun y8 hy8 => ?_)
  refine g_getA C dX1_disconnect_31 cls_2 (Nat.le_of_ble_eq_true rfl) fl_X1_144 fs_X1_144 (fun y9 hy9 => ?_)
  refine g_alen (kd := 4) (fun _ => rfl) C dX1_disconnect_34 (fun y10 hy10 => ?_)
  refine v_isub C dX1_disconnect_35 ?_
  exact v_ireturn C hm dX1_disconnect_36 rfl
theorem mono_X2_with {S : St} {x0 : Nat} {x1 : Int32} {x2 : Int32} {r : Nat × St} (h : C_X2_with S x0 x1 x2 = some r) : leG S r.2 := by
  have q : MF mf_p (C_X2_with S x0 x1 x2) S := by
    unfold C_X2_with
    refine mf_gcl (fun r1 hr1 => ?_)
    refine mf_bind (fun y2 hy2 => ?_)
    refine mf_tI (fun S3 hS3 => ?_)
    exact mf_ret leG.rf
  exact q r h
theorem met_X2_with {P : GP} {l : Launch} (hO : okG P) (S : St) (x0 : Nat) (x1 : Int32) (x2 : Int32) {r : Nat × St} (h : C_X2_with S x0 x1 x2 = some r) : FM l (OG P) yX2_with (ws_ yX2_with cX2_with 4 (some (.array .int))) 1 34 [.ref x0, .int x1, .int x2] S (f_ma r) := by
  refine FM.of (own := RX2) (lv := [(0, .ref x0), (1, .int x1), (2, .int x2)]) (OG_ok P hO) pl_X2 rfl (Nat.le_of_ble_eq_true rfl) rfl h (mono_X2_with h).LE (fun X C hm => ?_)
  unfold C_X2_with
  refine v_aload_n C dX2_with_0 0 rfl ?_
  refine g_clone C dX2_with_1 lkCl_X2_41 (Nat.le_of_ble_eq_true rfl) (Nat.le_of_ble_eq_true rfl) (fun r1 hr1 => ?_)
  refine g_castI C dX2_with_4 q1719 (fun y2 hy2 => ?_)
  refine v_astore_n C (lv' := [(3, .ref (r1.1)), (0, .ref x0), (1, .int x1), (2, .int x2)]) dX2_with_7 (Nat.le_of_ble_eq_true rfl) rfl ?_
  refine v_aload_n C dX2_with_8 0 rfl ?_
  refine v_iload_n C dX2_with_9 2 rfl ?_
  refine v_iload_n C dX2_with_10 3 rfl ?_
  refine g_ias C dX2_with_11 (fun S3 hS3 => ?_)
  refine v_aload_n C dX2_with_12 0 rfl ?_
  exact v_areturn C hm dX2_with_13 (Or.inr ⟨_, rfl⟩) (Or.inr ⟨_, rfl⟩) rfl
theorem mono_X2_withWeight {S : St} {x0 : Nat} {x1 : Int32} {x2 : Int32} {r : Nat × St} (h : C_X2_withWeight S x0 x1 x2 = some r) : leG S r.2 := by
  have q : MF mf_p (C_X2_withWeight S x0 x1 x2) S := by
    unfold C_X2_withWeight
    refine mf_bind (fun _ _ => ?_)
    refine mf_new (fun r1 hr1 => ?_)
    refine mf_bind (fun y2 hy2 => ?_)
    refine mf_call (fun _ z => mono_X2_with z) (fun r3 hr3 => ?_)
    refine mf_bind (fun y4 hy4 => ?_)
    refine mf_bind (fun y5 hy5 => ?_)
    refine mf_bind (fun y6 hy6 => ?_)
    refine mf_callv (fun _ z => mono_X2_init_2 z) (fun r7 hr7 => ?_)
    exact mf_ret leG.rf
  exact q r h
theorem met_X2_withWeight {P : GP} {l : Launch} (hO : okG P) (S : St) (x0 : Nat) (x1 : Int32) (x2 : Int32) {r : Nat × St} (h : C_X2_withWeight S x0 x1 x2 = some r) : FM l (OG P) yX2_withWeight (ws_ yX2_withWeight cX2_withWeight 3 (some (.object "NetworkCenters$Network"))) 2 58 [.ref x0, .int x1, .int x2] S (f_ma r) := by
  refine FM.of (own := RX2) (lv := [(0, .ref x0), (1, .int x1), (2, .int x2)]) (OG_ok P hO) pl_X2 rfl (Nat.le_of_ble_eq_true rfl) rfl h (mono_X2_withWeight h).LE (fun X C hm => ?_)
  unfold C_X2_withWeight
  refine VF.bind (fun _ _ => ?_)
  refine g_new C dX2_withWeight_0 cls_2 q1360 q160 q106 dfok_2 (fun r1 hr1 => ?_)
  refine v_dup C dX2_withWeight_3 rfl ?_
  refine v_aload_n C dX2_withWeight_4 0 rfl ?_
  refine g_getA C dX2_withWeight_5 cls_2 (Nat.le_of_ble_eq_true rfl) fl_X2_13 fs_X2_13 (fun y2 hy2 => ?_)
  refine v_iload_n C dX2_withWeight_8 1 rfl ?_
  refine v_iload_n C dX2_withWeight_9 2 rfl ?_
  refine v_callS_ma C (As := [.ref y2, .int x1, .int x2]) (st := [.ref (r1.1), .ref (r1.1)]) lk_X2_46 dX2_withWeight_10 rfl (Nat.le_of_ble_eq_true rfl) (Nat.le_of_ble_eq_true rfl) (Nat.le_of_ble_eq_true rfl) (fun _ z => met_X2_with hO r1.2 y2 x1 x2 z) (fun r3 hr3 => ?_)
  refine v_aload_n C dX2_withWeight_13 0 rfl ?_
  refine g_getA C dX2_withWeight_14 cls_2 (Nat.le_of_ble_eq_true rfl) fl_X2_22 fs_X2_22 (fun y4 hy4 => ?_)
  refine v_aload_n C dX2_withWeight_17 0 rfl ?_
  refine g_getA C dX2_withWeight_18 cls_2 (Nat.le_of_ble_eq_true rfl) fl_X2_25 fs_X2_25 (fun y5 hy5 => ?_)
  refine v_aload_n C dX2_withWeight_21 0 rfl ?_
  refine g_getA C dX2_withWeight_22 cls_2 (Nat.le_of_ble_eq_true rfl) fl_X2_29 fs_X2_29 (fun y6 hy6 => ?_)
  refine v_callI_mv C (As := [.ref (r3.1), .ref y4, .ref y5, .ref y6]) (st := [.ref (r1.1)]) lk_X2_7 dX2_withWeight_25 rfl (Nat.le_of_ble_eq_true rfl) (Nat.le_of_ble_eq_true rfl) (Nat.le_of_ble_eq_true rfl) (fun _ z => met_X2_init_2 hO r3.2 (r1.1) (r3.1) y4 y5 y6 z) (fun r7 hr7 => ?_)
  exact v_areturn C hm dX2_withWeight_28 (Or.inl ⟨_, rfl⟩) (Or.inr ⟨_, rfl⟩) rfl
theorem mono_X1_setWeight {F : Nat} {S : St} {x0 : Nat} {x1 : Int32} {x2 : Int32} {r : Int32 × St} (h : C_X1_setWeight F S x0 x1 x2 = some r) : leG S r.2 := by
  have q : MF mf_p (C_X1_setWeight F S x0 x1 x2) S := by
    unfold C_X1_setWeight
    refine mf_bind (fun _ _ => ?_)
    refine mf_bind (fun r1 hr1 => ?_)
    refine mf_bind (fun r2 hr2 => ?_)
    refine mf_bind (fun r3 hr3 => ?_)
    refine mf_bind (fun y4 hy4 => ?_)
    refine mf_bind (fun y5 hy5 => ?_)
    refine mf_bind (fun y6 hy6 => ?_)
    refine mf_bind (fun y7 hy7 => ?_)
    refine mf_call (fun _ z => mono_X2_withWeight z) (fun r8 hr8 => ?_)
    refine mf_callv (fun _ z => mono_X1_become z) (fun r9 hr9 => ?_)
    exact mf_ret leG.rf
  exact q r h
theorem met_X1_setWeight {P : GP} {l : Launch} (hO : okG P) (F : Nat) (S : St) (x0 : Nat) (x1 : Int32) (x2 : Int32) {r : Int32 × St} (h : C_X1_setWeight F S x0 x1 x2 = some r) : FM l (OG P) yX1_setWeight (ws_ yX1_setWeight cX1_setWeight 4 (some .int)) 7 169 [.ref x0, .int x1, .int x2] S (f_mi r) := by
  refine FM.of (own := RX1) (lv := [(0, .ref x0), (1, .int x1), (2, .int x2)]) (OG_ok P hO) pl_X1 rfl (Nat.le_of_ble_eq_true rfl) rfl h (mono_X1_setWeight h).LE (fun X C hm => ?_)
  unfold C_X1_setWeight
  refine VF.bind (fun _ _ => ?_)
  refine v_aload_n C dX1_setWeight_0 0 rfl ?_
  refine v_iload_n C dX1_setWeight_1 1 rfl ?_
  refine g_callV_rv C (As := [.int x1]) (st := []) lk_X1_121 dX1_setWeight_2 rfl (Nat.le_of_ble_eq_true rfl) (Nat.le_of_ble_eq_true rfl) (Nat.le_of_ble_eq_true rfl) cls_1.1 rfl (fun _ z => rc_X1_checkNode z) (fun _ z => met_X1_checkNode hO S x0 x1 z) (fun r1 hr1 => ?_)
  refine v_iload_n C dX1_setWeight_5 2 rfl ?_
  refine v_iconst C dX1_setWeight_6 ci_0 ?_
  refine v_bipush C dX1_setWeight_7 cb_9 ?_
  refine v_callS_ri C (As := [.int x2, .int 0, .int 9]) (st := []) lk_X1_87 dX1_setWeight_9 rfl (Nat.le_of_ble_eq_true rfl) (Nat.le_of_ble_eq_true rfl) (Nat.le_of_ble_eq_true rfl) (fun _ z => met_X1_isIn hO S x2 0 9 z) (fun r2 hr2 => ?_)
  refine v_callS_rv C (As := [.int r2]) (st := []) lk_X1_115 dX1_setWeight_12 rfl (Nat.le_of_ble_eq_true rfl) (Nat.le_of_ble_eq_true rfl) (Nat.le_of_ble_eq_true rfl) (fun _ z => met_X1_checkThat hO S r2 z) (fun r3 hr3 => ?_)
  refine v_aload_n C dX1_setWeight_15 0 rfl ?_
  refine g_getA C dX1_setWeight_16 cls_1 (Nat.le_of_ble_eq_true rfl) fl_X1_39 fs_X1_39 (fun y4 hy4 => ?_)
  refine g_getA C dX1_setWeight_19 cls_2 (Nat.le_of_ble_eq_true rfl) fl_X1_152 fs_X1_152 (fun y5 hy5 => ?_)
  refine v_iload_n C dX1_setWeight_22 1 rfl ?_
  refine g_ial C dX1_setWeight_23 (fun y6 hy6 => ?_)
  refine v_istore_n C (lv' := [(3, .int y6), (0, .ref x0), (1, .int x1), (2, .int x2)]) dX1_setWeight_24 (Nat.le_of_ble_eq_true rfl) rfl ?_
  refine v_aload_n C dX1_setWeight_25 1 rfl ?_
  refine v_aload_n C dX1_setWeight_26 1 rfl ?_
  refine g_getA C dX1_setWeight_27 cls_1 (Nat.le_of_ble_eq_true rfl) fl_X1_39 fs_X1_39 (fun y7 hy7 => ?_)
  refine v_iload_n C dX1_setWeight_30 2 rfl ?_
  refine v_iload_n C dX1_setWeight_31 3 rfl ?_
  refine g_callV_ma C (As := [.int x1, .int x2]) (st := [.ref x0]) lk_X1_156 dX1_setWeight_32 rfl (Nat.le_of_ble_eq_true rfl) (Nat.le_of_ble_eq_true rfl) (Nat.le_of_ble_eq_true rfl) cls_2.1 rfl (fun _ z => rc_X2_withWeight z) (fun _ z => met_X2_withWeight hO S y7 x1 x2 z) (fun r8 hr8 => ?_)
  refine g_callV_mv C (As := [.ref (r8.1)]) (st := []) lk_X1_118 dX1_setWeight_35 rfl (Nat.le_of_ble_eq_true rfl) (Nat.le_of_ble_eq_true rfl) (Nat.le_of_ble_eq_true rfl) cls_1.1 rfl (fun _ z => rc_X1_become z) (fun _ z => met_X1_become hO F r8.2 x0 (r8.1) z) (fun r9 hr9 => ?_)
  refine v_iload_n C dX1_setWeight_38 0 rfl ?_
  exact v_ireturn C hm dX1_setWeight_39 rfl
theorem mono_X2_withTrend {S : St} {x0 : Nat} {x1 : Int32} {x2 : Int32} {r : Nat × St} (h : C_X2_withTrend S x0 x1 x2 = some r) : leG S r.2 := by
  have q : MF mf_p (C_X2_withTrend S x0 x1 x2) S := by
    unfold C_X2_withTrend
    refine mf_bind (fun _ _ => ?_)
    refine mf_new (fun r1 hr1 => ?_)
    refine mf_bind (fun y2 hy2 => ?_)
    refine mf_bind (fun y3 hy3 => ?_)
    refine mf_call (fun _ z => mono_X2_with z) (fun r4 hr4 => ?_)
    refine mf_bind (fun y5 hy5 => ?_)
    refine mf_bind (fun y6 hy6 => ?_)
    refine mf_callv (fun _ z => mono_X2_init_2 z) (fun r7 hr7 => ?_)
    exact mf_ret leG.rf
  exact q r h
theorem met_X2_withTrend {P : GP} {l : Launch} (hO : okG P) (S : St) (x0 : Nat) (x1 : Int32) (x2 : Int32) {r : Nat × St} (h : C_X2_withTrend S x0 x1 x2 = some r) : FM l (OG P) yX2_withTrend (ws_ yX2_withTrend cX2_withTrend 3 (some (.object "NetworkCenters$Network"))) 2 58 [.ref x0, .int x1, .int x2] S (f_ma r) := by
  refine FM.of (own := RX2) (lv := [(0, .ref x0), (1, .int x1), (2, .int x2)]) (OG_ok P hO) pl_X2 rfl (Nat.le_of_ble_eq_true rfl) rfl h (mono_X2_withTrend h).LE (fun X C hm => ?_)
  unfold C_X2_withTrend
  refine VF.bind (fun _ _ => ?_)
  refine g_new C dX2_withTrend_0 cls_2 q1360 q160 q106 dfok_2 (fun r1 hr1 => ?_)
  refine v_dup C dX2_withTrend_3 rfl ?_
  refine v_aload_n C dX2_withTrend_4 0 rfl ?_
  refine g_getA C dX2_withTrend_5 cls_2 (Nat.le_of_ble_eq_true rfl) fl_X2_13 fs_X2_13 (fun y2 hy2 => ?_)
  refine v_aload_n C dX2_withTrend_8 0 rfl ?_
  refine g_getA C dX2_withTrend_9 cls_2 (Nat.le_of_ble_eq_true rfl) fl_X2_22 fs_X2_22 (fun y3 hy3 => ?_)
  refine v_iload_n C dX2_withTrend_12 1 rfl ?_
  refine v_iload_n C dX2_withTrend_13 2 rfl ?_
  refine v_callS_ma C (As := [.ref y3, .int x1, .int x2]) (st := [.ref y2, .ref (r1.1), .ref (r1.1)]) lk_X2_46 dX2_withTrend_14 rfl (Nat.le_of_ble_eq_true rfl) (Nat.le_of_ble_eq_true rfl) (Nat.le_of_ble_eq_true rfl) (fun _ z => met_X2_with hO r1.2 y3 x1 x2 z) (fun r4 hr4 => ?_)
  refine v_aload_n C dX2_withTrend_17 0 rfl ?_
  refine g_getA C dX2_withTrend_18 cls_2 (Nat.le_of_ble_eq_true rfl) fl_X2_25 fs_X2_25 (fun y5 hy5 => ?_)
  refine v_aload_n C dX2_withTrend_21 0 rfl ?_
  refine g_getA C dX2_withTrend_22 cls_2 (Nat.le_of_ble_eq_true rfl) fl_X2_29 fs_X2_29 (fun y6 hy6 => ?_)
  refine v_callI_mv C (As := [.ref y2, .ref (r4.1), .ref y5, .ref y6]) (st := [.ref (r1.1)]) lk_X2_7 dX2_withTrend_25 rfl (Nat.le_of_ble_eq_true rfl) (Nat.le_of_ble_eq_true rfl) (Nat.le_of_ble_eq_true rfl) (fun _ z => met_X2_init_2 hO r4.2 (r1.1) y2 (r4.1) y5 y6 z) (fun r7 hr7 => ?_)
  exact v_areturn C hm dX2_withTrend_28 (Or.inl ⟨_, rfl⟩) (Or.inr ⟨_, rfl⟩) rfl
theorem mono_X1_setTrend {F : Nat} {S : St} {x0 : Nat} {x1 : Int32} {x2 : Int32} {r : Int32 × St} (h : C_X1_setTrend F S x0 x1 x2 = some r) : leG S r.2 := by
  have q : MF mf_p (C_X1_setTrend F S x0 x1 x2) S := by
    unfold C_X1_setTrend
    refine mf_bind (fun _ _ => ?_)
    refine mf_bind (fun r1 hr1 => ?_)
    refine mf_bind (fun r2 hr2 => ?_)
    refine mf_bind (fun r3 hr3 => ?_)
    refine mf_bind (fun y4 hy4 => ?_)
    refine mf_bind (fun y5 hy5 => ?_)
    refine mf_bind (fun y6 hy6 => ?_)
    refine mf_bind (fun y7 hy7 => ?_)
    refine mf_call (fun _ z => mono_X2_withTrend z) (fun r8 hr8 => ?_)
    refine mf_callv (fun _ z => mono_X1_become z) (fun r9 hr9 => ?_)
    exact mf_ret leG.rf
  exact q r h
theorem met_X1_setTrend {P : GP} {l : Launch} (hO : okG P) (F : Nat) (S : St) (x0 : Nat) (x1 : Int32) (x2 : Int32) {r : Int32 × St} (h : C_X1_setTrend F S x0 x1 x2 = some r) : FM l (OG P) yX1_setTrend (ws_ yX1_setTrend cX1_setTrend 4 (some .int)) 7 169 [.ref x0, .int x1, .int x2] S (f_mi r) := by
  refine FM.of (own := RX1) (lv := [(0, .ref x0), (1, .int x1), (2, .int x2)]) (OG_ok P hO) pl_X1 rfl (Nat.le_of_ble_eq_true rfl) rfl h (mono_X1_setTrend h).LE (fun X C hm => ?_)
  unfold C_X1_setTrend
  refine VF.bind (fun _ _ => ?_)
  refine v_aload_n C dX1_setTrend_0 0 rfl ?_
  refine v_iload_n C dX1_setTrend_1 1 rfl ?_
  refine g_callV_rv C (As := [.int x1]) (st := []) lk_X1_121 dX1_setTrend_2 rfl (Nat.le_of_ble_eq_true rfl) (Nat.le_of_ble_eq_true rfl) (Nat.le_of_ble_eq_true rfl) cls_1.1 rfl (fun _ z => rc_X1_checkNode z) (fun _ z => met_X1_checkNode hO S x0 x1 z) (fun r1 hr1 => ?_)
  refine v_iload_n C dX1_setTrend_5 2 rfl ?_
  refine v_iconst C dX1_setTrend_6 ci_0 ?_
  refine v_bipush C dX1_setTrend_7 cb_9 ?_
  refine v_callS_ri C (As := [.int x2, .int 0, .int 9]) (st := []) lk_X1_87 dX1_setTrend_9 rfl (Nat.le_of_ble_eq_true rfl) (Nat.le_of_ble_eq_true rfl) (Nat.le_of_ble_eq_true rfl) (fun _ z => met_X1_isIn hO S x2 0 9 z) (fun r2 hr2 => ?_)
  refine v_callS_rv C (As := [.int r2]) (st := []) lk_X1_115 dX1_setTrend_12 rfl (Nat.le_of_ble_eq_true rfl) (Nat.le_of_ble_eq_true rfl) (Nat.le_of_ble_eq_true rfl) (fun _ z => met_X1_checkThat hO S r2 z) (fun r3 hr3 => ?_)
  refine v_aload_n C dX1_setTrend_15 0 rfl ?_
  refine g_getA C dX1_setTrend_16 cls_1 (Nat.le_of_ble_eq_true rfl) fl_X1_39 fs_X1_39 (fun y4 hy4 => ?_)
  refine g_getA C dX1_setTrend_19 cls_2 (Nat.le_of_ble_eq_true rfl) fl_X1_160 fs_X1_160 (fun y5 hy5 => ?_)
  refine v_iload_n C dX1_setTrend_22 1 rfl ?_
  refine g_ial C dX1_setTrend_23 (fun y6 hy6 => ?_)
  refine v_istore_n C (lv' := [(3, .int y6), (0, .ref x0), (1, .int x1), (2, .int x2)]) dX1_setTrend_24 (Nat.le_of_ble_eq_true rfl) rfl ?_
  refine v_aload_n C dX1_setTrend_25 1 rfl ?_
  refine v_aload_n C dX1_setTrend_26 1 rfl ?_
  refine g_getA C dX1_setTrend_27 cls_1 (Nat.le_of_ble_eq_true rfl) fl_X1_39 fs_X1_39 (fun y7 hy7 => ?_)
  refine v_iload_n C dX1_setTrend_30 2 rfl ?_
  refine v_iload_n C dX1_setTrend_31 3 rfl ?_
  refine g_callV_ma C (As := [.int x1, .int x2]) (st := [.ref x0]) lk_X1_163 dX1_setTrend_32 rfl (Nat.le_of_ble_eq_true rfl) (Nat.le_of_ble_eq_true rfl) (Nat.le_of_ble_eq_true rfl) cls_2.1 rfl (fun _ z => rc_X2_withTrend z) (fun _ z => met_X2_withTrend hO S y7 x1 x2 z) (fun r8 hr8 => ?_)
  refine g_callV_mv C (As := [.ref (r8.1)]) (st := []) lk_X1_118 dX1_setTrend_35 rfl (Nat.le_of_ble_eq_true rfl) (Nat.le_of_ble_eq_true rfl) (Nat.le_of_ble_eq_true rfl) cls_1.1 rfl (fun _ z => rc_X1_become z) (fun _ z => met_X1_become hO F r8.2 x0 (r8.1) z) (fun r9 hr9 => ?_)
  refine v_iload_n C dX1_setTrend_38 0 rfl ?_
  exact v_ireturn C hm dX1_setTrend_39 rfl
theorem met_X2_mayForbid {P : GP} {l : Launch} (hO : okG P) (S : St) (x0 : Nat) (x1 : Int32) (x2 : Int32) (x3 : Int32) {r : Int32} (h : C_X2_mayForbid S x0 x1 x2 x3 = some r) : FM l (OG P) yX2_mayForbid (ws_ yX2_mayForbid cX2_mayForbid 4 (some .boolean)) 0 0 [.ref x0, .int x1, .int x2, .int x3] S ((f_ri S) r) := by
  refine FM.of (own := RX2) (lv := [(0, .ref x0), (1, .int x1), (2, .int x2), (3, .int x3)]) (OG_ok P hO) pl_X2 rfl (Nat.le_of_ble_eq_true rfl) rfl h LE.rf (fun X C hm => ?_)
  unfold C_X2_mayForbid
  refine VF.bind (fun _ _ => ?_)
  refine v_iload_n C dX2_mayForbid_0 2 rfl ?_
  refine v_if_lt C (tgt := 26) dX2_mayForbid_1 rfl (fun _ => ?_) (fun _ => ?_)
  · refine v_iconst C dX2_mayForbid_26 ci_0 ?_
    exact v_zreturn C hm dX2_mayForbid_27 (Or.inl rfl) rfl
  · refine v_iload_n C dX2_mayForbid_4 2 rfl ?_
    refine v_iload_n C dX2_mayForbid_5 3 rfl ?_
    refine v_icmp_ge C (tgt := 26) dX2_mayForbid_6 rfl (fun _ => ?_) (fun _ => ?_)
    · refine v_iconst C dX2_mayForbid_26 ci_0 ?_
      exact v_zreturn C hm dX2_mayForbid_27 (Or.inl rfl) rfl
    · refine v_iload_n C dX2_mayForbid_9 3 rfl ?_
      refine v_aload_n C dX2_mayForbid_10 0 rfl ?_
      refine g_getA C dX2_mayForbid_11 cls_2 (Nat.le_of_ble_eq_true rfl) fl_X2_25 fs_X2_25 (fun y1 hy1 => ?_)
      refine v_iload_n C dX2_mayForbid_14 1 rfl ?_
      refine g_aalA3 C dX2_mayForbid_15 (fun y2 hy2 => ?_)
      refine g_getI C dX2_mayForbid_16 cls_4 (Nat.le_of_ble_eq_true rfl) fl_X2_109 fs_X2_109 (fun y3 hy3 => ?_)
      refine v_icmp_gt C (tgt := 26) dX2_mayForbid_19 rfl (fun _ => ?_) (fun _ => ?_)
      · refine v_iconst C dX2_mayForbid_26 ci_0 ?_
        exact v_zreturn C hm dX2_mayForbid_27 (Or.inl rfl) rfl
      · refine v_iconst C dX2_mayForbid_22 ci_1 ?_
        refine v_goto C (tgt := 27) dX2_mayForbid_23 rfl ?_
        exact v_zreturn C hm dX2_mayForbid_27 (Or.inr rfl) rfl
theorem mono_X2_withStretch {S : St} {x0 : Nat} {x1 : Nat} {r : Nat × St} (h : C_X2_withStretch S x0 x1 = some r) : leG S r.2 := by
  have q : MF mf_p (C_X2_withStretch S x0 x1) S := by
    unfold C_X2_withStretch
    refine mf_bind (fun _ _ => ?_)
    refine mf_bind (fun y1 hy1 => ?_)
    refine mf_bind (fun y2 hy2 => ?_)
    refine mf_nQ_ (fun r3 hr3 => ?_)
    refine mf_bind (fun y4 hy4 => ?_)
    refine mf_bind (fun y5 hy5 => ?_)
    refine mf_bind (fun y6 hy6 => ?_)
    refine mf_cQ (fun S7 hS7 => ?_)
    refine mf_bind (fun y8 hy8 => ?_)
    refine mf_bind (fun y9 hy9 => ?_)
    refine mf_tA (fun S10 hS10 => ?_)
    refine mf_new (fun r11 hr11 => ?_)
    refine mf_bind (fun y12 hy12 => ?_)
    refine mf_bind (fun y13 hy13 => ?_)
    refine mf_bind (fun y14 hy14 => ?_)
    refine mf_callv (fun _ z => mono_X2_init_2 z) (fun r15 hr15 => ?_)
    exact mf_ret leG.rf
  exact q r h
theorem met_X2_withStretch {P : GP} {l : Launch} (hO : okG P) (S : St) (x0 : Nat) (x1 : Nat) {r : Nat × St} (h : C_X2_withStretch S x0 x1 = some r) : FM l (OG P) yX2_withStretch (ws_ yX2_withStretch cX2_withStretch 3 (some (.object "NetworkCenters$Network"))) 2 58 [.ref x0, .ref x1] S (f_ma r) := by
  refine FM.of (own := RX2) (lv := [(0, .ref x0), (1, .ref x1)]) (OG_ok P hO) pl_X2 rfl (Nat.le_of_ble_eq_true rfl) rfl h (mono_X2_withStretch h).LE (fun X C hm => ?_)
  unfold C_X2_withStretch
  refine VF.bind (fun _ _ => ?_)
  refine v_aload_n C dX2_withStretch_0 0 rfl ?_
  refine g_getA C dX2_withStretch_1 cls_2 (Nat.le_of_ble_eq_true rfl) fl_X2_29 fs_X2_29 (fun y1 hy1 => ?_)
  refine g_alen (kd := 4) (fun _ => rfl) C dX2_withStretch_4 (fun y2 hy2 => ?_)
  refine v_iconst C dX2_withStretch_5 ci_1 ?_
  refine v_iadd C dX2_withStretch_6 ?_
  refine g_naQ4 C dX2_withStretch_7 q166 (fun r3 hr3 => ?_)
  refine v_astore_n C (lv' := [(2, .ref (r3.1)), (0, .ref x0), (1, .ref x1)]) dX2_withStretch_10 (Nat.le_of_ble_eq_true rfl) rfl ?_
  refine v_aload_n C dX2_withStretch_11 1 rfl ?_
  refine g_getA C dX2_withStretch_12 cls_2 (Nat.le_of_ble_eq_true rfl) fl_X2_29 fs_X2_29 (fun y4 hy4 => ?_)
  refine v_iconst C dX2_withStretch_15 ci_0 ?_
  refine v_aload_n C dX2_withStretch_16 0 rfl ?_
  refine v_iconst C dX2_withStretch_17 ci_0 ?_
  refine v_aload_n C dX2_withStretch_18 1 rfl ?_
  refine g_getA C dX2_withStretch_19 cls_2 (Nat.le_of_ble_eq_true rfl) fl_X2_29 fs_X2_29 (fun y5 hy5 => ?_)
  refine g_alen (kd := 4) (fun _ => rfl) C dX2_withStretch_22 (fun y6 hy6 => ?_)
  refine g_cpQ4 C dX2_withStretch_23 lkC_X2_50 (Nat.le_of_ble_eq_true rfl) (Nat.le_of_ble_eq_true rfl) (fun S7 hS7 => ?_)
  refine v_aload_n C dX2_withStretch_26 0 rfl ?_
  refine v_aload_n C dX2_withStretch_27 1 rfl ?_
  refine g_getA C dX2_withStretch_28 cls_2 (Nat.le_of_ble_eq_true rfl) fl_X2_29 fs_X2_29 (fun y8 hy8 => ?_)
  refine g_alen (kd := 4) (fun _ => rfl) C dX2_withStretch_31 (fun y9 hy9 => ?_)
  refine v_aload_n C dX2_withStretch_32 2 rfl ?_
  refine g_aas C dX2_withStretch_33 (fun _ => rfl) rfl (Or.inl rfl) (fun S10 hS10 => ?_)
  refine g_new C dX2_withStretch_34 cls_2 q1360 q160 q106 dfok_2 (fun r11 hr11 => ?_)
  refine v_dup C dX2_withStretch_37 rfl ?_
  refine v_aload_n C dX2_withStretch_38 1 rfl ?_
  refine g_getA C dX2_withStretch_39 cls_2 (Nat.le_of_ble_eq_true rfl) fl_X2_13 fs_X2_13 (fun y12 hy12 => ?_)
  refine v_aload_n C dX2_withStretch_42 1 rfl ?_
  refine g_getA C dX2_withStretch_43 cls_2 (Nat.le_of_ble_eq_true rfl) fl_X2_22 fs_X2_22 (fun y13 hy13 => ?_)
  refine v_aload_n C dX2_withStretch_46 1 rfl ?_
  refine g_getA C dX2_withStretch_47 cls_2 (Nat.le_of_ble_eq_true rfl) fl_X2_25 fs_X2_25 (fun y14 hy14 => ?_)
  refine v_aload_n C dX2_withStretch_50 0 rfl ?_
  refine v_callI_mv C (As := [.ref y12, .ref y13, .ref y14, .ref (r3.1)]) (st := [.ref (r11.1)]) lk_X2_7 dX2_withStretch_51 rfl (Nat.le_of_ble_eq_true rfl) (Nat.le_of_ble_eq_true rfl) (Nat.le_of_ble_eq_true rfl) (fun _ z => met_X2_init_2 hO r11.2 (r11.1) y12 y13 y14 (r3.1) z) (fun r15 hr15 => ?_)
  exact v_areturn C hm dX2_withStretch_54 (Or.inl ⟨_, rfl⟩) (Or.inr ⟨_, rfl⟩) rfl
theorem o_X1_forbid_36 {F : Nat} {x0 : Nat} {x1 : Int32} {x2 : Int32} {x3 : Int32}  (s0 : Int32) (S : St) : MF mf_p (C_X1_forbid_36 F x0 x1 x2 x3 s0 S) S := by
  unfold C_X1_forbid_36
  refine mf_bind (fun r8 hr8 => ?_)
  refine mf_bind (fun y9 hy9 => ?_)
  refine mf_new (fun r10 hr10 => ?_)
  refine mf_callv (fun _ z => mono_X6_init z) (fun r11 hr11 => ?_)
  refine mf_call (fun _ z => mono_X2_withStretch z) (fun r12 hr12 => ?_)
  refine mf_callv (fun _ z => mono_X1_become z) (fun r13 hr13 => ?_)
  refine mf_bind (fun y14 hy14 => ?_)
  refine mf_bind (fun y15 hy15 => ?_)
  refine mf_bind (fun y16 hy16 => ?_)
  exact mf_ret leG.rf
theorem mono_X1_forbid {F : Nat} {S : St} {x0 : Nat} {x1 : Int32} {x2 : Int32} {x3 : Int32} {r : Int32 × St} (h : C_X1_forbid F S x0 x1 x2 x3 = some r) : leG S r.2 := by
  have q : MF mf_p (C_X1_forbid F S x0 x1 x2 x3) S := by
    unfold C_X1_forbid
    refine mf_bind (fun _ _ => ?_)
    refine mf_bind (fun r1 hr1 => ?_)
    refine mf_bind (fun y2 hy2 => ?_)
    refine mf_bind (fun r3 hr3 => ?_)
    refine mf_bind (fun r4 hr4 => ?_)
    refine mf_bind (fun y5 hy5 => ?_)
    refine mf_bind (fun y6 hy6 => ?_)
    refine mf_bind (fun y7 hy7 => ?_)
    refine mf_ite ?_ ?_
    · exact (o_X1_forbid_36 0 S)
    · exact (o_X1_forbid_36 1 S)
  exact q r h
theorem w_X1_forbid_36 {P : GP} {X : Ctx} {l : Launch} {S0 : St} {F : Nat} (hO : okG P) (C : CX (OG P) X l cX1_forbid 4 RX1 (some .int)) (hm : X.2.2.2.2.2.2.2.2.2 = none) {x0 : Nat} {x1 : Int32} {x2 : Int32} {x3 : Int32}  (s0 : Int32) (S : St) : VF (OG P) X 4 7 169 S0 f_mi (C_X1_forbid_36 F x0 x1 x2 x3 s0 S) S 36 [(0, .ref x0), (1, .int x1), (2, .int x2), (3, .int x3)] [.int s0] := by
  unfold C_X1_forbid_36
  refine v_callS_rv C (As := [.int s0]) (st := []) lk_X1_131 dX1_forbid_36 rfl (Nat.le_of_ble_eq_true rfl) (Nat.le_of_ble_eq_true rfl) (Nat.le_of_ble_eq_true rfl) (fun _ z => met_X1_checkState hO S s0 z) (fun r8 hr8 => ?_)
  refine v_aload_n C dX1_forbid_39 0 rfl ?_
  refine v_aload_n C dX1_forbid_40 0 rfl ?_
  refine g_getA C dX1_forbid_41 cls_1 (Nat.le_of_ble_eq_true rfl) fl_X1_39 fs_X1_39 (fun y9 hy9 => ?_)
  refine g_new C dX1_forbid_44 cls_5 q1742 q1679 q140 dfok_5 (fun r10 hr10 => ?_)
  refine v_dup C dX1_forbid_47 rfl ?_
  refine v_iload_n C dX1_forbid_48 1 rfl ?_
  refine v_iload_n C dX1_forbid_49 2 rfl ?_
  refine v_iload_n C dX1_forbid_50 3 rfl ?_
  refine v_callI_mv C (As := [.int x1, .int x2, .int x3]) (st := [.ref (r10.1), .ref y9, .ref x0]) lk_X1_171 dX1_forbid_51 rfl (Nat.le_of_ble_eq_true rfl) (Nat.le_of_ble_eq_true rfl) (Nat.le_of_ble_eq_true rfl) (fun _ z => met_X6_init hO r10.2 (r10.1) x1 x2 x3 z) (fun r11 hr11 => ?_)
  refine g_callV_ma C (As := [.ref (r10.1)]) (st := [.ref x0]) lk_X1_172 dX1_forbid_54 rfl (Nat.le_of_ble_eq_true rfl) (Nat.le_of_ble_eq_true rfl) (Nat.le_of_ble_eq_true rfl) cls_2.1 rfl (fun _ z => rc_X2_withStretch z) (fun _ z => met_X2_withStretch hO r11 y9 (r10.1) z) (fun r12 hr12 => ?_)
  refine g_callV_mv C (As := [.ref (r12.1)]) (st := []) lk_X1_118 dX1_forbid_57 rfl (Nat.le_of_ble_eq_true rfl) (Nat.le_of_ble_eq_true rfl) (Nat.le_of_ble_eq_true rfl) cls_1.1 rfl (fun _ z => rc_X1_become z) (fun _ z => met_X1_become hO F r12.2 x0 (r12.1) z) (fun r13 hr13 => ?_)
  refine v_aload_n C dX1_forbid_60 0 rfl ?_
  refine g_getA C dX1_forbid_61 cls_1 (Nat.le_of_ble_eq_true rfl) fl_X1_39 fs_X1_39 (fun y14 hy14 => ?_)
  refine g_getA C dX1_forbid_64 cls_2 (Nat.le_of_ble_eq_true rfl) fl_X1_144 fs_X1_144 (fun y15 hy15 => ?_)
  refine g_alen (kd := 4) (fun _ => rfl) C dX1_forbid_67 (fun y16 hy16 => ?_)
  refine v_iconst C dX1_forbid_68 ci_1 ?_
  refine v_isub C dX1_forbid_69 ?_
  exact v_ireturn C hm dX1_forbid_70 rfl
theorem met_X1_forbid {P : GP} {l : Launch} (hO : okG P) (F : Nat) (S : St) (x0 : Nat) (x1 : Int32) (x2 : Int32) (x3 : Int32) {r : Int32 × St} (h : C_X1_forbid F S x0 x1 x2 x3 = some r) : FM l (OG P) yX1_forbid (ws_ yX1_forbid cX1_forbid 4 (some .int)) 7 169 [.ref x0, .int x1, .int x2, .int x3] S (f_mi r) := by
  refine FM.of (own := RX1) (lv := [(0, .ref x0), (1, .int x1), (2, .int x2), (3, .int x3)]) (OG_ok P hO) pl_X1 rfl (Nat.le_of_ble_eq_true rfl) rfl h (mono_X1_forbid h).LE (fun X C hm => ?_)
  unfold C_X1_forbid
  refine VF.bind (fun _ _ => ?_)
  refine v_aload_n C dX1_forbid_0 0 rfl ?_
  refine v_iload_n C dX1_forbid_1 1 rfl ?_
  refine g_callV_rv C (As := [.int x1]) (st := []) lk_X1_141 dX1_forbid_2 rfl (Nat.le_of_ble_eq_true rfl) (Nat.le_of_ble_eq_true rfl) (Nat.le_of_ble_eq_true rfl) cls_1.1 rfl (fun _ z => rc_X1_checkEdge z) (fun _ z => met_X1_checkEdge hO S x0 x1 z) (fun r1 hr1 => ?_)
  refine v_aload_n C dX1_forbid_5 0 rfl ?_
  refine g_getA C dX1_forbid_6 cls_1 (Nat.le_of_ble_eq_true rfl) fl_X1_39 fs_X1_39 (fun y2 hy2 => ?_)
  refine v_iload_n C dX1_forbid_9 1 rfl ?_
  refine v_iload_n C dX1_forbid_10 2 rfl ?_
  refine v_iload_n C dX1_forbid_11 3 rfl ?_
  refine g_callV_ri C (As := [.int x1, .int x2, .int x3]) (st := []) lk_X1_166 dX1_forbid_12 rfl (Nat.le_of_ble_eq_true rfl) (Nat.le_of_ble_eq_true rfl) (Nat.le_of_ble_eq_true rfl) cls_2.1 rfl (fun _ z => rc_X2_mayForbid z) (fun _ z => met_X2_mayForbid hO S y2 x1 x2 x3 z) (fun r3 hr3 => ?_)
  refine v_callS_rv C (As := [.int r3]) (st := []) lk_X1_115 dX1_forbid_15 rfl (Nat.le_of_ble_eq_true rfl) (Nat.le_of_ble_eq_true rfl) (Nat.le_of_ble_eq_true rfl) (fun _ z => met_X1_checkThat hO S r3 z) (fun r4 hr4 => ?_)
  refine v_aload_n C dX1_forbid_18 0 rfl ?_
  refine g_getA C dX1_forbid_19 cls_1 (Nat.le_of_ble_eq_true rfl) fl_X1_39 fs_X1_39 (fun y5 hy5 => ?_)
  refine g_getA C dX1_forbid_22 cls_2 (Nat.le_of_ble_eq_true rfl) fl_X1_144 fs_X1_144 (fun y6 hy6 => ?_)
  refine g_alen (kd := 4) (fun _ => rfl) C dX1_forbid_25 (fun y7 hy7 => ?_)
  refine v_bipush C dX1_forbid_26 cb_6 ?_
  refine v_icmp_ge C (tgt := 35) dX1_forbid_28 rfl (fun _ => ?_) (fun _ => ?_)
  · refine v_iconst C dX1_forbid_35 ci_0 ?_
    exact v_sub [0, 1, 2, 3] rfl (w_X1_forbid_36 hO C hm 0 S)
  · refine v_iconst C dX1_forbid_31 ci_1 ?_
    refine v_goto C (tgt := 36) dX1_forbid_32 rfl ?_
    exact v_sub [0, 1, 2, 3] rfl (w_X1_forbid_36 hO C hm 1 S)
theorem met_X1_checkStretch {P : GP} {l : Launch} (hO : okG P) (S : St) (x0 : Nat) (x1 : Int32) {r : Unit} (h : C_X1_checkStretch S x0 x1 = some r) : FM l (OG P) yX1_checkStretch (ws_ yX1_checkStretch cX1_checkStretch 2 none) 1 22 [.ref x0, .int x1] S ((f_rv S) r) := by
  refine FM.of (own := RX1) (lv := [(0, .ref x0), (1, .int x1)]) (OG_ok P hO) pl_X1 rfl (Nat.le_of_ble_eq_true rfl) rfl h LE.rf (fun X C hm => ?_)
  unfold C_X1_checkStretch
  refine VF.bind (fun _ _ => ?_)
  refine v_iload_n C dX1_checkStretch_0 1 rfl ?_
  refine v_iconst C dX1_checkStretch_1 ci_0 ?_
  refine v_aload_n C dX1_checkStretch_2 0 rfl ?_
  refine g_getA C dX1_checkStretch_3 cls_1 (Nat.le_of_ble_eq_true rfl) fl_X1_39 fs_X1_39 (fun y1 hy1 => ?_)
  refine g_getA C dX1_checkStretch_6 cls_2 (Nat.le_of_ble_eq_true rfl) fl_X1_144 fs_X1_144 (fun y2 hy2 => ?_)
  refine g_alen (kd := 4) (fun _ => rfl) C dX1_checkStretch_9 (fun y3 hy3 => ?_)
  refine v_iconst C dX1_checkStretch_10 ci_1 ?_
  refine v_isub C dX1_checkStretch_11 ?_
  refine v_callS_ri C (As := [.int x1, .int 0, .int (y3 - 1)]) (st := []) lk_X1_87 dX1_checkStretch_12 rfl (Nat.le_of_ble_eq_true rfl) (Nat.le_of_ble_eq_true rfl) (Nat.le_of_ble_eq_true rfl) (fun _ z => met_X1_isIn hO S x1 0 (y3 - 1) z) (fun r4 hr4 => ?_)
  refine v_callS_rv C (As := [.int r4]) (st := []) lk_X1_79 dX1_checkStretch_15 rfl (Nat.le_of_ble_eq_true rfl) (Nat.le_of_ble_eq_true rfl) (Nat.le_of_ble_eq_true rfl) (fun _ z => met_X1_checkIndex hO S r4 z) (fun r5 hr5 => ?_)
  exact v_vreturn C hm dX1_checkStretch_18 rfl
theorem mono_X2_withoutStretch {S : St} {x0 : Nat} {x1 : Int32} {r : Nat × St} (h : C_X2_withoutStretch S x0 x1 = some r) : leG S r.2 := by
  have q : MF mf_p (C_X2_withoutStretch S x0 x1) S := by
    unfold C_X2_withoutStretch
    refine mf_bind (fun _ _ => ?_)
    refine mf_bind (fun y1 hy1 => ?_)
    refine mf_bind (fun y2 hy2 => ?_)
    refine mf_nQ_ (fun r3 hr3 => ?_)
    refine mf_bind (fun y4 hy4 => ?_)
    refine mf_cQ (fun S5 hS5 => ?_)
    refine mf_bind (fun y6 hy6 => ?_)
    refine mf_bind (fun y7 hy7 => ?_)
    refine mf_cQ (fun S8 hS8 => ?_)
    refine mf_new (fun r9 hr9 => ?_)
    refine mf_bind (fun y10 hy10 => ?_)
    refine mf_bind (fun y11 hy11 => ?_)
    refine mf_bind (fun y12 hy12 => ?_)
    refine mf_callv (fun _ z => mono_X2_init_2 z) (fun r13 hr13 => ?_)
    exact mf_ret leG.rf
  exact q r h
theorem met_X2_withoutStretch {P : GP} {l : Launch} (hO : okG P) (S : St) (x0 : Nat) (x1 : Int32) {r : Nat × St} (h : C_X2_withoutStretch S x0 x1 = some r) : FM l (OG P) yX2_withoutStretch (ws_ yX2_withoutStretch cX2_withoutStretch 3 (some (.object "NetworkCenters$Network"))) 2 58 [.ref x0, .int x1] S (f_ma r) := by
  refine FM.of (own := RX2) (lv := [(0, .ref x0), (1, .int x1)]) (OG_ok P hO) pl_X2 rfl (Nat.le_of_ble_eq_true rfl) rfl h (mono_X2_withoutStretch h).LE (fun X C hm => ?_)
  unfold C_X2_withoutStretch
  refine VF.bind (fun _ _ => ?_)
  refine v_aload_n C dX2_withoutStretch_0 0 rfl ?_
  refine g_getA C dX2_withoutStretch_1 cls_2 (Nat.le_of_ble_eq_true rfl) fl_X2_29 fs_X2_29 (fun y1 hy1 => ?_)
  refine g_alen (kd := 4) (fun _ => rfl) C dX2_withoutStretch_4 (fun y2 hy2 => ?_)
  refine v_iconst C dX2_withoutStretch_5 ci_1 ?_
  refine v_isub C dX2_withoutStretch_6 ?_
  refine g_naQ4 C dX2_withoutStretch_7 q166 (fun r3 hr3 => ?_)
  refine v_astore_n C (lv' := [(2, .ref (r3.1)), (0, .ref x0), (1, .int x1)]) dX2_withoutStretch_10 (Nat.le_of_ble_eq_true rfl) rfl ?_
  refine v_aload_n C dX2_withoutStretch_11 1 rfl ?_
  refine g_getA C dX2_withoutStretch_12 cls_2 (Nat.le_of_ble_eq_true rfl) fl_X2_29 fs_X2_29 (fun y4 hy4 => ?_)
  refine v_iconst C dX2_withoutStretch_15 ci_0 ?_
  refine v_aload_n C dX2_withoutStretch_16 0 rfl ?_
  refine v_iconst C dX2_withoutStretch_17 ci_0 ?_
  refine v_iload_n C dX2_withoutStretch_18 2 rfl ?_
  refine g_cpQ4 C dX2_withoutStretch_19 lkC_X2_50 (Nat.le_of_ble_eq_true rfl) (Nat.le_of_ble_eq_true rfl) (fun S5 hS5 => ?_)
  refine v_aload_n C dX2_withoutStretch_22 1 rfl ?_
  refine g_getA C dX2_withoutStretch_23 cls_2 (Nat.le_of_ble_eq_true rfl) fl_X2_29 fs_X2_29 (fun y6 hy6 => ?_)
  refine v_iload_n C dX2_withoutStretch_26 2 rfl ?_
  refine v_iconst C dX2_withoutStretch_27 ci_1 ?_
  refine v_iadd C dX2_withoutStretch_28 ?_
  refine v_aload_n C dX2_withoutStretch_29 0 rfl ?_
  refine v_iload_n C dX2_withoutStretch_30 2 rfl ?_
  refine v_aload_n C dX2_withoutStretch_31 0 rfl ?_
  refine g_alen (kd := 4) (fun _ => rfl) C dX2_withoutStretch_32 (fun y7 hy7 => ?_)
  refine v_iload_n C dX2_withoutStretch_33 2 rfl ?_
  refine v_isub C dX2_withoutStretch_34 ?_
  refine g_cpQ4 C dX2_withoutStretch_35 lkC_X2_50 (Nat.le_of_ble_eq_true rfl) (Nat.le_of_ble_eq_true rfl) (fun S8 hS8 => ?_)
  refine g_new C dX2_withoutStretch_38 cls_2 q1360 q160 q106 dfok_2 (fun r9 hr9 => ?_)
  refine v_dup C dX2_withoutStretch_41 rfl ?_
  refine v_aload_n C dX2_withoutStretch_42 1 rfl ?_
  refine g_getA C dX2_withoutStretch_43 cls_2 (Nat.le_of_ble_eq_true rfl) fl_X2_13 fs_X2_13 (fun y10 hy10 => ?_)
  refine v_aload_n C dX2_withoutStretch_46 1 rfl ?_
  refine g_getA C dX2_withoutStretch_47 cls_2 (Nat.le_of_ble_eq_true rfl) fl_X2_22 fs_X2_22 (fun y11 hy11 => ?_)
  refine v_aload_n C dX2_withoutStretch_50 1 rfl ?_
  refine g_getA C dX2_withoutStretch_51 cls_2 (Nat.le_of_ble_eq_true rfl) fl_X2_25 fs_X2_25 (fun y12 hy12 => ?_)
  refine v_aload_n C dX2_withoutStretch_54 0 rfl ?_
  refine v_callI_mv C (As := [.ref y10, .ref y11, .ref y12, .ref (r3.1)]) (st := [.ref (r9.1)]) lk_X2_7 dX2_withoutStretch_55 rfl (Nat.le_of_ble_eq_true rfl) (Nat.le_of_ble_eq_true rfl) (Nat.le_of_ble_eq_true rfl) (fun _ z => met_X2_init_2 hO r9.2 (r9.1) y10 y11 y12 (r3.1) z) (fun r13 hr13 => ?_)
  exact v_areturn C hm dX2_withoutStretch_58 (Or.inl ⟨_, rfl⟩) (Or.inr ⟨_, rfl⟩) rfl
theorem mono_X1_allow {F : Nat} {S : St} {x0 : Nat} {x1 : Int32} {r : Int32 × St} (h : C_X1_allow F S x0 x1 = some r) : leG S r.2 := by
  have q : MF mf_p (C_X1_allow F S x0 x1) S := by
    unfold C_X1_allow
    refine mf_bind (fun _ _ => ?_)
    refine mf_bind (fun r1 hr1 => ?_)
    refine mf_bind (fun y2 hy2 => ?_)
    refine mf_bind (fun y3 hy3 => ?_)
    refine mf_bind (fun y4 hy4 => ?_)
    refine mf_bind (fun y5 hy5 => ?_)
    refine mf_bind (fun y6 hy6 => ?_)
    refine mf_call (fun _ z => mono_X2_withoutStretch z) (fun r7 hr7 => ?_)
    refine mf_callv (fun _ z => mono_X1_become z) (fun r8 hr8 => ?_)
    exact mf_ret leG.rf
  exact q r h
theorem met_X1_allow {P : GP} {l : Launch} (hO : okG P) (F : Nat) (S : St) (x0 : Nat) (x1 : Int32) {r : Int32 × St} (h : C_X1_allow F S x0 x1 = some r) : FM l (OG P) yX1_allow (ws_ yX1_allow cX1_allow 3 (some .int)) 7 169 [.ref x0, .int x1] S (f_mi r) := by
  refine FM.of (own := RX1) (lv := [(0, .ref x0), (1, .int x1)]) (OG_ok P hO) pl_X1 rfl (Nat.le_of_ble_eq_true rfl) rfl h (mono_X1_allow h).LE (fun X C hm => ?_)
  unfold C_X1_allow
  refine VF.bind (fun _ _ => ?_)
  refine v_aload_n C dX1_allow_0 0 rfl ?_
  refine v_iload_n C dX1_allow_1 1 rfl ?_
  refine g_callV_rv C (As := [.int x1]) (st := []) lk_X1_176 dX1_allow_2 rfl (Nat.le_of_ble_eq_true rfl) (Nat.le_of_ble_eq_true rfl) (Nat.le_of_ble_eq_true rfl) cls_1.1 rfl (fun _ z => rc_X1_checkStretch z) (fun _ z => met_X1_checkStretch hO S x0 x1 z) (fun r1 hr1 => ?_)
  refine v_aload_n C dX1_allow_5 0 rfl ?_
  refine g_getA C dX1_allow_6 cls_1 (Nat.le_of_ble_eq_true rfl) fl_X1_39 fs_X1_39 (fun y2 hy2 => ?_)
  refine g_getA C dX1_allow_9 cls_2 (Nat.le_of_ble_eq_true rfl) fl_X1_144 fs_X1_144 (fun y3 hy3 => ?_)
  refine v_iload_n C dX1_allow_12 1 rfl ?_
  refine g_aalA4 C dX1_allow_13 (fun y4 hy4 => ?_)
  refine g_getI C dX1_allow_14 cls_5 (Nat.le_of_ble_eq_true rfl) fl_X1_179 fs_X1_179 (fun y5 hy5 => ?_)
  refine v_istore_n C (lv' := [(2, .int y5), (0, .ref x0), (1, .int x1)]) dX1_allow_17 (Nat.le_of_ble_eq_true rfl) rfl ?_
  refine v_aload_n C dX1_allow_18 1 rfl ?_
  refine v_aload_n C dX1_allow_19 1 rfl ?_
  refine g_getA C dX1_allow_20 cls_1 (Nat.le_of_ble_eq_true rfl) fl_X1_39 fs_X1_39 (fun y6 hy6 => ?_)
  refine v_iload_n C dX1_allow_23 2 rfl ?_
  refine g_callV_ma C (As := [.int x1]) (st := [.ref x0]) lk_X1_182 dX1_allow_24 rfl (Nat.le_of_ble_eq_true rfl) (Nat.le_of_ble_eq_true rfl) (Nat.le_of_ble_eq_true rfl) cls_2.1 rfl (fun _ z => rc_X2_withoutStretch z) (fun _ z => met_X2_withoutStretch hO S y6 x1 z) (fun r7 hr7 => ?_)
  refine g_callV_mv C (As := [.ref (r7.1)]) (st := []) lk_X1_118 dX1_allow_27 rfl (Nat.le_of_ble_eq_true rfl) (Nat.le_of_ble_eq_true rfl) (Nat.le_of_ble_eq_true rfl) cls_1.1 rfl (fun _ z => rc_X1_become z) (fun _ z => met_X1_become hO F r7.2 x0 (r7.1) z) (fun r8 hr8 => ?_)
  refine v_iload_n C dX1_allow_30 0 rfl ?_
  exact v_ireturn C hm dX1_allow_31 rfl
theorem met_X1_count {P : GP} {l : Launch} (hO : okG P) (F : Nat) (S : St) (x0 : Nat) (x1 : Int32) {r : Int32} (h : C_X1_count F S x0 x1 = some r) : FM l (OG P) yX1_count (ws_ yX1_count cX1_count 2 (some .int)) 3 65 [.ref x0, .int x1] S ((f_ri S) r) := by
  refine FM.of (own := RX1) (lv := [(0, .ref x0), (1, .int x1)]) (OG_ok P hO) pl_X1 rfl (Nat.le_of_ble_eq_true rfl) rfl h LE.rf (fun X C hm => ?_)
  unfold C_X1_count
  refine VF.bind (fun _ _ => ?_)
  refine v_iload_n C dX1_count_0 1 rfl ?_
  refine v_iconst C dX1_count_1 ci_0 ?_
  refine v_iconst C dX1_count_2 ci_3 ?_
  refine v_callS_ri C (As := [.int x1, .int 0, .int 3]) (st := []) lk_X1_87 dX1_count_3 rfl (Nat.le_of_ble_eq_true rfl) (Nat.le_of_ble_eq_true rfl) (Nat.le_of_ble_eq_true rfl) (fun _ z => met_X1_isIn hO S x1 0 3 z) (fun r1 hr1 => ?_)
  refine v_callS_rv C (As := [.int r1]) (st := []) lk_X1_115 dX1_count_6 rfl (Nat.le_of_ble_eq_true rfl) (Nat.le_of_ble_eq_true rfl) (Nat.le_of_ble_eq_true rfl) (fun _ z => met_X1_checkThat hO S r1 z) (fun r2 hr2 => ?_)
  refine v_aload_n C dX1_count_9 0 rfl ?_
  refine v_iload_n C dX1_count_10 1 rfl ?_
  refine g_callV_ri C (As := [.int x1]) (st := []) lk_X1_189 dX1_count_11 rfl (Nat.le_of_ble_eq_true rfl) (Nat.le_of_ble_eq_true rfl) (Nat.le_of_ble_eq_true rfl) cls_1.1 rfl (fun _ z => rc_X1_counted z) (fun _ z => met_X1_counted hO F S x0 x1 z) (fun r3 hr3 => ?_)
  exact v_ireturn C hm dX1_count_14 rfl
theorem met_X1_edge {P : GP} {l : Launch} (hO : okG P) (S : St) (x0 : Nat) (x1 : Int32) (x2 : Int32) {r : Int32} (h : C_X1_edge S x0 x1 x2 = some r) : FM l (OG P) yX1_edge (ws_ yX1_edge cX1_edge 3 (some .int)) 2 43 [.ref x0, .int x1, .int x2] S ((f_ri S) r) := by
  refine FM.of (own := RX1) (lv := [(0, .ref x0), (1, .int x1), (2, .int x2)]) (OG_ok P hO) pl_X1 rfl (Nat.le_of_ble_eq_true rfl) rfl h LE.rf (fun X C hm => ?_)
  unfold C_X1_edge
  refine VF.bind (fun _ _ => ?_)
  refine v_aload_n C dX1_edge_0 0 rfl ?_
  refine v_iload_n C dX1_edge_1 1 rfl ?_
  refine g_callV_rv C (As := [.int x1]) (st := []) lk_X1_141 dX1_edge_2 rfl (Nat.le_of_ble_eq_true rfl) (Nat.le_of_ble_eq_true rfl) (Nat.le_of_ble_eq_true rfl) cls_1.1 rfl (fun _ z => rc_X1_checkEdge z) (fun _ z => met_X1_checkEdge hO S x0 x1 z) (fun r1 hr1 => ?_)
  refine v_iload_n C dX1_edge_5 2 rfl ?_
  refine v_iconst C dX1_edge_6 ci_0 ?_
  refine v_iconst C dX1_edge_7 ci_2 ?_
  refine v_callS_ri C (As := [.int x2, .int 0, .int 2]) (st := []) lk_X1_87 dX1_edge_8 rfl (Nat.le_of_ble_eq_true rfl) (Nat.le_of_ble_eq_true rfl) (Nat.le_of_ble_eq_true rfl) (fun _ z => met_X1_isIn hO S x2 0 2 z) (fun r2 hr2 => ?_)
  refine v_callS_rv C (As := [.int r2]) (st := []) lk_X1_115 dX1_edge_11 rfl (Nat.le_of_ble_eq_true rfl) (Nat.le_of_ble_eq_true rfl) (Nat.le_of_ble_eq_true rfl) (fun _ z => met_X1_checkThat hO S r2 z) (fun r3 hr3 => ?_)
  refine v_aload_n C dX1_edge_14 0 rfl ?_
  refine g_getA C dX1_edge_15 cls_1 (Nat.le_of_ble_eq_true rfl) fl_X1_39 fs_X1_39 (fun y4 hy4 => ?_)
  refine g_getA C dX1_edge_18 cls_2 (Nat.le_of_ble_eq_true rfl) fl_X1_83 fs_X1_83 (fun y5 hy5 => ?_)
  refine v_iload_n C dX1_edge_21 1 rfl ?_
  refine g_aalA3 C dX1_edge_22 (fun y6 hy6 => ?_)
  refine v_iload_n C dX1_edge_23 2 rfl ?_
  refine g_callV_ri C (As := [.int x2]) (st := []) lk_X1_193 dX1_edge_24 rfl (Nat.le_of_ble_eq_true rfl) (Nat.le_of_ble_eq_true rfl) (Nat.le_of_ble_eq_true rfl) cls_4.1 rfl (fun _ z => rc_X5_property z) (fun _ z => met_X5_property hO S y6 x2 z) (fun r7 hr7 => ?_)
  exact v_ireturn C hm dX1_edge_27 rfl
theorem met_X1_node {P : GP} {l : Launch} (hO : okG P) (F : Nat) (S : St) (x0 : Nat) (x1 : Int32) (x2 : Int32) {r : Int32} (h : C_X1_node F S x0 x1 x2 = some r) : FM l (OG P) yX1_node (ws_ yX1_node cX1_node 3 (some .int)) 3 64 [.ref x0, .int x1, .int x2] S ((f_ri S) r) := by
  refine FM.of (own := RX1) (lv := [(0, .ref x0), (1, .int x1), (2, .int x2)]) (OG_ok P hO) pl_X1 rfl (Nat.le_of_ble_eq_true rfl) rfl h LE.rf (fun X C hm => ?_)
  unfold C_X1_node
  refine VF.bind (fun _ _ => ?_)
  refine v_aload_n C dX1_node_0 0 rfl ?_
  refine v_iload_n C dX1_node_1 1 rfl ?_
  refine g_callV_rv C (As := [.int x1]) (st := []) lk_X1_121 dX1_node_2 rfl (Nat.le_of_ble_eq_true rfl) (Nat.le_of_ble_eq_true rfl) (Nat.le_of_ble_eq_true rfl) cls_1.1 rfl (fun _ z => rc_X1_checkNode z) (fun _ z => met_X1_checkNode hO S x0 x1 z) (fun r1 hr1 => ?_)
  refine v_iload_n C dX1_node_5 2 rfl ?_
  refine v_iconst C dX1_node_6 ci_0 ?_
  refine v_iconst C dX1_node_7 ci_2 ?_
  refine v_callS_ri C (As := [.int x2, .int 0, .int 2]) (st := []) lk_X1_87 dX1_node_8 rfl (Nat.le_of_ble_eq_true rfl) (Nat.le_of_ble_eq_true rfl) (Nat.le_of_ble_eq_true rfl) (fun _ z => met_X1_isIn hO S x2 0 2 z) (fun r2 hr2 => ?_)
  refine v_callS_rv C (As := [.int r2]) (st := []) lk_X1_115 dX1_node_11 rfl (Nat.le_of_ble_eq_true rfl) (Nat.le_of_ble_eq_true rfl) (Nat.le_of_ble_eq_true rfl) (fun _ z => met_X1_checkThat hO S r2 z) (fun r3 hr3 => ?_)
  refine v_aload_n C dX1_node_14 0 rfl ?_
  refine v_iload_n C dX1_node_15 1 rfl ?_
  refine v_iload_n C dX1_node_16 2 rfl ?_
  refine g_callV_ri C (As := [.int x1, .int x2]) (st := []) lk_X1_199 dX1_node_17 rfl (Nat.le_of_ble_eq_true rfl) (Nat.le_of_ble_eq_true rfl) (Nat.le_of_ble_eq_true rfl) cls_1.1 rfl (fun _ z => rc_X1_propertyOf z) (fun _ z => met_X1_propertyOf hO F S x0 x1 x2 z) (fun r4 hr4 => ?_)
  exact v_ireturn C hm dX1_node_20 rfl
theorem met_X1_stretch {P : GP} {l : Launch} (hO : okG P) (S : St) (x0 : Nat) (x1 : Int32) (x2 : Int32) {r : Int32} (h : C_X1_stretch S x0 x1 x2 = some r) : FM l (OG P) yX1_stretch (ws_ yX1_stretch cX1_stretch 3 (some .int)) 2 43 [.ref x0, .int x1, .int x2] S ((f_ri S) r) := by
  refine FM.of (own := RX1) (lv := [(0, .ref x0), (1, .int x1), (2, .int x2)]) (OG_ok P hO) pl_X1 rfl (Nat.le_of_ble_eq_true rfl) rfl h LE.rf (fun X C hm => ?_)
  unfold C_X1_stretch
  refine VF.bind (fun _ _ => ?_)
  refine v_aload_n C dX1_stretch_0 0 rfl ?_
  refine v_iload_n C dX1_stretch_1 1 rfl ?_
  refine g_callV_rv C (As := [.int x1]) (st := []) lk_X1_176 dX1_stretch_2 rfl (Nat.le_of_ble_eq_true rfl) (Nat.le_of_ble_eq_true rfl) (Nat.le_of_ble_eq_true rfl) cls_1.1 rfl (fun _ z => rc_X1_checkStretch z) (fun _ z => met_X1_checkStretch hO S x0 x1 z) (fun r1 hr1 => ?_)
  refine v_iload_n C dX1_stretch_5 2 rfl ?_
  refine v_iconst C dX1_stretch_6 ci_0 ?_
  refine v_iconst C dX1_stretch_7 ci_2 ?_
  refine v_callS_ri C (As := [.int x2, .int 0, .int 2]) (st := []) lk_X1_87 dX1_stretch_8 rfl (Nat.le_of_ble_eq_true rfl) (Nat.le_of_ble_eq_true rfl) (Nat.le_of_ble_eq_true rfl) (fun _ z => met_X1_isIn hO S x2 0 2 z) (fun r2 hr2 => ?_)
  refine v_callS_rv C (As := [.int r2]) (st := []) lk_X1_115 dX1_stretch_11 rfl (Nat.le_of_ble_eq_true rfl) (Nat.le_of_ble_eq_true rfl) (Nat.le_of_ble_eq_true rfl) (fun _ z => met_X1_checkThat hO S r2 z) (fun r3 hr3 => ?_)
  refine v_aload_n C dX1_stretch_14 0 rfl ?_
  refine g_getA C dX1_stretch_15 cls_1 (Nat.le_of_ble_eq_true rfl) fl_X1_39 fs_X1_39 (fun y4 hy4 => ?_)
  refine g_getA C dX1_stretch_18 cls_2 (Nat.le_of_ble_eq_true rfl) fl_X1_144 fs_X1_144 (fun y5 hy5 => ?_)
  refine v_iload_n C dX1_stretch_21 1 rfl ?_
  refine g_aalA4 C dX1_stretch_22 (fun y6 hy6 => ?_)
  refine v_iload_n C dX1_stretch_23 2 rfl ?_
  refine g_callV_ri C (As := [.int x2]) (st := []) lk_X1_203 dX1_stretch_24 rfl (Nat.le_of_ble_eq_true rfl) (Nat.le_of_ble_eq_true rfl) (Nat.le_of_ble_eq_true rfl) cls_5.1 rfl (fun _ z => rc_X6_property z) (fun _ z => met_X6_property hO S y6 x2 z) (fun r7 hr7 => ?_)
  exact v_ireturn C hm dX1_stretch_27 rfl
theorem met_X1_distance {P : GP} {l : Launch} (hO : okG P) (S : St) (x0 : Nat) (x1 : Int32) (x2 : Int32) {r : Int32} (h : C_X1_distance S x0 x1 x2 = some r) : FM l (OG P) yX1_distance (ws_ yX1_distance cX1_distance 3 (some .int)) 3 64 [.ref x0, .int x1, .int x2] S ((f_ri S) r) := by
  refine FM.of (own := RX1) (lv := [(0, .ref x0), (1, .int x1), (2, .int x2)]) (OG_ok P hO) pl_X1 rfl (Nat.le_of_ble_eq_true rfl) rfl h LE.rf (fun X C hm => ?_)
  unfold C_X1_distance
  refine VF.bind (fun _ _ => ?_)
  refine v_aload_n C dX1_distance_0 0 rfl ?_
  refine v_iload_n C dX1_distance_1 1 rfl ?_
  refine g_callV_rv C (As := [.int x1]) (st := []) lk_X1_121 dX1_distance_2 rfl (Nat.le_of_ble_eq_true rfl) (Nat.le_of_ble_eq_true rfl) (Nat.le_of_ble_eq_true rfl) cls_1.1 rfl (fun _ z => rc_X1_checkNode z) (fun _ z => met_X1_checkNode hO S x0 x1 z) (fun r1 hr1 => ?_)
  refine v_aload_n C dX1_distance_5 0 rfl ?_
  refine v_iload_n C dX1_distance_6 2 rfl ?_
  refine g_callV_rv C (As := [.int x2]) (st := []) lk_X1_121 dX1_distance_7 rfl (Nat.le_of_ble_eq_true rfl) (Nat.le_of_ble_eq_true rfl) (Nat.le_of_ble_eq_true rfl) cls_1.1 rfl (fun _ z => rc_X1_checkNode z) (fun _ z => met_X1_checkNode hO S x0 x2 z) (fun r2 hr2 => ?_)
  refine v_aload_n C dX1_distance_10 0 rfl ?_
  refine g_getA C dX1_distance_11 cls_1 (Nat.le_of_ble_eq_true rfl) fl_X1_48 fs_X1_48 (fun y3 hy3 => ?_)
  refine v_iload_n C dX1_distance_14 1 rfl ?_
  refine v_iload_n C dX1_distance_15 2 rfl ?_
  refine g_callV_ri C (As := [.int x1, .int x2]) (st := []) lk_X1_204 dX1_distance_16 rfl (Nat.le_of_ble_eq_true rfl) (Nat.le_of_ble_eq_true rfl) (Nat.le_of_ble_eq_true rfl) cls_3.1 rfl (fun _ z => rc_X3_distance z) (fun _ z => met_X3_distance hO S y3 x1 x2 z) (fun r4 hr4 => ?_)
  refine v_ldc C dX1_distance_19 q314 ?_
  refine v_icmp_ge C (tgt := 36) dX1_distance_21 rfl (fun _ => ?_) (fun _ => ?_)
  · refine v_iconst C dX1_distance_36 ci_m1 ?_
    exact v_ireturn C hm dX1_distance_37 rfl
  · refine v_aload_n C dX1_distance_24 0 rfl ?_
    refine g_getA C dX1_distance_25 cls_1 (Nat.le_of_ble_eq_true rfl) fl_X1_48 fs_X1_48 (fun y5 hy5 => ?_)
    refine v_iload_n C dX1_distance_28 1 rfl ?_
    refine v_iload_n C dX1_distance_29 2 rfl ?_
    refine g_callV_ri C (As := [.int x1, .int x2]) (st := []) lk_X1_204 dX1_distance_30 rfl (Nat.le_of_ble_eq_true rfl) (Nat.le_of_ble_eq_true rfl) (Nat.le_of_ble_eq_true rfl) cls_3.1 rfl (fun _ z => rc_X3_distance z) (fun _ z => met_X3_distance hO S y5 x1 x2 z) (fun r6 hr6 => ?_)
    refine v_goto C (tgt := 37) dX1_distance_33 rfl ?_
    exact v_ireturn C hm dX1_distance_37 rfl
theorem w_X1_next_159 {P : GP} {X : Ctx} {l : Launch} {F : Nat} {S : St} (hO : okG P) (C : CX (OG P) X l cX1_next 8 RX1 (some .int)) (hm : X.2.2.2.2.2.2.2.2.2 = none) {x0 : Nat} {x1 : Int32} {x2 : Int32} {x4 : Int32} (k15 : Int32 → Int32 → Option Int32) (hk15 : ∀ (z3 : Int32) (z4 : Int32), VF (OG P) X 8 3 64 S (f_ri S) (k15 z3 z4) S 15 [(0, .ref x0), (1, .int x1), (2, .int x2), (3, .int z3), (4, .int z4)] []) (s0 : Int32) : VF (OG P) X 8 3 64 S (f_ri S) (C_X1_next_159 F k15 S x0 x1 x2 x4 s0) S 159 [(0, .ref x0), (1, .int x1), (2, .int x2), (4, .int x4)] [.int s0] := by
  unfold C_X1_next_159
  refine v_istore_n C (lv' := [(3, .int s0), (0, .ref x0), (1, .int x1), (2, .int x2), (4, .int x4)]) dX1_next_159 (Nat.le_of_ble_eq_true rfl) rfl ?_
  refine v_iincN C (lv' := fun y20 => [(4, .int y20), (3, .int s0), (0, .ref x0), (1, .int x1), (2, .int x2)]) dX1_next_160 4 rfl ci_1 (Nat.le_of_ble_eq_true rfl) (fun _ => rfl) (fun y20 hy20 => ?_)
  refine v_goto C (tgt := 15) dX1_next_163 rfl ?_
  exact v_sub [2, 3, 4, 1, 0] rfl (hk15 s0 y20)
theorem w_X1_next_153 {P : GP} {X : Ctx} {l : Launch} {F : Nat} {S : St} (hO : okG P) (C : CX (OG P) X l cX1_next 8 RX1 (some .int)) (hm : X.2.2.2.2.2.2.2.2.2 = none) {x0 : Nat} {x1 : Int32} {x2 : Int32} {x4 : Int32} {x6 : Int32} (k15 : Int32 → Int32 → Option Int32) (hk15 : ∀ (z3 : Int32) (z4 : Int32), VF (OG P) X 8 3 64 S (f_ri S) (k15 z3 z4) S 15 [(0, .ref x0), (1, .int x1), (2, .int x2), (3, .int z3), (4, .int z4)] [])  : VF (OG P) X 8 3 64 S (f_ri S) (C_X1_next_153 F k15 S x0 x1 x2 x4 x6) S 153 [(0, .ref x0), (1, .int x1), (2, .int x2), (4, .int x4), (6, .int x6)] [] := by
  unfold C_X1_next_153
  refine v_iload C dX1_next_153 4 rfl ?_
  refine v_goto C (tgt := 159) dX1_next_155 rfl ?_
  exact v_sub [0, 1, 2, 3] rfl (w_X1_next_159 hO C hm k15 hk15 x6)
theorem w_X1_next_158 {P : GP} {X : Ctx} {l : Launch} {F : Nat} {S : St} (hO : okG P) (C : CX (OG P) X l cX1_next 8 RX1 (some .int)) (hm : X.2.2.2.2.2.2.2.2.2 = none) {x0 : Nat} {x1 : Int32} {x2 : Int32} {x3 : Int32} {x4 : Int32} (k15 : Int32 → Int32 → Option Int32) (hk15 : ∀ (z3 : Int32) (z4 : Int32), VF (OG P) X 8 3 64 S (f_ri S) (k15 z3 z4) S 15 [(0, .ref x0), (1, .int x1), (2, .int x2), (3, .int z3), (4, .int z4)] [])  : VF (OG P) X 8 3 64 S (f_ri S) (C_X1_next_158 F k15 S x0 x1 x2 x3 x4) S 158 [(0, .ref x0), (1, .int x1), (2, .int x2), (3, .int x3), (4, .int x4)] [] := by
  unfold C_X1_next_158
  refine v_iload_n C dX1_next_158 3 rfl ?_
  exact v_sub [0, 1, 2, 4] rfl (w_X1_next_159 hO C hm k15 hk15 x3)
theorem w_X1_next_135 {P : GP} {X : Ctx} {l : Launch} {F : Nat} {S : St} (hO : okG P) (C : CX (OG P) X l cX1_next 8 RX1 (some .int)) (hm : X.2.2.2.2.2.2.2.2.2 = none) {x0 : Nat} {x1 : Int32} {x2 : Int32} {x3 : Int32} {x4 : Int32} {x6 : Int32} (k15 : Int32 → Int32 → Option Int32) (hk15 : ∀ (z3 : Int32) (z4 : Int32), VF (OG P) X 8 3 64 S (f_ri S) (k15 z3 z4) S 15 [(0, .ref x0), (1, .int x1), (2, .int x2), (3, .int z3), (4, .int z4)] []) (s0 : Int32) : VF (OG P) X 8 3 64 S (f_ri S) (C_X1_next_135 F k15 S x0 x1 x2 x3 x4 x6 s0) S 135 [(0, .ref x0), (1, .int x1), (2, .int x2), (3, .int x3), (4, .int x4), (6, .int x6)] [.int s0] := by
  unfold C_X1_next_135
  refine v_istore C (lv' := [(7, .int s0), (0, .ref x0), (1, .int x1), (2, .int x2), (3, .int x3), (4, .int x4), (6, .int x6)]) dX1_next_135 (Nat.le_of_ble_eq_true rfl) rfl ?_
  refine v_iload C dX1_next_137 0 rfl ?_
  refine v_if_eq C (tgt := 158) dX1_next_139 rfl (fun _ => ?_) (fun _ => ?_)
  · exact v_sub [1, 2, 3, 4, 5] rfl (w_X1_next_158 hO C hm k15 hk15)
  · refine v_iload_n C dX1_next_142 4 rfl ?_
    refine v_iconst C dX1_next_143 ci_m1 ?_
    refine v_icmp_eq C (tgt := 153) dX1_next_144 rfl (fun _ => ?_) (fun _ => ?_)
    · exact v_sub [1, 2, 3, 5, 6] rfl (w_X1_next_153 hO C hm k15 hk15)
    · refine v_iload C dX1_next_147 6 rfl ?_
      refine v_iload_n C dX1_next_149 4 rfl ?_
      refine v_icmp_ge C (tgt := 158) dX1_next_150 rfl (fun _ => ?_) (fun _ => ?_)
      · exact v_sub [1, 2, 3, 4, 5] rfl (w_X1_next_158 hO C hm k15 hk15)
      · exact v_sub [1, 2, 3, 5, 6] rfl (w_X1_next_153 hO C hm k15 hk15)
theorem w_X1_next_134 {P : GP} {X : Ctx} {l : Launch} {F : Nat} {S : St} (hO : okG P) (C : CX (OG P) X l cX1_next 8 RX1 (some .int)) (hm : X.2.2.2.2.2.2.2.2.2 = none) {x0 : Nat} {x1 : Int32} {x2 : Int32} {x3 : Int32} {x4 : Int32} {x6 : Int32} (k15 : Int32 → Int32 → Option Int32) (hk15 : ∀ (z3 : Int32) (z4 : Int32), VF (OG P) X 8 3 64 S (f_ri S) (k15 z3 z4) S 15 [(0, .ref x0), (1, .int x1), (2, .int x2), (3, .int z3), (4, .int z4)] [])  : VF (OG P) X 8 3 64 S (f_ri S) (C_X1_next_134 F k15 S x0 x1 x2 x3 x4 x6) S 134 [(0, .ref x0), (1, .int x1), (2, .int x2), (3, .int x3), (4, .int x4), (6, .int x6)] [] := by
  unfold C_X1_next_134
  refine v_iconst C dX1_next_134 ci_0 ?_
  exact v_sub [0, 1, 2, 3, 4, 5] rfl (w_X1_next_135 hO C hm k15 hk15 0)
theorem w_X1_next_94 {P : GP} {X : Ctx} {l : Launch} {F : Nat} {S : St} (hO : okG P) (C : CX (OG P) X l cX1_next 8 RX1 (some .int)) (hm : X.2.2.2.2.2.2.2.2.2 = none) {x0 : Nat} {x1 : Int32} {x2 : Int32} {x3 : Int32} {x4 : Int32} {x5 : Nat} (k15 : Int32 → Int32 → Option Int32) (hk15 : ∀ (z3 : Int32) (z4 : Int32), VF (OG P) X 8 3 64 S (f_ri S) (k15 z3 z4) S 15 [(0, .ref x0), (1, .int x1), (2, .int x2), (3, .int z3), (4, .int z4)] []) (s0 : Int32) : VF (OG P) X 8 3 64 S (f_ri S) (C_X1_next_94 F k15 S x0 x1 x2 x3 x4 x5 s0) S 94 [(0, .ref x0), (1, .int x1), (2, .int x2), (3, .int x3), (4, .int x4), (5, .ref x5)] [.int s0] := by
  unfold C_X1_next_94
  refine v_istore C (lv' := [(6, .int s0), (0, .ref x0), (1, .int x1), (2, .int x2), (3, .int x3), (4, .int x4), (5, .ref x5)]) dX1_next_94 (Nat.le_of_ble_eq_true rfl) rfl ?_
  refine v_iload C dX1_next_96 0 rfl ?_
  refine v_iconst C dX1_next_98 ci_m1 ?_
  refine v_icmp_eq C (tgt := 134) dX1_next_99 rfl (fun _ => ?_) (fun _ => ?_)
  · exact v_sub [1, 2, 3, 4, 5, 0] rfl (w_X1_next_134 hO C hm k15 hk15)
  · refine v_aload C dX1_next_102 6 rfl ?_
    refine g_getI C dX1_next_104 cls_4 (Nat.le_of_ble_eq_true rfl) fl_X1_91 fs_X1_91 (fun y15 hy15 => ?_)
    refine v_aload_n C dX1_next_107 1 rfl ?_
    refine g_getA C dX1_next_108 cls_1 (Nat.le_of_ble_eq_true rfl) fl_X1_48 fs_X1_48 (fun y16 hy16 => ?_)
    refine v_iload C dX1_next_111 0 rfl ?_
    refine v_iload_n C dX1_next_113 3 rfl ?_
    refine g_callV_ri C (As := [.int s0, .int x2]) (st := [.int y15]) lk_X1_204 dX1_next_114 rfl (Nat.le_of_ble_eq_true rfl) (Nat.le_of_ble_eq_true rfl) (Nat.le_of_ble_eq_true rfl) cls_3.1 rfl (fun _ z => rc_X3_distance z) (fun _ z => met_X3_distance hO S y16 s0 x2 z) (fun r17 hr17 => ?_)
    refine v_iadd C dX1_next_117 ?_
    refine v_aload_n C dX1_next_118 1 rfl ?_
    refine g_getA C dX1_next_119 cls_1 (Nat.le_of_ble_eq_true rfl) fl_X1_48 fs_X1_48 (fun y18 hy18 => ?_)
    refine v_iload_n C dX1_next_122 2 rfl ?_
    refine v_iload_n C dX1_next_123 3 rfl ?_
    refine g_callV_ri C (As := [.int x1, .int x2]) (st := [.int (y15 + r17)]) lk_X1_204 dX1_next_124 rfl (Nat.le_of_ble_eq_true rfl) (Nat.le_of_ble_eq_true rfl) (Nat.le_of_ble_eq_true rfl) cls_3.1 rfl (fun _ z => rc_X3_distance z) (fun _ z => met_X3_distance hO S y18 x1 x2 z) (fun r19 hr19 => ?_)
    refine v_icmp_ne C (tgt := 134) dX1_next_127 rfl (fun _ => ?_) (fun _ => ?_)
    · refine v_iconst C dX1_next_130 ci_1 ?_
      refine v_goto C (tgt := 135) dX1_next_131 rfl ?_
      exact v_sub [1, 2, 3, 4, 5, 0] rfl (w_X1_next_135 hO C hm k15 hk15 1)
    · exact v_sub [1, 2, 3, 4, 5, 0] rfl (w_X1_next_134 hO C hm k15 hk15)
theorem w_X1_next_15 {P : GP} {X : Ctx} {l : Launch} {F : Nat} {S : St} (hO : okG P) (C : CX (OG P) X l cX1_next 8 RX1 (some .int)) (hm : X.2.2.2.2.2.2.2.2.2 = none) {x0 : Nat} {x1 : Int32} {x2 : Int32}  : ∀ (n : Nat) (x3 : Int32) (x4 : Int32), VF (OG P) X 8 3 64 S (f_ri S) (C_X1_next_15 F S x0 x1 x2 n x3 x4) S 15 [(0, .ref x0), (1, .int x1), (2, .int x2), (3, .int x3), (4, .int x4)] [] := by
  intro n
  induction n with
  | zero => intro x3 x4; exact VF.none
  | succ n ih =>
    intro x3 x4
    unfold C_X1_next_15
    refine v_iload C dX1_next_15 4 rfl ?_
    refine v_aload_n C dX1_next_17 0 rfl ?_
    refine g_getA C dX1_next_18 cls_1 (Nat.le_of_ble_eq_true rfl) fl_X1_39 fs_X1_39 (fun y3 hy3 => ?_)
    refine g_getA C dX1_next_21 cls_2 (Nat.le_of_ble_eq_true rfl) fl_X1_83 fs_X1_83 (fun y4 hy4 => ?_)
    refine g_alen (kd := 3) (fun _ => rfl) C dX1_next_24 (fun y5 hy5 => ?_)
    refine v_icmp_ge C (tgt := 166) dX1_next_25 rfl (fun _ => ?_) (fun _ => ?_)
    · refine v_iload_n C dX1_next_166 3 rfl ?_
      exact v_ireturn C hm dX1_next_167 rfl
    · refine v_iload_n C dX1_next_28 1 rfl ?_
      refine v_iload_n C dX1_next_29 2 rfl ?_
      refine v_icmp_eq C (tgt := 166) dX1_next_30 rfl (fun _ => ?_) (fun _ => ?_)
      · refine v_iload_n C dX1_next_166 3 rfl ?_
        exact v_ireturn C hm dX1_next_167 rfl
      · refine v_aload_n C dX1_next_33 0 rfl ?_
        refine g_getA C dX1_next_34 cls_1 (Nat.le_of_ble_eq_true rfl) fl_X1_48 fs_X1_48 (fun y6 hy6 => ?_)
        refine v_iload_n C dX1_next_37 1 rfl ?_
        refine v_iload_n C dX1_next_38 2 rfl ?_
        refine g_callV_ri C (As := [.int x1, .int x2]) (st := []) lk_X1_204 dX1_next_39 rfl (Nat.le_of_ble_eq_true rfl) (Nat.le_of_ble_eq_true rfl) (Nat.le_of_ble_eq_true rfl) cls_3.1 rfl (fun _ z => rc_X3_distance z) (fun _ z => met_X3_distance hO S y6 x1 x2 z) (fun r7 hr7 => ?_)
        refine v_ldc C dX1_next_42 q314 ?_
        refine v_icmp_ge C (tgt := 166) dX1_next_44 rfl (fun _ => ?_) (fun _ => ?_)
        · refine v_iload_n C dX1_next_166 3 rfl ?_
          exact v_ireturn C hm dX1_next_167 rfl
        · refine v_aload_n C dX1_next_47 0 rfl ?_
          refine g_getA C dX1_next_48 cls_1 (Nat.le_of_ble_eq_true rfl) fl_X1_39 fs_X1_39 (fun y8 hy8 => ?_)
          refine g_getA C dX1_next_51 cls_2 (Nat.le_of_ble_eq_true rfl) fl_X1_83 fs_X1_83 (fun y9 hy9 => ?_)
          refine v_iload C dX1_next_54 4 rfl ?_
          refine g_aalA3 C dX1_next_56 (fun y10 hy10 => ?_)
          refine v_astore C (lv' := [(5, .ref y10), (0, .ref x0), (1, .int x1), (2, .int x2), (3, .int x3), (4, .int x4)]) dX1_next_57 (Nat.le_of_ble_eq_true rfl) rfl ?_
          refine v_aload C dX1_next_59 0 rfl ?_
          refine g_getI C dX1_next_61 cls_4 (Nat.le_of_ble_eq_true rfl) fl_X1_208 fs_X1_208 (fun y11 hy11 => ?_)
          refine v_iload_n C dX1_next_64 2 rfl ?_
          refine v_icmp_ne C (tgt := 76) dX1_next_65 rfl (fun _ => ?_) (fun _ => ?_)
          · refine v_aload C dX1_next_68 0 rfl ?_
            refine g_getI C dX1_next_70 cls_4 (Nat.le_of_ble_eq_true rfl) fl_X1_211 fs_X1_211 (fun y12 hy12 => ?_)
            refine v_goto C (tgt := 94) dX1_next_73 rfl ?_
            exact v_sub [1, 2, 3, 4, 5, 0] rfl (w_X1_next_94 hO C hm (C_X1_next_15 F S x0 x1 x2 n) ih y12)
          · refine v_aload C dX1_next_76 0 rfl ?_
            refine g_getI C dX1_next_78 cls_4 (Nat.le_of_ble_eq_true rfl) fl_X1_211 fs_X1_211 (fun y13 hy13 => ?_)
            refine v_iload_n C dX1_next_81 2 rfl ?_
            refine v_icmp_ne C (tgt := 93) dX1_next_82 rfl (fun _ => ?_) (fun _ => ?_)
            · refine v_aload C dX1_next_85 0 rfl ?_
              refine g_getI C dX1_next_87 cls_4 (Nat.le_of_ble_eq_true rfl) fl_X1_208 fs_X1_208 (fun y14 hy14 => ?_)
              refine v_goto C (tgt := 94) dX1_next_90 rfl ?_
              exact v_sub [1, 2, 3, 4, 5, 0] rfl (w_X1_next_94 hO C hm (C_X1_next_15 F S x0 x1 x2 n) ih y14)
            · refine v_iconst C dX1_next_93 ci_m1 ?_
              exact v_sub [1, 2, 3, 4, 5, 0] rfl (w_X1_next_94 hO C hm (C_X1_next_15 F S x0 x1 x2 n) ih (-1))
theorem met_X1_next {P : GP} {l : Launch} (hO : okG P) (F : Nat) (S : St) (x0 : Nat) (x1 : Int32) (x2 : Int32) {r : Int32} (h : C_X1_next F S x0 x1 x2 = some r) : FM l (OG P) yX1_next (ws_ yX1_next cX1_next 8 (some .int)) 3 64 [.ref x0, .int x1, .int x2] S ((f_ri S) r) := by
  refine FM.of (own := RX1) (lv := [(0, .ref x0), (1, .int x1), (2, .int x2)]) (OG_ok P hO) pl_X1 rfl (Nat.le_of_ble_eq_true rfl) rfl h LE.rf (fun X C hm => ?_)
  unfold C_X1_next
  refine VF.bind (fun _ _ => ?_)
  refine v_aload_n C dX1_next_0 0 rfl ?_
  refine v_iload_n C dX1_next_1 1 rfl ?_
  refine g_callV_rv C (As := [.int x1]) (st := []) lk_X1_121 dX1_next_2 rfl (Nat.le_of_ble_eq_true rfl) (Nat.le_of_ble_eq_true rfl) (Nat.le_of_ble_eq_true rfl) cls_1.1 rfl (fun _ z => rc_X1_checkNode z) (fun _ z => met_X1_checkNode hO S x0 x1 z) (fun r1 hr1 => ?_)
  refine v_aload_n C dX1_next_5 0 rfl ?_
  refine v_iload_n C dX1_next_6 2 rfl ?_
  refine g_callV_rv C (As := [.int x2]) (st := []) lk_X1_121 dX1_next_7 rfl (Nat.le_of_ble_eq_true rfl) (Nat.le_of_ble_eq_true rfl) (Nat.le_of_ble_eq_true rfl) cls_1.1 rfl (fun _ z => rc_X1_checkNode z) (fun _ z => met_X1_checkNode hO S x0 x2 z) (fun r2 hr2 => ?_)
  refine v_iconst C dX1_next_10 ci_m1 ?_
  refine v_istore_n C (lv' := [(3, .int (-1)), (0, .ref x0), (1, .int x1), (2, .int x2)]) dX1_next_11 (Nat.le_of_ble_eq_true rfl) rfl ?_
  refine v_iconst C dX1_next_12 ci_0 ?_
  refine v_istore C (lv' := [(4, .int 0), (3, .int (-1)), (0, .ref x0), (1, .int x1), (2, .int x2)]) dX1_next_13 (Nat.le_of_ble_eq_true rfl) rfl ?_
  exact v_sub [2, 3, 4, 1, 0] rfl (w_X1_next_15 hO C hm F (-1) 0)
theorem met_X1_isPart {P : GP} {l : Launch} (hO : okG P) (S : St) (x0 : Int32) {r : Int32} (h : C_X1_isPart x0 = some r) : FM l (OG P) yX1_isPart (ws_ yX1_isPart cX1_isPart 1 (some .boolean)) 1 22 [.int x0] S ((f_ri S) r) := by
  refine FM.of (own := RX1) (lv := [(0, .int x0)]) (OG_ok P hO) pl_X1 rfl (Nat.le_of_ble_eq_true rfl) rfl h LE.rf (fun X C hm => ?_)
  unfold C_X1_isPart
  refine v_iload_n C dX1_isPart_0 0 rfl ?_
  refine v_iconst C dX1_isPart_1 ci_0 ?_
  refine v_iconst C dX1_isPart_2 ci_1 ?_
  refine v_callS_ri C (As := [.int x0, .int 0, .int 1]) (st := []) lk_X1_87 dX1_isPart_3 rfl (Nat.le_of_ble_eq_true rfl) (Nat.le_of_ble_eq_true rfl) (Nat.le_of_ble_eq_true rfl) (fun _ z => met_X1_isIn hO S x0 0 1 z) (fun r1 hr1 => ?_)
  refine v_zz (fun b2 hb2 => ?_)
  exact v_zreturn C hm dX1_isPart_6 hb2 rfl
theorem met_X1_isPoint {P : GP} {l : Launch} (hO : okG P) (S : St) (x0 : Nat) (x1 : Int32) (x2 : Int32) (x3 : Int32) {r : Int32} (h : C_X1_isPoint S x0 x1 x2 x3 = some r) : FM l (OG P) yX1_isPoint (ws_ yX1_isPoint cX1_isPoint 4 (some .boolean)) 1 22 [.ref x0, .int x1, .int x2, .int x3] S ((f_ri S) r) := by
  refine FM.of (own := RX1) (lv := [(0, .ref x0), (1, .int x1), (2, .int x2), (3, .int x3)]) (OG_ok P hO) pl_X1 rfl (Nat.le_of_ble_eq_true rfl) rfl h LE.rf (fun X C hm => ?_)
  unfold C_X1_isPoint
  refine VF.bind (fun _ _ => ?_)
  refine v_iload_n C dX1_isPoint_0 3 rfl ?_
  refine v_iconst C dX1_isPoint_1 ci_1 ?_
  refine v_sipush C dX1_isPoint_2 cs_1000 ?_
  refine v_callS_ri C (As := [.int x3, .int 1, .int 1000]) (st := []) lk_X1_87 dX1_isPoint_5 rfl (Nat.le_of_ble_eq_true rfl) (Nat.le_of_ble_eq_true rfl) (Nat.le_of_ble_eq_true rfl) (fun _ z => met_X1_isIn hO S x3 1 1000 z) (fun r1 hr1 => ?_)
  refine v_if_eq C (tgt := 41) dX1_isPoint_8 rfl (fun _ => ?_) (fun _ => ?_)
  · refine v_iconst C dX1_isPoint_41 ci_0 ?_
    exact v_zreturn C hm dX1_isPoint_42 (Or.inl rfl) rfl
  · refine v_iload_n C dX1_isPoint_11 2 rfl ?_
    refine v_if_lt C (tgt := 41) dX1_isPoint_12 rfl (fun _ => ?_) (fun _ => ?_)
    · refine v_iconst C dX1_isPoint_41 ci_0 ?_
      exact v_zreturn C hm dX1_isPoint_42 (Or.inl rfl) rfl
    · refine v_iload_n C dX1_isPoint_15 2 rfl ?_
      refine v_i2l C dX1_isPoint_16 ?_
      refine v_aload_n C dX1_isPoint_17 0 rfl ?_
      refine g_getA C dX1_isPoint_18 cls_1 (Nat.le_of_ble_eq_true rfl) fl_X1_39 fs_X1_39 (fun y2 hy2 => ?_)
      refine g_getA C dX1_isPoint_21 cls_2 (Nat.le_of_ble_eq_true rfl) fl_X1_83 fs_X1_83 (fun y3 hy3 => ?_)
      refine v_iload_n C dX1_isPoint_24 1 rfl ?_
      refine g_aalA3 C dX1_isPoint_25 (fun y4 hy4 => ?_)
      refine g_getI C dX1_isPoint_26 cls_4 (Nat.le_of_ble_eq_true rfl) fl_X1_91 fs_X1_91 (fun y5 hy5 => ?_)
      refine v_i2l C dX1_isPoint_29 ?_
      refine v_iload_n C dX1_isPoint_30 3 rfl ?_
      refine v_i2l C dX1_isPoint_31 ?_
      refine v_lmul C dX1_isPoint_32 ?_
      refine v_lcmp_gt C (tgt := 41) dX1_isPoint_33 dX1_isPoint_34 rfl (fun _ => ?_) (fun _ => ?_)
      · refine v_iconst C dX1_isPoint_41 ci_0 ?_
        exact v_zreturn C hm dX1_isPoint_42 (Or.inl rfl) rfl
      · refine v_iconst C dX1_isPoint_37 ci_1 ?_
        refine v_goto C (tgt := 42) dX1_isPoint_38 rfl ?_
        exact v_zreturn C hm dX1_isPoint_42 (Or.inr rfl) rfl
theorem w_X1_distanceTo_67 {P : GP} {X : Ctx} {l : Launch} {S : St} (hO : okG P) (C : CX (OG P) X l cX1_distanceTo 6 RX1 (some .int)) (hm : X.2.2.2.2.2.2.2.2.2 = none) {x0 : Nat} {x1 : Int32} {x2 : Int32} {x3 : Int32} {x4 : Int32} {x5 : Int32}  (s0 : Int32) : VF (OG P) X 6 42 1409 S (f_ri S) (C_X1_distanceTo_67 S x0 x1 x2 x3 x4 x5 s0) S 67 [(0, .ref x0), (1, .int x1), (2, .int x2), (3, .int x3), (4, .int x4), (5, .int x5)] [.int s0] := by
  unfold C_X1_distanceTo_67
  refine v_callS_rv C (As := [.int s0]) (st := []) lk_X1_131 dX1_distanceTo_67 rfl (Nat.le_of_ble_eq_true rfl) (Nat.le_of_ble_eq_true rfl) (Nat.le_of_ble_eq_true rfl) (fun _ z => met_X1_checkState hO S s0 z) (fun r12 hr12 => ?_)
  refine v_aload_n C dX1_distanceTo_70 0 rfl ?_
  refine g_getA C dX1_distanceTo_71 cls_1 (Nat.le_of_ble_eq_true rfl) fl_X1_48 fs_X1_48 (fun y13 hy13 => ?_)
  refine v_iload_n C dX1_distanceTo_74 1 rfl ?_
  refine v_iload_n C dX1_distanceTo_75 2 rfl ?_
  refine v_iload_n C dX1_distanceTo_76 3 rfl ?_
  refine v_i2l C dX1_distanceTo_77 ?_
  refine v_iload C dX1_distanceTo_78 4 rfl ?_
  refine v_i2l C dX1_distanceTo_80 ?_
  refine g_callV_rl C (As := [.int x1, .int x2, .long (((x3) : Int32).toInt64), .long (((x4) : Int32).toInt64)]) (st := []) lk_X1_226 dX1_distanceTo_81 rfl (Nat.le_of_ble_eq_true rfl) (Nat.le_of_ble_eq_true rfl) (Nat.le_of_ble_eq_true rfl) cls_3.1 rfl (fun _ z => rc_X3_distanceTo z) (fun _ z => met_X3_distanceTo hO S y13 x1 x2 (((x3) : Int32).toInt64) (((x4) : Int32).toInt64) z) (fun r14 hr14 => ?_)
  refine v_iload C dX1_distanceTo_84 4 rfl ?_
  refine v_i2l C dX1_distanceTo_86 ?_
  refine v_iload C dX1_distanceTo_87 5 rfl ?_
  refine v_callS_ri C (As := [.long r14, .long (((x4) : Int32).toInt64), .int x5]) (st := []) lk_X1_230 dX1_distanceTo_89 rfl (Nat.le_of_ble_eq_true rfl) (Nat.le_of_ble_eq_true rfl) (Nat.le_of_ble_eq_true rfl) (fun _ z => met_X1_partOf hO S r14 (((x4) : Int32).toInt64) x5 z) (fun r15 hr15 => ?_)
  exact v_ireturn C hm dX1_distanceTo_92 rfl
theorem w_X1_distanceTo_34 {P : GP} {X : Ctx} {l : Launch} {S : St} (hO : okG P) (C : CX (OG P) X l cX1_distanceTo 6 RX1 (some .int)) (hm : X.2.2.2.2.2.2.2.2.2 = none) {x0 : Nat} {x1 : Int32} {x2 : Int32} {x3 : Int32} {x4 : Int32} {x5 : Int32}  (s0 : Int32) : VF (OG P) X 6 42 1409 S (f_ri S) (C_X1_distanceTo_34 S x0 x1 x2 x3 x4 x5 s0) S 34 [(0, .ref x0), (1, .int x1), (2, .int x2), (3, .int x3), (4, .int x4), (5, .int x5)] [.int s0] := by
  unfold C_X1_distanceTo_34
  refine v_callS_rv C (As := [.int s0]) (st := []) lk_X1_115 dX1_distanceTo_34 rfl (Nat.le_of_ble_eq_true rfl) (Nat.le_of_ble_eq_true rfl) (Nat.le_of_ble_eq_true rfl) (fun _ z => met_X1_checkThat hO S s0 z) (fun r5 hr5 => ?_)
  refine v_aload_n C dX1_distanceTo_37 0 rfl ?_
  refine g_getA C dX1_distanceTo_38 cls_1 (Nat.le_of_ble_eq_true rfl) fl_X1_48 fs_X1_48 (fun y6 hy6 => ?_)
  refine v_iload_n C dX1_distanceTo_41 1 rfl ?_
  refine v_aload_n C dX1_distanceTo_42 0 rfl ?_
  refine g_getA C dX1_distanceTo_43 cls_1 (Nat.le_of_ble_eq_true rfl) fl_X1_39 fs_X1_39 (fun y7 hy7 => ?_)
  refine g_getA C dX1_distanceTo_46 cls_2 (Nat.le_of_ble_eq_true rfl) fl_X1_83 fs_X1_83 (fun y8 hy8 => ?_)
  refine v_iload_n C dX1_distanceTo_49 2 rfl ?_
  refine g_aalA3 C dX1_distanceTo_50 (fun y9 hy9 => ?_)
  refine g_getI C dX1_distanceTo_51 cls_4 (Nat.le_of_ble_eq_true rfl) fl_X1_208 fs_X1_208 (fun y10 hy10 => ?_)
  refine g_callV_ri C (As := [.int x1, .int y10]) (st := []) lk_X1_204 dX1_distanceTo_54 rfl (Nat.le_of_ble_eq_true rfl) (Nat.le_of_ble_eq_true rfl) (Nat.le_of_ble_eq_true rfl) cls_3.1 rfl (fun _ z => rc_X3_distance z) (fun _ z => met_X3_distance hO S y6 x1 y10 z) (fun r11 hr11 => ?_)
  refine v_ldc C dX1_distanceTo_57 q314 ?_
  refine v_icmp_ge C (tgt := 66) dX1_distanceTo_59 rfl (fun _ => ?_) (fun _ => ?_)
  · refine v_iconst C dX1_distanceTo_66 ci_0 ?_
    exact v_sub [0, 1, 2, 3, 4, 5] rfl (w_X1_distanceTo_67 hO C hm 0)
  · refine v_iconst C dX1_distanceTo_62 ci_1 ?_
    refine v_goto C (tgt := 67) dX1_distanceTo_63 rfl ?_
    exact v_sub [0, 1, 2, 3, 4, 5] rfl (w_X1_distanceTo_67 hO C hm 1)
theorem w_X1_distanceTo_33 {P : GP} {X : Ctx} {l : Launch} {S : St} (hO : okG P) (C : CX (OG P) X l cX1_distanceTo 6 RX1 (some .int)) (hm : X.2.2.2.2.2.2.2.2.2 = none) {x0 : Nat} {x1 : Int32} {x2 : Int32} {x3 : Int32} {x4 : Int32} {x5 : Int32}   : VF (OG P) X 6 42 1409 S (f_ri S) (C_X1_distanceTo_33 S x0 x1 x2 x3 x4 x5) S 33 [(0, .ref x0), (1, .int x1), (2, .int x2), (3, .int x3), (4, .int x4), (5, .int x5)] [] := by
  unfold C_X1_distanceTo_33
  refine v_iconst C dX1_distanceTo_33 ci_0 ?_
  exact v_sub [0, 1, 2, 3, 4, 5] rfl (w_X1_distanceTo_34 hO C hm 0)
theorem met_X1_distanceTo {P : GP} {l : Launch} (hO : okG P) (S : St) (x0 : Nat) (x1 : Int32) (x2 : Int32) (x3 : Int32) (x4 : Int32) (x5 : Int32) {r : Int32} (h : C_X1_distanceTo S x0 x1 x2 x3 x4 x5 = some r) : FM l (OG P) yX1_distanceTo (ws_ yX1_distanceTo cX1_distanceTo 6 (some .int)) 42 1409 [.ref x0, .int x1, .int x2, .int x3, .int x4, .int x5] S ((f_ri S) r) := by
  refine FM.of (own := RX1) (lv := [(0, .ref x0), (1, .int x1), (2, .int x2), (3, .int x3), (4, .int x4), (5, .int x5)]) (OG_ok P hO) pl_X1 rfl (Nat.le_of_ble_eq_true rfl) rfl h LE.rf (fun X C hm => ?_)
  unfold C_X1_distanceTo
  refine VF.bind (fun _ _ => ?_)
  refine v_aload_n C dX1_distanceTo_0 0 rfl ?_
  refine v_iload_n C dX1_distanceTo_1 1 rfl ?_
  refine g_callV_rv C (As := [.int x1]) (st := []) lk_X1_121 dX1_distanceTo_2 rfl (Nat.le_of_ble_eq_true rfl) (Nat.le_of_ble_eq_true rfl) (Nat.le_of_ble_eq_true rfl) cls_1.1 rfl (fun _ z => rc_X1_checkNode z) (fun _ z => met_X1_checkNode hO S x0 x1 z) (fun r1 hr1 => ?_)
  refine v_aload_n C dX1_distanceTo_5 0 rfl ?_
  refine v_iload_n C dX1_distanceTo_6 2 rfl ?_
  refine g_callV_rv C (As := [.int x2]) (st := []) lk_X1_141 dX1_distanceTo_7 rfl (Nat.le_of_ble_eq_true rfl) (Nat.le_of_ble_eq_true rfl) (Nat.le_of_ble_eq_true rfl) cls_1.1 rfl (fun _ z => rc_X1_checkEdge z) (fun _ z => met_X1_checkEdge hO S x0 x2 z) (fun r2 hr2 => ?_)
  refine v_aload_n C dX1_distanceTo_10 0 rfl ?_
  refine v_iload_n C dX1_distanceTo_11 2 rfl ?_
  refine v_iload_n C dX1_distanceTo_12 3 rfl ?_
  refine v_iload C dX1_distanceTo_13 4 rfl ?_
  refine g_callV_ri C (As := [.int x2, .int x3, .int x4]) (st := []) lk_X1_220 dX1_distanceTo_15 rfl (Nat.le_of_ble_eq_true rfl) (Nat.le_of_ble_eq_true rfl) (Nat.le_of_ble_eq_true rfl) cls_1.1 rfl (fun _ z => rc_X1_isPoint z) (fun _ z => met_X1_isPoint hO S x0 x2 x3 x4 z) (fun r3 hr3 => ?_)
  refine v_if_eq C (tgt := 33) dX1_distanceTo_18 rfl (fun _ => ?_) (fun _ => ?_)
  · exact v_sub [0, 1, 2, 3, 4, 5] rfl (w_X1_distanceTo_33 hO C hm)
  · refine v_iload C dX1_distanceTo_21 5 rfl ?_
    refine v_callS_ri C (As := [.int x5]) (st := []) lk_X1_223 dX1_distanceTo_23 rfl (Nat.le_of_ble_eq_true rfl) (Nat.le_of_ble_eq_true rfl) (Nat.le_of_ble_eq_true rfl) (fun _ z => met_X1_isPart hO S x5 z) (fun r4 hr4 => ?_)
    refine v_if_eq C (tgt := 33) dX1_distanceTo_26 rfl (fun _ => ?_) (fun _ => ?_)
    · exact v_sub [0, 1, 2, 3, 4, 5] rfl (w_X1_distanceTo_33 hO C hm)
    · refine v_iconst C dX1_distanceTo_29 ci_1 ?_
      refine v_goto C (tgt := 34) dX1_distanceTo_30 rfl ?_
      exact v_sub [0, 1, 2, 3, 4, 5] rfl (w_X1_distanceTo_34 hO C hm 1)
theorem met_X1_isAllowed {P : GP} {l : Launch} (hO : okG P) (F : Nat) (S : St) (x0 : Nat) (x1 : Int32) (x2 : Int32) (x3 : Int32) {r : Int32} (h : C_X1_isAllowed F S x0 x1 x2 x3 = some r) : FM l (OG P) yX1_isAllowed (ws_ yX1_isAllowed cX1_isAllowed 4 (some .boolean)) 2 52 [.ref x0, .int x1, .int x2, .int x3] S ((f_ri S) r) := by
  refine FM.of (own := RX1) (lv := [(0, .ref x0), (1, .int x1), (2, .int x2), (3, .int x3)]) (OG_ok P hO) pl_X1 rfl (Nat.le_of_ble_eq_true rfl) rfl h LE.rf (fun X C hm => ?_)
  unfold C_X1_isAllowed
  refine VF.bind (fun _ _ => ?_)
  refine v_aload_n C dX1_isAllowed_0 0 rfl ?_
  refine v_iload_n C dX1_isAllowed_1 1 rfl ?_
  refine g_callV_rv C (As := [.int x1]) (st := []) lk_X1_141 dX1_isAllowed_2 rfl (Nat.le_of_ble_eq_true rfl) (Nat.le_of_ble_eq_true rfl) (Nat.le_of_ble_eq_true rfl) cls_1.1 rfl (fun _ z => rc_X1_checkEdge z) (fun _ z => met_X1_checkEdge hO S x0 x1 z) (fun r1 hr1 => ?_)
  refine v_aload_n C dX1_isAllowed_5 0 rfl ?_
  refine v_iload_n C dX1_isAllowed_6 1 rfl ?_
  refine v_iload_n C dX1_isAllowed_7 2 rfl ?_
  refine v_iload_n C dX1_isAllowed_8 3 rfl ?_
  refine g_callV_ri C (As := [.int x1, .int x2, .int x3]) (st := []) lk_X1_220 dX1_isAllowed_9 rfl (Nat.le_of_ble_eq_true rfl) (Nat.le_of_ble_eq_true rfl) (Nat.le_of_ble_eq_true rfl) cls_1.1 rfl (fun _ z => rc_X1_isPoint z) (fun _ z => met_X1_isPoint hO S x0 x1 x2 x3 z) (fun r2 hr2 => ?_)
  refine v_callS_rv C (As := [.int r2]) (st := []) lk_X1_115 dX1_isAllowed_12 rfl (Nat.le_of_ble_eq_true rfl) (Nat.le_of_ble_eq_true rfl) (Nat.le_of_ble_eq_true rfl) (fun _ z => met_X1_checkThat hO S r2 z) (fun r3 hr3 => ?_)
  refine v_aload_n C dX1_isAllowed_15 0 rfl ?_
  refine g_getA C dX1_isAllowed_16 cls_1 (Nat.le_of_ble_eq_true rfl) fl_X1_39 fs_X1_39 (fun y4 hy4 => ?_)
  refine v_iload_n C dX1_isAllowed_19 1 rfl ?_
  refine v_iload_n C dX1_isAllowed_20 2 rfl ?_
  refine v_i2l C dX1_isAllowed_21 ?_
  refine v_iload_n C dX1_isAllowed_22 3 rfl ?_
  refine v_i2l C dX1_isAllowed_23 ?_
  refine g_callV_ri C (As := [.int x1, .long (((x2) : Int32).toInt64), .long (((x3) : Int32).toInt64)]) (st := []) lk_X1_234 dX1_isAllowed_24 rfl (Nat.le_of_ble_eq_true rfl) (Nat.le_of_ble_eq_true rfl) (Nat.le_of_ble_eq_true rfl) cls_2.1 rfl (fun _ z => rc_X2_isAllowed z) (fun _ z => met_X2_isAllowed hO F S y4 x1 (((x2) : Int32).toInt64) (((x3) : Int32).toInt64) z) (fun r5 hr5 => ?_)
  refine v_zz (fun b6 hb6 => ?_)
  exact v_zreturn C hm dX1_isAllowed_27 hb6 rfl
theorem met_X1_isSet {P : GP} {l : Launch} (hO : okG P) (S : St) (x0 : Nat) (x1 : Int32) {r : Int32} (h : C_X1_isSet S x0 x1 = some r) : FM l (OG P) yX1_isSet (ws_ yX1_isSet cX1_isSet 2 (some .boolean)) 1 22 [.ref x0, .int x1] S ((f_ri S) r) := by
  refine FM.of (own := RX1) (lv := [(0, .ref x0), (1, .int x1)]) (OG_ok P hO) pl_X1 rfl (Nat.le_of_ble_eq_true rfl) rfl h LE.rf (fun X C hm => ?_)
  unfold C_X1_isSet
  refine VF.bind (fun _ _ => ?_)
  refine v_iload_n C dX1_isSet_0 1 rfl ?_
  refine v_iconst C dX1_isSet_1 ci_0 ?_
  refine v_iconst C dX1_isSet_2 ci_1 ?_
  refine v_aload_n C dX1_isSet_3 0 rfl ?_
  refine g_getA C dX1_isSet_4 cls_1 (Nat.le_of_ble_eq_true rfl) fl_X1_39 fs_X1_39 (fun y1 hy1 => ?_)
  refine g_callV_ri C (As := []) (st := [.int 1, .int 0, .int x1]) lk_X1_96 dX1_isSet_7 rfl (Nat.le_of_ble_eq_true rfl) (Nat.le_of_ble_eq_true rfl) (Nat.le_of_ble_eq_true rfl) cls_2.1 rfl (fun _ z => rc_X2_size z) (fun _ z => met_X2_size hO S y1 z) (fun r2 hr2 => ?_)
  refine v_ishl C dX1_isSet_10 ?_
  refine v_iconst C dX1_isSet_11 ci_1 ?_
  refine v_isub C dX1_isSet_12 ?_
  refine v_callS_ri C (As := [.int x1, .int 0, .int ((1 <<< (r2 &&& 31)) - 1)]) (st := []) lk_X1_87 dX1_isSet_13 rfl (Nat.le_of_ble_eq_true rfl) (Nat.le_of_ble_eq_true rfl) (Nat.le_of_ble_eq_true rfl) (fun _ z => met_X1_isIn hO S x1 0 ((1 <<< (r2 &&& 31)) - 1) z) (fun r3 hr3 => ?_)
  refine v_zz (fun b4 hb4 => ?_)
  exact v_zreturn C hm dX1_isSet_16 hb4 rfl
theorem w_X1_height_37 {P : GP} {X : Ctx} {l : Launch} {F : Nat} {S : St} (hO : okG P) (C : CX (OG P) X l cX1_height 6 RX1 (some .int)) (hm : X.2.2.2.2.2.2.2.2.2 = none) {x0 : Nat} {x1 : Int32} {x2 : Int32} {x3 : Int32} {x4 : Int32} {x5 : Int32}  (s0 : Int32) : VF (OG P) X 6 42 1409 S (f_ri S) (C_X1_height_37 F S x0 x1 x2 x3 x4 x5 s0) S 37 [(0, .ref x0), (1, .int x1), (2, .int x2), (3, .int x3), (4, .int x4), (5, .int x5)] [.int s0] := by
  unfold C_X1_height_37
  refine v_callS_rv C (As := [.int s0]) (st := []) lk_X1_115 dX1_height_37 rfl (Nat.le_of_ble_eq_true rfl) (Nat.le_of_ble_eq_true rfl) (Nat.le_of_ble_eq_true rfl) (fun _ z => met_X1_checkThat hO S s0 z) (fun r5 hr5 => ?_)
  refine v_aload_n C dX1_height_40 0 rfl ?_
  refine g_getA C dX1_height_41 cls_1 (Nat.le_of_ble_eq_true rfl) fl_X1_48 fs_X1_48 (fun y6 hy6 => ?_)
  refine g_callV_ri C (As := []) (st := []) lk_X1_185 dX1_height_44 rfl (Nat.le_of_ble_eq_true rfl) (Nat.le_of_ble_eq_true rfl) (Nat.le_of_ble_eq_true rfl) cls_3.1 rfl (fun _ z => rc_X3_isConnected z) (fun _ z => met_X3_isConnected hO F S y6 z) (fun r7 hr7 => ?_)
  refine v_callS_rv C (As := [.int r7]) (st := []) lk_X1_131 dX1_height_47 rfl (Nat.le_of_ble_eq_true rfl) (Nat.le_of_ble_eq_true rfl) (Nat.le_of_ble_eq_true rfl) (fun _ z => met_X1_checkState hO S r7 z) (fun r8 hr8 => ?_)
  refine v_aload_n C dX1_height_50 0 rfl ?_
  refine g_getA C dX1_height_51 cls_1 (Nat.le_of_ble_eq_true rfl) fl_X1_48 fs_X1_48 (fun y9 hy9 => ?_)
  refine v_iload_n C dX1_height_54 1 rfl ?_
  refine v_iload_n C dX1_height_55 2 rfl ?_
  refine v_iload_n C dX1_height_56 3 rfl ?_
  refine v_i2l C dX1_height_57 ?_
  refine v_iload C dX1_height_58 4 rfl ?_
  refine v_i2l C dX1_height_60 ?_
  refine g_callV_rl C (As := [.int x1, .int x2, .long (((x3) : Int32).toInt64), .long (((x4) : Int32).toInt64)]) (st := []) lk_X1_241 dX1_height_61 rfl (Nat.le_of_ble_eq_true rfl) (Nat.le_of_ble_eq_true rfl) (Nat.le_of_ble_eq_true rfl) cls_3.1 rfl (fun _ z => rc_X3_height z) (fun _ z => met_X3_height hO F S y9 x1 x2 (((x3) : Int32).toInt64) (((x4) : Int32).toInt64) z) (fun r10 hr10 => ?_)
  refine v_iload C dX1_height_64 4 rfl ?_
  refine v_i2l C dX1_height_66 ?_
  refine v_iload C dX1_height_67 5 rfl ?_
  refine v_callS_ri C (As := [.long r10, .long (((x4) : Int32).toInt64), .int x5]) (st := []) lk_X1_230 dX1_height_69 rfl (Nat.le_of_ble_eq_true rfl) (Nat.le_of_ble_eq_true rfl) (Nat.le_of_ble_eq_true rfl) (fun _ z => met_X1_partOf hO S r10 (((x4) : Int32).toInt64) x5 z) (fun r11 hr11 => ?_)
  exact v_ireturn C hm dX1_height_72 rfl
theorem w_X1_height_36 {P : GP} {X : Ctx} {l : Launch} {F : Nat} {S : St} (hO : okG P) (C : CX (OG P) X l cX1_height 6 RX1 (some .int)) (hm : X.2.2.2.2.2.2.2.2.2 = none) {x0 : Nat} {x1 : Int32} {x2 : Int32} {x3 : Int32} {x4 : Int32} {x5 : Int32}   : VF (OG P) X 6 42 1409 S (f_ri S) (C_X1_height_36 F S x0 x1 x2 x3 x4 x5) S 36 [(0, .ref x0), (1, .int x1), (2, .int x2), (3, .int x3), (4, .int x4), (5, .int x5)] [] := by
  unfold C_X1_height_36
  refine v_iconst C dX1_height_36 ci_0 ?_
  exact v_sub [0, 1, 2, 3, 4, 5] rfl (w_X1_height_37 hO C hm 0)
theorem met_X1_height {P : GP} {l : Launch} (hO : okG P) (F : Nat) (S : St) (x0 : Nat) (x1 : Int32) (x2 : Int32) (x3 : Int32) (x4 : Int32) (x5 : Int32) {r : Int32} (h : C_X1_height F S x0 x1 x2 x3 x4 x5 = some r) : FM l (OG P) yX1_height (ws_ yX1_height cX1_height 6 (some .int)) 42 1409 [.ref x0, .int x1, .int x2, .int x3, .int x4, .int x5] S ((f_ri S) r) := by
  refine FM.of (own := RX1) (lv := [(0, .ref x0), (1, .int x1), (2, .int x2), (3, .int x3), (4, .int x4), (5, .int x5)]) (OG_ok P hO) pl_X1 rfl (Nat.le_of_ble_eq_true rfl) rfl h LE.rf (fun X C hm => ?_)
  unfold C_X1_height
  refine VF.bind (fun _ _ => ?_)
  refine v_aload_n C dX1_height_0 0 rfl ?_
  refine v_iload_n C dX1_height_1 2 rfl ?_
  refine g_callV_rv C (As := [.int x2]) (st := []) lk_X1_141 dX1_height_2 rfl (Nat.le_of_ble_eq_true rfl) (Nat.le_of_ble_eq_true rfl) (Nat.le_of_ble_eq_true rfl) cls_1.1 rfl (fun _ z => rc_X1_checkEdge z) (fun _ z => met_X1_checkEdge hO S x0 x2 z) (fun r1 hr1 => ?_)
  refine v_aload_n C dX1_height_5 0 rfl ?_
  refine v_iload_n C dX1_height_6 1 rfl ?_
  refine g_callV_ri C (As := [.int x1]) (st := []) lk_X1_238 dX1_height_7 rfl (Nat.le_of_ble_eq_true rfl) (Nat.le_of_ble_eq_true rfl) (Nat.le_of_ble_eq_true rfl) cls_1.1 rfl (fun _ z => rc_X1_isSet z) (fun _ z => met_X1_isSet hO S x0 x1 z) (fun r2 hr2 => ?_)
  refine v_if_eq C (tgt := 36) dX1_height_10 rfl (fun _ => ?_) (fun _ => ?_)
  · exact v_sub [0, 1, 2, 3, 4, 5] rfl (w_X1_height_36 hO C hm)
  · refine v_aload_n C dX1_height_13 0 rfl ?_
    refine v_iload_n C dX1_height_14 2 rfl ?_
    refine v_iload_n C dX1_height_15 3 rfl ?_
    refine v_iload C dX1_height_16 4 rfl ?_
    refine g_callV_ri C (As := [.int x2, .int x3, .int x4]) (st := []) lk_X1_220 dX1_height_18 rfl (Nat.le_of_ble_eq_true rfl) (Nat.le_of_ble_eq_true rfl) (Nat.le_of_ble_eq_true rfl) cls_1.1 rfl (fun _ z => rc_X1_isPoint z) (fun _ z => met_X1_isPoint hO S x0 x2 x3 x4 z) (fun r3 hr3 => ?_)
    refine v_if_eq C (tgt := 36) dX1_height_21 rfl (fun _ => ?_) (fun _ => ?_)
    · exact v_sub [0, 1, 2, 3, 4, 5] rfl (w_X1_height_36 hO C hm)
    · refine v_iload C dX1_height_24 5 rfl ?_
      refine v_callS_ri C (As := [.int x5]) (st := []) lk_X1_223 dX1_height_26 rfl (Nat.le_of_ble_eq_true rfl) (Nat.le_of_ble_eq_true rfl) (Nat.le_of_ble_eq_true rfl) (fun _ z => met_X1_isPart hO S x5 z) (fun r4 hr4 => ?_)
      refine v_if_eq C (tgt := 36) dX1_height_29 rfl (fun _ => ?_) (fun _ => ?_)
      · exact v_sub [0, 1, 2, 3, 4, 5] rfl (w_X1_height_36 hO C hm)
      · refine v_iconst C dX1_height_32 ci_1 ?_
        refine v_goto C (tgt := 37) dX1_height_33 rfl ?_
        exact v_sub [0, 1, 2, 3, 4, 5] rfl (w_X1_height_37 hO C hm 1)
theorem w_X1_cost_28 {P : GP} {X : Ctx} {l : Launch} {F : Nat} {S : St} (hO : okG P) (C : CX (OG P) X l cX1_cost 5 RX1 (some .int)) (hm : X.2.2.2.2.2.2.2.2.2 = none) {x0 : Nat} {x1 : Int32} {x2 : Int32} {x3 : Int32} {x4 : Int32}  (s0 : Int32) : VF (OG P) X 5 42 1409 S (f_ri S) (C_X1_cost_28 F S x0 x1 x2 x3 x4 s0) S 28 [(0, .ref x0), (1, .int x1), (2, .int x2), (3, .int x3), (4, .int x4)] [.int s0] := by
  unfold C_X1_cost_28
  refine v_callS_rv C (As := [.int s0]) (st := []) lk_X1_115 dX1_cost_28 rfl (Nat.le_of_ble_eq_true rfl) (Nat.le_of_ble_eq_true rfl) (Nat.le_of_ble_eq_true rfl) (fun _ z => met_X1_checkThat hO S s0 z) (fun r4 hr4 => ?_)
  refine v_aload_n C dX1_cost_31 0 rfl ?_
  refine g_getA C dX1_cost_32 cls_1 (Nat.le_of_ble_eq_true rfl) fl_X1_48 fs_X1_48 (fun y5 hy5 => ?_)
  refine g_callV_ri C (As := []) (st := []) lk_X1_185 dX1_cost_35 rfl (Nat.le_of_ble_eq_true rfl) (Nat.le_of_ble_eq_true rfl) (Nat.le_of_ble_eq_true rfl) cls_3.1 rfl (fun _ z => rc_X3_isConnected z) (fun _ z => met_X3_isConnected hO F S y5 z) (fun r6 hr6 => ?_)
  refine v_callS_rv C (As := [.int r6]) (st := []) lk_X1_131 dX1_cost_38 rfl (Nat.le_of_ble_eq_true rfl) (Nat.le_of_ble_eq_true rfl) (Nat.le_of_ble_eq_true rfl) (fun _ z => met_X1_checkState hO S r6 z) (fun r7 hr7 => ?_)
  refine v_aload_n C dX1_cost_41 0 rfl ?_
  refine g_getA C dX1_cost_42 cls_1 (Nat.le_of_ble_eq_true rfl) fl_X1_48 fs_X1_48 (fun y8 hy8 => ?_)
  refine v_iload_n C dX1_cost_45 1 rfl ?_
  refine v_iload_n C dX1_cost_46 2 rfl ?_
  refine v_i2l C dX1_cost_47 ?_
  refine v_iload_n C dX1_cost_48 3 rfl ?_
  refine v_i2l C dX1_cost_49 ?_
  refine g_callV_rl C (As := [.int x1, .long (((x2) : Int32).toInt64), .long (((x3) : Int32).toInt64)]) (st := []) lk_X1_244 dX1_cost_50 rfl (Nat.le_of_ble_eq_true rfl) (Nat.le_of_ble_eq_true rfl) (Nat.le_of_ble_eq_true rfl) cls_3.1 rfl (fun _ z => rc_X3_cost z) (fun _ z => met_X3_cost hO F S y8 x1 (((x2) : Int32).toInt64) (((x3) : Int32).toInt64) z) (fun r9 hr9 => ?_)
  refine v_iload_n C dX1_cost_53 3 rfl ?_
  refine v_i2l C dX1_cost_54 ?_
  refine v_iload C dX1_cost_55 4 rfl ?_
  refine v_callS_ri C (As := [.long r9, .long (((x3) : Int32).toInt64), .int x4]) (st := []) lk_X1_230 dX1_cost_57 rfl (Nat.le_of_ble_eq_true rfl) (Nat.le_of_ble_eq_true rfl) (Nat.le_of_ble_eq_true rfl) (fun _ z => met_X1_partOf hO S r9 (((x3) : Int32).toInt64) x4 z) (fun r10 hr10 => ?_)
  exact v_ireturn C hm dX1_cost_60 rfl
theorem w_X1_cost_27 {P : GP} {X : Ctx} {l : Launch} {F : Nat} {S : St} (hO : okG P) (C : CX (OG P) X l cX1_cost 5 RX1 (some .int)) (hm : X.2.2.2.2.2.2.2.2.2 = none) {x0 : Nat} {x1 : Int32} {x2 : Int32} {x3 : Int32} {x4 : Int32}   : VF (OG P) X 5 42 1409 S (f_ri S) (C_X1_cost_27 F S x0 x1 x2 x3 x4) S 27 [(0, .ref x0), (1, .int x1), (2, .int x2), (3, .int x3), (4, .int x4)] [] := by
  unfold C_X1_cost_27
  refine v_iconst C dX1_cost_27 ci_0 ?_
  exact v_sub [0, 1, 2, 3, 4] rfl (w_X1_cost_28 hO C hm 0)
theorem met_X1_cost {P : GP} {l : Launch} (hO : okG P) (F : Nat) (S : St) (x0 : Nat) (x1 : Int32) (x2 : Int32) (x3 : Int32) (x4 : Int32) {r : Int32} (h : C_X1_cost F S x0 x1 x2 x3 x4 = some r) : FM l (OG P) yX1_cost (ws_ yX1_cost cX1_cost 5 (some .int)) 42 1409 [.ref x0, .int x1, .int x2, .int x3, .int x4] S ((f_ri S) r) := by
  refine FM.of (own := RX1) (lv := [(0, .ref x0), (1, .int x1), (2, .int x2), (3, .int x3), (4, .int x4)]) (OG_ok P hO) pl_X1 rfl (Nat.le_of_ble_eq_true rfl) rfl h LE.rf (fun X C hm => ?_)
  unfold C_X1_cost
  refine VF.bind (fun _ _ => ?_)
  refine v_aload_n C dX1_cost_0 0 rfl ?_
  refine v_iload_n C dX1_cost_1 1 rfl ?_
  refine g_callV_rv C (As := [.int x1]) (st := []) lk_X1_141 dX1_cost_2 rfl (Nat.le_of_ble_eq_true rfl) (Nat.le_of_ble_eq_true rfl) (Nat.le_of_ble_eq_true rfl) cls_1.1 rfl (fun _ z => rc_X1_checkEdge z) (fun _ z => met_X1_checkEdge hO S x0 x1 z) (fun r1 hr1 => ?_)
  refine v_aload_n C dX1_cost_5 0 rfl ?_
  refine v_iload_n C dX1_cost_6 1 rfl ?_
  refine v_iload_n C dX1_cost_7 2 rfl ?_
  refine v_iload_n C dX1_cost_8 3 rfl ?_
  refine g_callV_ri C (As := [.int x1, .int x2, .int x3]) (st := []) lk_X1_220 dX1_cost_9 rfl (Nat.le_of_ble_eq_true rfl) (Nat.le_of_ble_eq_true rfl) (Nat.le_of_ble_eq_true rfl) cls_1.1 rfl (fun _ z => rc_X1_isPoint z) (fun _ z => met_X1_isPoint hO S x0 x1 x2 x3 z) (fun r2 hr2 => ?_)
  refine v_if_eq C (tgt := 27) dX1_cost_12 rfl (fun _ => ?_) (fun _ => ?_)
  · exact v_sub [0, 1, 2, 3, 4] rfl (w_X1_cost_27 hO C hm)
  · refine v_iload C dX1_cost_15 4 rfl ?_
    refine v_callS_ri C (As := [.int x4]) (st := []) lk_X1_223 dX1_cost_17 rfl (Nat.le_of_ble_eq_true rfl) (Nat.le_of_ble_eq_true rfl) (Nat.le_of_ble_eq_true rfl) (fun _ z => met_X1_isPart hO S x4 z) (fun r3 hr3 => ?_)
    refine v_if_eq C (tgt := 27) dX1_cost_20 rfl (fun _ => ?_) (fun _ => ?_)
    · exact v_sub [0, 1, 2, 3, 4] rfl (w_X1_cost_27 hO C hm)
    · refine v_iconst C dX1_cost_23 ci_1 ?_
      refine v_goto C (tgt := 28) dX1_cost_24 rfl ?_
      exact v_sub [0, 1, 2, 3, 4] rfl (w_X1_cost_28 hO C hm 1)
theorem mono_X1_corner {F : Nat} {S : St} {x0 : Nat} {x1 : Int32} {x2 : Int32} {x3 : Int32} {r : Int32 × St} (h : C_X1_corner F S x0 x1 x2 x3 = some r) : leG S r.2 := by
  have q : MF mf_p (C_X1_corner F S x0 x1 x2 x3) S := by
    unfold C_X1_corner
    refine mf_bind (fun _ _ => ?_)
    refine mf_bind (fun r1 hr1 => ?_)
    refine mf_bind (fun r2 hr2 => ?_)
    refine mf_bind (fun r3 hr3 => ?_)
    refine mf_bind (fun y4 hy4 => ?_)
    refine mf_bind (fun r5 hr5 => ?_)
    refine mf_bind (fun r6 hr6 => ?_)
    refine mf_call (fun _ z => mono_X1_cornerOf z) (fun r7 hr7 => ?_)
    exact mf_ret leG.rf
  exact q r h
theorem met_X1_corner {P : GP} {l : Launch} (hO : okG P) (F : Nat) (S : St) (x0 : Nat) (x1 : Int32) (x2 : Int32) (x3 : Int32) {r : Int32 × St} (h : C_X1_corner F S x0 x1 x2 x3 = some r) : FM l (OG P) yX1_corner (ws_ yX1_corner cX1_corner 4 (some .int)) 49 3188 [.ref x0, .int x1, .int x2, .int x3] S (f_mi r) := by
  refine FM.of (own := RX1) (lv := [(0, .ref x0), (1, .int x1), (2, .int x2), (3, .int x3)]) (OG_ok P hO) pl_X1 rfl (Nat.le_of_ble_eq_true rfl) rfl h (mono_X1_corner h).LE (fun X C hm => ?_)
  unfold C_X1_corner
  refine VF.bind (fun _ _ => ?_)
  refine v_aload_n C dX1_corner_0 0 rfl ?_
  refine v_iload_n C dX1_corner_1 1 rfl ?_
  refine g_callV_rv C (As := [.int x1]) (st := []) lk_X1_141 dX1_corner_2 rfl (Nat.le_of_ble_eq_true rfl) (Nat.le_of_ble_eq_true rfl) (Nat.le_of_ble_eq_true rfl) cls_1.1 rfl (fun _ z => rc_X1_checkEdge z) (fun _ z => met_X1_checkEdge hO S x0 x1 z) (fun r1 hr1 => ?_)
  refine v_iload_n C dX1_corner_5 3 rfl ?_
  refine v_iconst C dX1_corner_6 ci_0 ?_
  refine v_iconst C dX1_corner_7 ci_3 ?_
  refine v_callS_ri C (As := [.int x3, .int 0, .int 3]) (st := []) lk_X1_87 dX1_corner_8 rfl (Nat.le_of_ble_eq_true rfl) (Nat.le_of_ble_eq_true rfl) (Nat.le_of_ble_eq_true rfl) (fun _ z => met_X1_isIn hO S x3 0 3 z) (fun r2 hr2 => ?_)
  refine v_callS_rv C (As := [.int r2]) (st := []) lk_X1_115 dX1_corner_11 rfl (Nat.le_of_ble_eq_true rfl) (Nat.le_of_ble_eq_true rfl) (Nat.le_of_ble_eq_true rfl) (fun _ z => met_X1_checkThat hO S r2 z) (fun r3 hr3 => ?_)
  refine v_aload_n C dX1_corner_14 0 rfl ?_
  refine g_getA C dX1_corner_15 cls_1 (Nat.le_of_ble_eq_true rfl) fl_X1_48 fs_X1_48 (fun y4 hy4 => ?_)
  refine g_callV_ri C (As := []) (st := []) lk_X1_185 dX1_corner_18 rfl (Nat.le_of_ble_eq_true rfl) (Nat.le_of_ble_eq_true rfl) (Nat.le_of_ble_eq_true rfl) cls_3.1 rfl (fun _ z => rc_X3_isConnected z) (fun _ z => met_X3_isConnected hO F S y4 z) (fun r5 hr5 => ?_)
  refine v_callS_rv C (As := [.int r5]) (st := []) lk_X1_131 dX1_corner_21 rfl (Nat.le_of_ble_eq_true rfl) (Nat.le_of_ble_eq_true rfl) (Nat.le_of_ble_eq_true rfl) (fun _ z => met_X1_checkState hO S r5 z) (fun r6 hr6 => ?_)
  refine v_aload_n C dX1_corner_24 0 rfl ?_
  refine v_iload_n C dX1_corner_25 1 rfl ?_
  refine v_iload_n C dX1_corner_26 2 rfl ?_
  refine v_iload_n C dX1_corner_27 3 rfl ?_
  refine g_callV_mi C (As := [.int x1, .int x2, .int x3]) (st := []) lk_X1_267 dX1_corner_28 rfl (Nat.le_of_ble_eq_true rfl) (Nat.le_of_ble_eq_true rfl) (Nat.le_of_ble_eq_true rfl) cls_1.1 rfl (fun _ z => rc_X1_cornerOf z) (fun _ z => met_X1_cornerOf hO F S x0 x1 x2 x3 z) (fun r7 hr7 => ?_)
  exact v_ireturn C hm dX1_corner_31 rfl
theorem o_X1_radius_20 {F : Nat} {x0 : Nat} {x1 : Int32} {x2 : Int32}  (s0 : Int32) (S : St) : MF mf_p (C_X1_radius_20 F x0 x1 x2 s0 S) S := by
  unfold C_X1_radius_20
  refine mf_bind (fun r3 hr3 => ?_)
  refine mf_bind (fun y4 hy4 => ?_)
  refine mf_bind (fun r5 hr5 => ?_)
  refine mf_bind (fun r6 hr6 => ?_)
  refine mf_bind (fun y7 hy7 => ?_)
  refine mf_call (fun _ z => mono_X3_radius z) (fun r8 hr8 => ?_)
  exact mf_ret leG.rf
theorem o_X1_radius_19 {F : Nat} {x0 : Nat} {x1 : Int32} {x2 : Int32}  (S : St) : MF mf_p (C_X1_radius_19 F x0 x1 x2 S) S := by
  unfold C_X1_radius_19
  exact (o_X1_radius_20 0 S)
theorem mono_X1_radius {F : Nat} {S : St} {x0 : Nat} {x1 : Int32} {x2 : Int32} {r : Int32 × St} (h : C_X1_radius F S x0 x1 x2 = some r) : leG S r.2 := by
  have q : MF mf_p (C_X1_radius F S x0 x1 x2) S := by
    unfold C_X1_radius
    refine mf_bind (fun _ _ => ?_)
    refine mf_bind (fun r1 hr1 => ?_)
    refine mf_ite ?_ ?_
    · exact (o_X1_radius_19 S)
    · refine mf_bind (fun r2 hr2 => ?_)
      refine mf_ite ?_ ?_
      · exact (o_X1_radius_19 S)
      · exact (o_X1_radius_20 1 S)
  exact q r h
theorem w_X1_radius_20 {P : GP} {X : Ctx} {l : Launch} {S0 : St} {F : Nat} (hO : okG P) (C : CX (OG P) X l cX1_radius 3 RX1 (some .int)) (hm : X.2.2.2.2.2.2.2.2.2 = none) {x0 : Nat} {x1 : Int32} {x2 : Int32}  (s0 : Int32) (S : St) : VF (OG P) X 3 51 3222 S0 f_mi (C_X1_radius_20 F x0 x1 x2 s0 S) S 20 [(0, .ref x0), (1, .int x1), (2, .int x2)] [.int s0] := by
  unfold C_X1_radius_20
  refine v_callS_rv C (As := [.int s0]) (st := []) lk_X1_115 dX1_radius_20 rfl (Nat.le_of_ble_eq_true rfl) (Nat.le_of_ble_eq_true rfl) (Nat.le_of_ble_eq_true rfl) (fun _ z => met_X1_checkThat hO S s0 z) (fun r3 hr3 => ?_)
  refine v_aload_n C dX1_radius_23 0 rfl ?_
  refine g_getA C dX1_radius_24 cls_1 (Nat.le_of_ble_eq_true rfl) fl_X1_48 fs_X1_48 (fun y4 hy4 => ?_)
  refine g_callV_ri C (As := []) (st := []) lk_X1_271 dX1_radius_27 rfl (Nat.le_of_ble_eq_true rfl) (Nat.le_of_ble_eq_true rfl) (Nat.le_of_ble_eq_true rfl) cls_3.1 rfl (fun _ z => rc_X3_isUsable z) (fun _ z => met_X3_isUsable hO F S y4 z) (fun r5 hr5 => ?_)
  refine v_callS_rv C (As := [.int r5]) (st := []) lk_X1_131 dX1_radius_30 rfl (Nat.le_of_ble_eq_true rfl) (Nat.le_of_ble_eq_true rfl) (Nat.le_of_ble_eq_true rfl) (fun _ z => met_X1_checkState hO S r5 z) (fun r6 hr6 => ?_)
  refine v_aload_n C dX1_radius_33 0 rfl ?_
  refine g_getA C dX1_radius_34 cls_1 (Nat.le_of_ble_eq_true rfl) fl_X1_48 fs_X1_48 (fun y7 hy7 => ?_)
  refine v_iload_n C dX1_radius_37 1 rfl ?_
  refine v_iload_n C dX1_radius_38 2 rfl ?_
  refine g_callV_mi C (As := [.int x1, .int x2]) (st := []) lk_X1_274 dX1_radius_39 rfl (Nat.le_of_ble_eq_true rfl) (Nat.le_of_ble_eq_true rfl) (Nat.le_of_ble_eq_true rfl) cls_3.1 rfl (fun _ z => rc_X3_radius z) (fun _ z => met_X3_radius hO F S y7 x1 x2 z) (fun r8 hr8 => ?_)
  exact v_ireturn C hm dX1_radius_42 rfl
theorem w_X1_radius_19 {P : GP} {X : Ctx} {l : Launch} {S0 : St} {F : Nat} (hO : okG P) (C : CX (OG P) X l cX1_radius 3 RX1 (some .int)) (hm : X.2.2.2.2.2.2.2.2.2 = none) {x0 : Nat} {x1 : Int32} {x2 : Int32}  (S : St) : VF (OG P) X 3 51 3222 S0 f_mi (C_X1_radius_19 F x0 x1 x2 S) S 19 [(0, .ref x0), (1, .int x1), (2, .int x2)] [] := by
  unfold C_X1_radius_19
  refine v_iconst C dX1_radius_19 ci_0 ?_
  exact v_sub [0, 1, 2] rfl (w_X1_radius_20 hO C hm 0 S)
theorem met_X1_radius {P : GP} {l : Launch} (hO : okG P) (F : Nat) (S : St) (x0 : Nat) (x1 : Int32) (x2 : Int32) {r : Int32 × St} (h : C_X1_radius F S x0 x1 x2 = some r) : FM l (OG P) yX1_radius (ws_ yX1_radius cX1_radius 3 (some .int)) 51 3222 [.ref x0, .int x1, .int x2] S (f_mi r) := by
  refine FM.of (own := RX1) (lv := [(0, .ref x0), (1, .int x1), (2, .int x2)]) (OG_ok P hO) pl_X1 rfl (Nat.le_of_ble_eq_true rfl) rfl h (mono_X1_radius h).LE (fun X C hm => ?_)
  unfold C_X1_radius
  refine VF.bind (fun _ _ => ?_)
  refine v_aload_n C dX1_radius_0 0 rfl ?_
  refine v_iload_n C dX1_radius_1 1 rfl ?_
  refine g_callV_ri C (As := [.int x1]) (st := []) lk_X1_238 dX1_radius_2 rfl (Nat.le_of_ble_eq_true rfl) (Nat.le_of_ble_eq_true rfl) (Nat.le_of_ble_eq_true rfl) cls_1.1 rfl (fun _ z => rc_X1_isSet z) (fun _ z => met_X1_isSet hO S x0 x1 z) (fun r1 hr1 => ?_)
  refine v_if_eq C (tgt := 19) dX1_radius_5 rfl (fun _ => ?_) (fun _ => ?_)
  · exact v_sub [0, 1, 2] rfl (w_X1_radius_19 hO C hm S)
  · refine v_iload_n C dX1_radius_8 2 rfl ?_
    refine v_callS_ri C (As := [.int x2]) (st := []) lk_X1_223 dX1_radius_9 rfl (Nat.le_of_ble_eq_true rfl) (Nat.le_of_ble_eq_true rfl) (Nat.le_of_ble_eq_true rfl) (fun _ z => met_X1_isPart hO S x2 z) (fun r2 hr2 => ?_)
    refine v_if_eq C (tgt := 19) dX1_radius_12 rfl (fun _ => ?_) (fun _ => ?_)
    · exact v_sub [0, 1, 2] rfl (w_X1_radius_19 hO C hm S)
    · refine v_iconst C dX1_radius_15 ci_1 ?_
      refine v_goto C (tgt := 20) dX1_radius_16 rfl ?_
      exact v_sub [0, 1, 2] rfl (w_X1_radius_20 hO C hm 1 S)
theorem o_X1_center_22 {F : Nat} {x0 : Nat} {x1 : Int32} {x2 : Int32}  (s0 : Int32) (S : St) : MF mf_p (C_X1_center_22 F x0 x1 x2 s0 S) S := by
  unfold C_X1_center_22
  refine mf_bind (fun r3 hr3 => ?_)
  refine mf_bind (fun y4 hy4 => ?_)
  refine mf_bind (fun r5 hr5 => ?_)
  refine mf_bind (fun r6 hr6 => ?_)
  refine mf_bind (fun y7 hy7 => ?_)
  refine mf_call (fun _ z => mono_X3_center z) (fun r8 hr8 => ?_)
  refine mf_bind (fun r9 hr9 => ?_)
  exact mf_ret leG.rf
theorem o_X1_center_21 {F : Nat} {x0 : Nat} {x1 : Int32} {x2 : Int32}  (S : St) : MF mf_p (C_X1_center_21 F x0 x1 x2 S) S := by
  unfold C_X1_center_21
  exact (o_X1_center_22 0 S)
theorem mono_X1_center {F : Nat} {S : St} {x0 : Nat} {x1 : Int32} {x2 : Int32} {r : Int32 × St} (h : C_X1_center F S x0 x1 x2 = some r) : leG S r.2 := by
  have q : MF mf_p (C_X1_center F S x0 x1 x2) S := by
    unfold C_X1_center
    refine mf_bind (fun _ _ => ?_)
    refine mf_bind (fun r1 hr1 => ?_)
    refine mf_ite ?_ ?_
    · exact (o_X1_center_21 S)
    · refine mf_bind (fun r2 hr2 => ?_)
      refine mf_ite ?_ ?_
      · exact (o_X1_center_21 S)
      · exact (o_X1_center_22 1 S)
  exact q r h
theorem w_X1_center_22 {P : GP} {X : Ctx} {l : Launch} {S0 : St} {F : Nat} (hO : okG P) (C : CX (OG P) X l cX1_center 3 RX1 (some .int)) (hm : X.2.2.2.2.2.2.2.2.2 = none) {x0 : Nat} {x1 : Int32} {x2 : Int32}  (s0 : Int32) (S : St) : VF (OG P) X 3 49 3179 S0 f_mi (C_X1_center_22 F x0 x1 x2 s0 S) S 22 [(0, .ref x0), (1, .int x1), (2, .int x2)] [.int s0] := by
  unfold C_X1_center_22
  refine v_callS_rv C (As := [.int s0]) (st := []) lk_X1_115 dX1_center_22 rfl (Nat.le_of_ble_eq_true rfl) (Nat.le_of_ble_eq_true rfl) (Nat.le_of_ble_eq_true rfl) (fun _ z => met_X1_checkThat hO S s0 z) (fun r3 hr3 => ?_)
  refine v_aload_n C dX1_center_25 0 rfl ?_
  refine g_getA C dX1_center_26 cls_1 (Nat.le_of_ble_eq_true rfl) fl_X1_48 fs_X1_48 (fun y4 hy4 => ?_)
  refine g_callV_ri C (As := []) (st := []) lk_X1_271 dX1_center_29 rfl (Nat.le_of_ble_eq_true rfl) (Nat.le_of_ble_eq_true rfl) (Nat.le_of_ble_eq_true rfl) cls_3.1 rfl (fun _ z => rc_X3_isUsable z) (fun _ z => met_X3_isUsable hO F S y4 z) (fun r5 hr5 => ?_)
  refine v_callS_rv C (As := [.int r5]) (st := []) lk_X1_131 dX1_center_32 rfl (Nat.le_of_ble_eq_true rfl) (Nat.le_of_ble_eq_true rfl) (Nat.le_of_ble_eq_true rfl) (fun _ z => met_X1_checkState hO S r5 z) (fun r6 hr6 => ?_)
  refine v_aload_n C dX1_center_35 0 rfl ?_
  refine v_aload_n C dX1_center_36 0 rfl ?_
  refine g_getA C dX1_center_37 cls_1 (Nat.le_of_ble_eq_true rfl) fl_X1_48 fs_X1_48 (fun y7 hy7 => ?_)
  refine v_iload_n C dX1_center_40 1 rfl ?_
  refine g_callV_mi C (As := [.int x1]) (st := [.ref x0]) lk_X1_279 dX1_center_41 rfl (Nat.le_of_ble_eq_true rfl) (Nat.le_of_ble_eq_true rfl) (Nat.le_of_ble_eq_true rfl) cls_3.1 rfl (fun _ z => rc_X3_center z) (fun _ z => met_X3_center hO F S y7 x1 z) (fun r8 hr8 => ?_)
  refine v_iload_n C dX1_center_44 2 rfl ?_
  refine g_callV_ri C (As := [.int (r8.1), .int x2]) (st := []) lk_X1_282 dX1_center_45 rfl (Nat.le_of_ble_eq_true rfl) (Nat.le_of_ble_eq_true rfl) (Nat.le_of_ble_eq_true rfl) cls_1.1 rfl (fun _ z => rc_X1_placeOf z) (fun _ z => met_X1_placeOf hO r8.2 x0 (r8.1) x2 z) (fun r9 hr9 => ?_)
  exact v_ireturn C hm dX1_center_48 rfl
theorem w_X1_center_21 {P : GP} {X : Ctx} {l : Launch} {S0 : St} {F : Nat} (hO : okG P) (C : CX (OG P) X l cX1_center 3 RX1 (some .int)) (hm : X.2.2.2.2.2.2.2.2.2 = none) {x0 : Nat} {x1 : Int32} {x2 : Int32}  (S : St) : VF (OG P) X 3 49 3179 S0 f_mi (C_X1_center_21 F x0 x1 x2 S) S 21 [(0, .ref x0), (1, .int x1), (2, .int x2)] [] := by
  unfold C_X1_center_21
  refine v_iconst C dX1_center_21 ci_0 ?_
  exact v_sub [0, 1, 2] rfl (w_X1_center_22 hO C hm 0 S)
theorem met_X1_center {P : GP} {l : Launch} (hO : okG P) (F : Nat) (S : St) (x0 : Nat) (x1 : Int32) (x2 : Int32) {r : Int32 × St} (h : C_X1_center F S x0 x1 x2 = some r) : FM l (OG P) yX1_center (ws_ yX1_center cX1_center 3 (some .int)) 49 3179 [.ref x0, .int x1, .int x2] S (f_mi r) := by
  refine FM.of (own := RX1) (lv := [(0, .ref x0), (1, .int x1), (2, .int x2)]) (OG_ok P hO) pl_X1 rfl (Nat.le_of_ble_eq_true rfl) rfl h (mono_X1_center h).LE (fun X C hm => ?_)
  unfold C_X1_center
  refine VF.bind (fun _ _ => ?_)
  refine v_aload_n C dX1_center_0 0 rfl ?_
  refine v_iload_n C dX1_center_1 1 rfl ?_
  refine g_callV_ri C (As := [.int x1]) (st := []) lk_X1_238 dX1_center_2 rfl (Nat.le_of_ble_eq_true rfl) (Nat.le_of_ble_eq_true rfl) (Nat.le_of_ble_eq_true rfl) cls_1.1 rfl (fun _ z => rc_X1_isSet z) (fun _ z => met_X1_isSet hO S x0 x1 z) (fun r1 hr1 => ?_)
  refine v_if_eq C (tgt := 21) dX1_center_5 rfl (fun _ => ?_) (fun _ => ?_)
  · exact v_sub [0, 1, 2] rfl (w_X1_center_21 hO C hm S)
  · refine v_iload_n C dX1_center_8 2 rfl ?_
    refine v_iconst C dX1_center_9 ci_0 ?_
    refine v_iconst C dX1_center_10 ci_2 ?_
    refine v_callS_ri C (As := [.int x2, .int 0, .int 2]) (st := []) lk_X1_87 dX1_center_11 rfl (Nat.le_of_ble_eq_true rfl) (Nat.le_of_ble_eq_true rfl) (Nat.le_of_ble_eq_true rfl) (fun _ z => met_X1_isIn hO S x2 0 2 z) (fun r2 hr2 => ?_)
    refine v_if_eq C (tgt := 21) dX1_center_14 rfl (fun _ => ?_) (fun _ => ?_)
    · exact v_sub [0, 1, 2] rfl (w_X1_center_21 hO C hm S)
    · refine v_iconst C dX1_center_17 ci_1 ?_
      refine v_goto C (tgt := 22) dX1_center_18 rfl ?_
      exact v_sub [0, 1, 2] rfl (w_X1_center_22 hO C hm 1 S)
theorem mono_X1_critical {F : Nat} {S : St} {x0 : Nat} {x1 : Int32} {r : Int32 × St} (h : C_X1_critical F S x0 x1 = some r) : leG S r.2 := by
  have q : MF mf_p (C_X1_critical F S x0 x1) S := by
    unfold C_X1_critical
    refine mf_bind (fun _ _ => ?_)
    refine mf_bind (fun r1 hr1 => ?_)
    refine mf_bind (fun r2 hr2 => ?_)
    refine mf_bind (fun y3 hy3 => ?_)
    refine mf_bind (fun r4 hr4 => ?_)
    refine mf_bind (fun r5 hr5 => ?_)
    refine mf_bind (fun y6 hy6 => ?_)
    refine mf_call (fun _ z => mono_X3_critical z) (fun r7 hr7 => ?_)
    exact mf_ret leG.rf
  exact q r h
theorem met_X1_critical {P : GP} {l : Launch} (hO : okG P) (F : Nat) (S : St) (x0 : Nat) (x1 : Int32) {r : Int32 × St} (h : C_X1_critical F S x0 x1 = some r) : FM l (OG P) yX1_critical (ws_ yX1_critical cX1_critical 2 (some .int)) 50 3204 [.ref x0, .int x1] S (f_mi r) := by
  refine FM.of (own := RX1) (lv := [(0, .ref x0), (1, .int x1)]) (OG_ok P hO) pl_X1 rfl (Nat.le_of_ble_eq_true rfl) rfl h (mono_X1_critical h).LE (fun X C hm => ?_)
  unfold C_X1_critical
  refine VF.bind (fun _ _ => ?_)
  refine v_aload_n C dX1_critical_0 0 rfl ?_
  refine v_iload_n C dX1_critical_1 1 rfl ?_
  refine g_callV_ri C (As := [.int x1]) (st := []) lk_X1_238 dX1_critical_2 rfl (Nat.le_of_ble_eq_true rfl) (Nat.le_of_ble_eq_true rfl) (Nat.le_of_ble_eq_true rfl) cls_1.1 rfl (fun _ z => rc_X1_isSet z) (fun _ z => met_X1_isSet hO S x0 x1 z) (fun r1 hr1 => ?_)
  refine v_callS_rv C (As := [.int r1]) (st := []) lk_X1_115 dX1_critical_5 rfl (Nat.le_of_ble_eq_true rfl) (Nat.le_of_ble_eq_true rfl) (Nat.le_of_ble_eq_true rfl) (fun _ z => met_X1_checkThat hO S r1 z) (fun r2 hr2 => ?_)
  refine v_aload_n C dX1_critical_8 0 rfl ?_
  refine g_getA C dX1_critical_9 cls_1 (Nat.le_of_ble_eq_true rfl) fl_X1_48 fs_X1_48 (fun y3 hy3 => ?_)
  refine g_callV_ri C (As := []) (st := []) lk_X1_271 dX1_critical_12 rfl (Nat.le_of_ble_eq_true rfl) (Nat.le_of_ble_eq_true rfl) (Nat.le_of_ble_eq_true rfl) cls_3.1 rfl (fun _ z => rc_X3_isUsable z) (fun _ z => met_X3_isUsable hO F S y3 z) (fun r4 hr4 => ?_)
  refine v_callS_rv C (As := [.int r4]) (st := []) lk_X1_131 dX1_critical_15 rfl (Nat.le_of_ble_eq_true rfl) (Nat.le_of_ble_eq_true rfl) (Nat.le_of_ble_eq_true rfl) (fun _ z => met_X1_checkState hO S r4 z) (fun r5 hr5 => ?_)
  refine v_aload_n C dX1_critical_18 0 rfl ?_
  refine g_getA C dX1_critical_19 cls_1 (Nat.le_of_ble_eq_true rfl) fl_X1_48 fs_X1_48 (fun y6 hy6 => ?_)
  refine v_iload_n C dX1_critical_22 1 rfl ?_
  refine g_callV_mi C (As := [.int x1]) (st := []) lk_X1_285 dX1_critical_23 rfl (Nat.le_of_ble_eq_true rfl) (Nat.le_of_ble_eq_true rfl) (Nat.le_of_ble_eq_true rfl) cls_3.1 rfl (fun _ z => rc_X3_critical z) (fun _ z => met_X3_critical hO F S y6 x1 z) (fun r7 hr7 => ?_)
  exact v_ireturn C hm dX1_critical_26 rfl
theorem mono_X1_median {F : Nat} {S : St} {x0 : Nat} {x1 : Int32} {r : Int32 × St} (h : C_X1_median F S x0 x1 = some r) : leG S r.2 := by
  have q : MF mf_p (C_X1_median F S x0 x1) S := by
    unfold C_X1_median
    refine mf_bind (fun _ _ => ?_)
    refine mf_bind (fun r1 hr1 => ?_)
    refine mf_bind (fun r2 hr2 => ?_)
    refine mf_bind (fun y3 hy3 => ?_)
    refine mf_bind (fun r4 hr4 => ?_)
    refine mf_bind (fun r5 hr5 => ?_)
    refine mf_call (fun _ z => mono_X1_medianOf z) (fun r6 hr6 => ?_)
    exact mf_ret leG.rf
  exact q r h
theorem met_X1_median {P : GP} {l : Launch} (hO : okG P) (F : Nat) (S : St) (x0 : Nat) (x1 : Int32) {r : Int32 × St} (h : C_X1_median F S x0 x1 = some r) : FM l (OG P) yX1_median (ws_ yX1_median cX1_median 2 (some .int)) 49 3186 [.ref x0, .int x1] S (f_mi r) := by
  refine FM.of (own := RX1) (lv := [(0, .ref x0), (1, .int x1)]) (OG_ok P hO) pl_X1 rfl (Nat.le_of_ble_eq_true rfl) rfl h (mono_X1_median h).LE (fun X C hm => ?_)
  unfold C_X1_median
  refine VF.bind (fun _ _ => ?_)
  refine v_iload_n C dX1_median_0 1 rfl ?_
  refine v_iconst C dX1_median_1 ci_0 ?_
  refine v_iconst C dX1_median_2 ci_4 ?_
  refine v_callS_ri C (As := [.int x1, .int 0, .int 4]) (st := []) lk_X1_87 dX1_median_3 rfl (Nat.le_of_ble_eq_true rfl) (Nat.le_of_ble_eq_true rfl) (Nat.le_of_ble_eq_true rfl) (fun _ z => met_X1_isIn hO S x1 0 4 z) (fun r1 hr1 => ?_)
  refine v_callS_rv C (As := [.int r1]) (st := []) lk_X1_115 dX1_median_6 rfl (Nat.le_of_ble_eq_true rfl) (Nat.le_of_ble_eq_true rfl) (Nat.le_of_ble_eq_true rfl) (fun _ z => met_X1_checkThat hO S r1 z) (fun r2 hr2 => ?_)
  refine v_aload_n C dX1_median_9 0 rfl ?_
  refine g_getA C dX1_median_10 cls_1 (Nat.le_of_ble_eq_true rfl) fl_X1_48 fs_X1_48 (fun y3 hy3 => ?_)
  refine g_callV_ri C (As := []) (st := []) lk_X1_271 dX1_median_13 rfl (Nat.le_of_ble_eq_true rfl) (Nat.le_of_ble_eq_true rfl) (Nat.le_of_ble_eq_true rfl) cls_3.1 rfl (fun _ z => rc_X3_isUsable z) (fun _ z => met_X3_isUsable hO F S y3 z) (fun r4 hr4 => ?_)
  refine v_callS_rv C (As := [.int r4]) (st := []) lk_X1_131 dX1_median_16 rfl (Nat.le_of_ble_eq_true rfl) (Nat.le_of_ble_eq_true rfl) (Nat.le_of_ble_eq_true rfl) (fun _ z => met_X1_checkState hO S r4 z) (fun r5 hr5 => ?_)
  refine v_aload_n C dX1_median_19 0 rfl ?_
  refine v_iload_n C dX1_median_20 1 rfl ?_
  refine g_callV_mi C (As := [.int x1]) (st := []) lk_X1_291 dX1_median_21 rfl (Nat.le_of_ble_eq_true rfl) (Nat.le_of_ble_eq_true rfl) (Nat.le_of_ble_eq_true rfl) cls_1.1 rfl (fun _ z => rc_X1_medianOf z) (fun _ z => met_X1_medianOf hO F S x0 x1 z) (fun r6 hr6 => ?_)
  exact v_ireturn C hm dX1_median_24 rfl
theorem o_X1_radiusOf_21 {F : Nat} {x0 : Nat} {x1 : Int32} {x2 : Int32}  (s0 : Int32) (S : St) : MF mf_p (C_X1_radiusOf_21 F x0 x1 x2 s0 S) S := by
  unfold C_X1_radiusOf_21
  refine mf_bind (fun r3 hr3 => ?_)
  refine mf_bind (fun y4 hy4 => ?_)
  refine mf_bind (fun r5 hr5 => ?_)
  refine mf_bind (fun r6 hr6 => ?_)
  refine mf_bind (fun y7 hy7 => ?_)
  refine mf_bind (fun y8 hy8 => ?_)
  refine mf_call (fun _ z => mono_X3_deciding z) (fun r9 hr9 => ?_)
  refine mf_call (fun _ z => mono_X3_radius z) (fun r10 hr10 => ?_)
  exact mf_ret leG.rf
theorem o_X1_radiusOf_20 {F : Nat} {x0 : Nat} {x1 : Int32} {x2 : Int32}  (S : St) : MF mf_p (C_X1_radiusOf_20 F x0 x1 x2 S) S := by
  unfold C_X1_radiusOf_20
  exact (o_X1_radiusOf_21 0 S)
theorem mono_X1_radiusOf {F : Nat} {S : St} {x0 : Nat} {x1 : Int32} {x2 : Int32} {r : Int32 × St} (h : C_X1_radiusOf F S x0 x1 x2 = some r) : leG S r.2 := by
  have q : MF mf_p (C_X1_radiusOf F S x0 x1 x2) S := by
    unfold C_X1_radiusOf
    refine mf_bind (fun _ _ => ?_)
    refine mf_bind (fun r1 hr1 => ?_)
    refine mf_ite ?_ ?_
    · exact (o_X1_radiusOf_20 S)
    · refine mf_bind (fun r2 hr2 => ?_)
      refine mf_ite ?_ ?_
      · exact (o_X1_radiusOf_20 S)
      · exact (o_X1_radiusOf_21 1 S)
  exact q r h
theorem w_X1_radiusOf_21 {P : GP} {X : Ctx} {l : Launch} {S0 : St} {F : Nat} (hO : okG P) (C : CX (OG P) X l cX1_radiusOf 3 RX1 (some .int)) (hm : X.2.2.2.2.2.2.2.2.2 = none) {x0 : Nat} {x1 : Int32} {x2 : Int32}  (s0 : Int32) (S : St) : VF (OG P) X 3 614 38753 S0 f_mi (C_X1_radiusOf_21 F x0 x1 x2 s0 S) S 21 [(0, .ref x0), (1, .int x1), (2, .int x2)] [.int s0] := by
  unfold C_X1_radiusOf_21
  refine v_callS_rv C (As := [.int s0]) (st := []) lk_X1_115 dX1_radiusOf_21 rfl (Nat.le_of_ble_eq_true rfl) (Nat.le_of_ble_eq_true rfl) (Nat.le_of_ble_eq_true rfl) (fun _ z => met_X1_checkThat hO S s0 z) (fun r3 hr3 => ?_)
  refine v_aload_n C dX1_radiusOf_24 0 rfl ?_
  refine g_getA C dX1_radiusOf_25 cls_1 (Nat.le_of_ble_eq_true rfl) fl_X1_48 fs_X1_48 (fun y4 hy4 => ?_)
  refine g_callV_ri C (As := []) (st := []) lk_X1_271 dX1_radiusOf_28 rfl (Nat.le_of_ble_eq_true rfl) (Nat.le_of_ble_eq_true rfl) (Nat.le_of_ble_eq_true rfl) cls_3.1 rfl (fun _ z => rc_X3_isUsable z) (fun _ z => met_X3_isUsable hO F S y4 z) (fun r5 hr5 => ?_)
  refine v_callS_rv C (As := [.int r5]) (st := []) lk_X1_131 dX1_radiusOf_31 rfl (Nat.le_of_ble_eq_true rfl) (Nat.le_of_ble_eq_true rfl) (Nat.le_of_ble_eq_true rfl) (fun _ z => met_X1_checkState hO S r5 z) (fun r6 hr6 => ?_)
  refine v_aload_n C dX1_radiusOf_34 0 rfl ?_
  refine g_getA C dX1_radiusOf_35 cls_1 (Nat.le_of_ble_eq_true rfl) fl_X1_48 fs_X1_48 (fun y7 hy7 => ?_)
  refine v_aload_n C dX1_radiusOf_38 0 rfl ?_
  refine g_getA C dX1_radiusOf_39 cls_1 (Nat.le_of_ble_eq_true rfl) fl_X1_48 fs_X1_48 (fun y8 hy8 => ?_)
  refine v_iload_n C dX1_radiusOf_42 1 rfl ?_
  refine g_callV_mi C (As := [.int x1]) (st := [.ref y7]) lk_X1_294 dX1_radiusOf_43 rfl (Nat.le_of_ble_eq_true rfl) (Nat.le_of_ble_eq_true rfl) (Nat.le_of_ble_eq_true rfl) cls_3.1 rfl (fun _ z => rc_X3_deciding z) (fun _ z => met_X3_deciding hO F S y8 x1 z) (fun r9 hr9 => ?_)
  refine v_iload_n C dX1_radiusOf_46 2 rfl ?_
  refine g_callV_mi C (As := [.int (r9.1), .int x2]) (st := []) lk_X1_274 dX1_radiusOf_47 rfl (Nat.le_of_ble_eq_true rfl) (Nat.le_of_ble_eq_true rfl) (Nat.le_of_ble_eq_true rfl) cls_3.1 rfl (fun _ z => rc_X3_radius z) (fun _ z => met_X3_radius hO F r9.2 y7 (r9.1) x2 z) (fun r10 hr10 => ?_)
  exact v_ireturn C hm dX1_radiusOf_50 rfl
theorem w_X1_radiusOf_20 {P : GP} {X : Ctx} {l : Launch} {S0 : St} {F : Nat} (hO : okG P) (C : CX (OG P) X l cX1_radiusOf 3 RX1 (some .int)) (hm : X.2.2.2.2.2.2.2.2.2 = none) {x0 : Nat} {x1 : Int32} {x2 : Int32}  (S : St) : VF (OG P) X 3 614 38753 S0 f_mi (C_X1_radiusOf_20 F x0 x1 x2 S) S 20 [(0, .ref x0), (1, .int x1), (2, .int x2)] [] := by
  unfold C_X1_radiusOf_20
  refine v_iconst C dX1_radiusOf_20 ci_0 ?_
  exact v_sub [0, 1, 2] rfl (w_X1_radiusOf_21 hO C hm 0 S)
theorem met_X1_radiusOf {P : GP} {l : Launch} (hO : okG P) (F : Nat) (S : St) (x0 : Nat) (x1 : Int32) (x2 : Int32) {r : Int32 × St} (h : C_X1_radiusOf F S x0 x1 x2 = some r) : FM l (OG P) yX1_radiusOf (ws_ yX1_radiusOf cX1_radiusOf 3 (some .int)) 614 38753 [.ref x0, .int x1, .int x2] S (f_mi r) := by
  refine FM.of (own := RX1) (lv := [(0, .ref x0), (1, .int x1), (2, .int x2)]) (OG_ok P hO) pl_X1 rfl (Nat.le_of_ble_eq_true rfl) rfl h (mono_X1_radiusOf h).LE (fun X C hm => ?_)
  unfold C_X1_radiusOf
  refine VF.bind (fun _ _ => ?_)
  refine v_iload_n C dX1_radiusOf_0 1 rfl ?_
  refine v_iconst C dX1_radiusOf_1 ci_1 ?_
  refine v_iconst C dX1_radiusOf_2 ci_3 ?_
  refine v_callS_ri C (As := [.int x1, .int 1, .int 3]) (st := []) lk_X1_87 dX1_radiusOf_3 rfl (Nat.le_of_ble_eq_true rfl) (Nat.le_of_ble_eq_true rfl) (Nat.le_of_ble_eq_true rfl) (fun _ z => met_X1_isIn hO S x1 1 3 z) (fun r1 hr1 => ?_)
  refine v_if_eq C (tgt := 20) dX1_radiusOf_6 rfl (fun _ => ?_) (fun _ => ?_)
  · exact v_sub [0, 1, 2] rfl (w_X1_radiusOf_20 hO C hm S)
  · refine v_iload_n C dX1_radiusOf_9 2 rfl ?_
    refine v_callS_ri C (As := [.int x2]) (st := []) lk_X1_223 dX1_radiusOf_10 rfl (Nat.le_of_ble_eq_true rfl) (Nat.le_of_ble_eq_true rfl) (Nat.le_of_ble_eq_true rfl) (fun _ z => met_X1_isPart hO S x2 z) (fun r2 hr2 => ?_)
    refine v_if_eq C (tgt := 20) dX1_radiusOf_13 rfl (fun _ => ?_) (fun _ => ?_)
    · exact v_sub [0, 1, 2] rfl (w_X1_radiusOf_20 hO C hm S)
    · refine v_iconst C dX1_radiusOf_16 ci_1 ?_
      refine v_goto C (tgt := 21) dX1_radiusOf_17 rfl ?_
      exact v_sub [0, 1, 2] rfl (w_X1_radiusOf_21 hO C hm 1 S)
theorem o_X3_greatest_30 {F : Nat} {x0 : Nat} {x1 : Int32} {x2 : Int32} {x3 : Int64} {x5 : Int64} {x7 : Int32} (k3 : Int32 → St → Option (Int32 × St)) (hk3 : ∀ (z7 : Int32) (τ : St), MF mf_p (k3 z7 τ) τ) (S : St) : MF mf_p (C_X3_greatest_30 F k3 x0 x1 x2 x3 x5 x7 S) S := by
  unfold C_X3_greatest_30
  refine mf_bind (fun y3 hy3 => ?_)
  exact (hk3 y3 S)
theorem o_X3_greatest_3 {F : Nat} {x0 : Nat} {x1 : Int32} {x2 : Int32} {x3 : Int64} {x5 : Int64}  : ∀ (n : Nat) (x7 : Int32) (S : St), MF mf_p (C_X3_greatest_3 F x0 x1 x2 x3 x5 n x7 S) S := by
  intro n
  induction n with
  | zero => intro x7 S; exact mf_none
  | succ n ih =>
    intro x7 S
    unfold C_X3_greatest_3
    refine mf_call (fun _ z => mono_X3_isAtMost z) (fun r1 hr1 => ?_)
    refine mf_ite ?_ ?_
    · exact (o_X3_greatest_30 (C_X3_greatest_3 F x0 x1 x2 x3 x5 n) ih r1.2)
    · refine mf_call (fun _ z => mono_X3_isDivided z) (fun r2 hr2 => ?_)
      refine mf_ite ?_ ?_
      · exact (o_X3_greatest_30 (C_X3_greatest_3 F x0 x1 x2 x3 x5 n) ih r2.2)
      · exact mf_ret leG.rf
theorem mono_X3_greatest {F : Nat} {S : St} {x0 : Nat} {x1 : Int32} {x2 : Int32} {x3 : Int64} {x5 : Int64} {r : Int32 × St} (h : C_X3_greatest F S x0 x1 x2 x3 x5 = some r) : leG S r.2 := by
  have q : MF mf_p (C_X3_greatest F S x0 x1 x2 x3 x5) S := by
    unfold C_X3_greatest
    refine mf_bind (fun _ _ => ?_)
    exact (o_X3_greatest_3 F x1 S)
  exact q r h
theorem w_X3_greatest_30 {P : GP} {X : Ctx} {l : Launch} {S0 : St} {F : Nat} (hO : okG P) (C : CX (OG P) X l cX3_greatest 8 RX3 (some .int)) (hm : X.2.2.2.2.2.2.2.2.2 = none) {x0 : Nat} {x1 : Int32} {x2 : Int32} {x3 : Int64} {x5 : Int64} {x7 : Int32} (k3 : Int32 → St → Option (Int32 × St)) (hk3 : ∀ (z7 : Int32) (τ : St), VF (OG P) X 8 613 38729 S0 f_mi (k3 z7 τ) τ 3 [(0, .ref x0), (1, .int x1), (2, .int x2), (3, .long x3), (5, .long x5), (7, .int z7)] []) (S : St) : VF (OG P) X 8 613 38729 S0 f_mi (C_X3_greatest_30 F k3 x0 x1 x2 x3 x5 x7 S) S 30 [(0, .ref x0), (1, .int x1), (2, .int x2), (3, .long x3), (5, .long x5), (7, .int x7)] [] := by
  unfold C_X3_greatest_30
  refine v_iload C dX3_greatest_30 5 rfl ?_
  refine v_iconst C dX3_greatest_32 ci_1 ?_
  refine v_isub C dX3_greatest_33 ?_
  refine v_iload_n C dX3_greatest_34 1 rfl ?_
  refine v_iand C dX3_greatest_35 ?_
  refine v_leti (fun y3 hy3 => ?_)
  refine v_istore C (lv' := [(7, .int y3), (0, .ref x0), (1, .int x1), (2, .int x2), (3, .long x3), (5, .long x5)]) dX3_greatest_36 (Nat.le_of_ble_eq_true rfl) rfl ?_
  refine v_goto C (tgt := 3) dX3_greatest_38 rfl ?_
  exact v_sub [1, 2, 3, 4, 5, 0] rfl (hk3 y3 S)
theorem w_X3_greatest_3 {P : GP} {X : Ctx} {l : Launch} {S0 : St} {F : Nat} (hO : okG P) (C : CX (OG P) X l cX3_greatest 8 RX3 (some .int)) (hm : X.2.2.2.2.2.2.2.2.2 = none) {x0 : Nat} {x1 : Int32} {x2 : Int32} {x3 : Int64} {x5 : Int64}  : ∀ (n : Nat) (x7 : Int32) (S : St), VF (OG P) X 8 613 38729 S0 f_mi (C_X3_greatest_3 F x0 x1 x2 x3 x5 n x7 S) S 3 [(0, .ref x0), (1, .int x1), (2, .int x2), (3, .long x3), (5, .long x5), (7, .int x7)] [] := by
  intro n
  induction n with
  | zero => intro x7 S; exact VF.none
  | succ n ih =>
    intro x7 S
    unfold C_X3_greatest_3
    refine v_aload_n C dX3_greatest_3 0 rfl ?_
    refine v_iload C dX3_greatest_4 5 rfl ?_
    refine v_lload_n C dX3_greatest_6 3 rfl ?_
    refine v_lload C dX3_greatest_7 4 rfl ?_
    refine g_callV_mi C (As := [.int x7, .long x3, .long x5]) (st := []) lk_X3_198 dX3_greatest_9 rfl (Nat.le_of_ble_eq_true rfl) (Nat.le_of_ble_eq_true rfl) (Nat.le_of_ble_eq_true rfl) cls_3.1 rfl (fun _ z => rc_X3_isAtMost z) (fun _ z => met_X3_isAtMost hO F S x0 x7 x3 x5 z) (fun r1 hr1 => ?_)
    refine v_if_eq C (tgt := 30) dX3_greatest_12 rfl (fun _ => ?_) (fun _ => ?_)
    · exact v_sub [0, 1, 2, 3, 4, 5] rfl (w_X3_greatest_30 hO C hm (C_X3_greatest_3 F x0 x1 x2 x3 x5 n) ih r1.2)
    · refine v_aload_n C dX3_greatest_15 0 rfl ?_
      refine v_iload_n C dX3_greatest_16 1 rfl ?_
      refine v_iload C dX3_greatest_17 5 rfl ?_
      refine v_ixor C dX3_greatest_19 ?_
      refine v_iload_n C dX3_greatest_20 2 rfl ?_
      refine v_lload_n C dX3_greatest_21 3 rfl ?_
      refine v_lload C dX3_greatest_22 4 rfl ?_
      refine g_callV_mi C (As := [.int (x1 ^^^ x7), .int x2, .long x3, .long x5]) (st := []) lk_X3_201 dX3_greatest_24 rfl (Nat.le_of_ble_eq_true rfl) (Nat.le_of_ble_eq_true rfl) (Nat.le_of_ble_eq_true rfl) cls_3.1 rfl (fun _ z => rc_X3_isDivided z) (fun _ z => met_X3_isDivided hO F r1.2 x0 (x1 ^^^ x7) x2 x3 x5 z) (fun r2 hr2 => ?_)
      refine v_if_ne C (tgt := 41) dX3_greatest_27 rfl (fun _ => ?_) (fun _ => ?_)
      · exact v_sub [0, 1, 2, 3, 4, 5] rfl (w_X3_greatest_30 hO C hm (C_X3_greatest_3 F x0 x1 x2 x3 x5 n) ih r2.2)
      · refine v_iload C dX3_greatest_41 5 rfl ?_
        exact v_ireturn C hm dX3_greatest_43 rfl
theorem met_X3_greatest {P : GP} {l : Launch} (hO : okG P) (F : Nat) (S : St) (x0 : Nat) (x1 : Int32) (x2 : Int32) (x3 : Int64) (x5 : Int64) {r : Int32 × St} (h : C_X3_greatest F S x0 x1 x2 x3 x5 = some r) : FM l (OG P) yX3_greatest (ws_ yX3_greatest cX3_greatest 8 (some .int)) 613 38729 [.ref x0, .int x1, .int x2, .long x3, .long x5] S (f_mi r) := by
  refine FM.of (own := RX3) (lv := [(0, .ref x0), (1, .int x1), (2, .int x2), (3, .long x3), (5, .long x5)]) (OG_ok P hO) pl_X3 rfl (Nat.le_of_ble_eq_true rfl) rfl h (mono_X3_greatest h).LE (fun X C hm => ?_)
  unfold C_X3_greatest
  refine VF.bind (fun _ _ => ?_)
  refine v_iload_n C dX3_greatest_0 1 rfl ?_
  refine v_istore C (lv' := [(7, .int x1), (0, .ref x0), (1, .int x1), (2, .int x2), (3, .long x3), (5, .long x5)]) dX3_greatest_1 (Nat.le_of_ble_eq_true rfl) rfl ?_
  exact v_sub [1, 2, 3, 4, 5, 0] rfl (w_X3_greatest_3 hO C hm F x1 S)
theorem o_X3_group_36 {F : Nat} {x0 : Nat} {x1 : Int32} {x2 : Int32} {x4 : Int64} {x6 : Int64}  : ∀ (n : Nat) (x8 : Int32) (x9 : Int32) (x10 : Int32) (S : St), MF mf_p (C_X3_group_36 F x0 x1 x2 x4 x6 n x8 x9 x10 S) S := by
  intro n
  induction n with
  | zero => intro x8 x9 x10 S; exact mf_none
  | succ n ih =>
    intro x8 x9 x10 S
    unfold C_X3_group_36
    refine mf_ite ?_ ?_
    · exact mf_ret leG.rf
    · refine mf_call (fun _ z => mono_X3_greatest z) (fun r9 hr9 => ?_)
      refine mf_bind (fun y10 hy10 => ?_)
      refine mf_bind (fun y11 hy11 => ?_)
      refine mf_bind (fun y12 hy12 => ?_)
      exact (ih y11 y10 y12 r9.2)
theorem mono_X3_group {F : Nat} {S : St} {x0 : Nat} {x1 : Int32} {x2 : Int32} {r : Int32 × St} (h : C_X3_group F S x0 x1 x2 = some r) : leG S r.2 := by
  have q : MF mf_p (C_X3_group F S x0 x1 x2) S := by
    unfold C_X3_group
    refine mf_bind (fun _ _ => ?_)
    refine mf_call (fun _ z => mono_X3_deciding z) (fun r1 hr1 => ?_)
    refine mf_bind (fun y2 hy2 => ?_)
    refine mf_call (fun _ z => mono_X3_above z) (fun r3 hr3 => ?_)
    refine mf_bind (fun y4 hy4 => ?_)
    refine mf_call (fun _ z => mono_X3_below z) (fun r5 hr5 => ?_)
    refine mf_bind (fun y6 hy6 => ?_)
    refine mf_bind (fun y7 hy7 => ?_)
    refine mf_bind (fun y8 hy8 => ?_)
    exact (o_X3_group_36 F y8 0 0 r5.2)
  exact q r h
theorem w_X3_group_36 {P : GP} {X : Ctx} {l : Launch} {S0 : St} {F : Nat} (hO : okG P) (C : CX (OG P) X l cX3_group 11 RX3 (some .int)) (hm : X.2.2.2.2.2.2.2.2.2 = none) {x0 : Nat} {x1 : Int32} {x2 : Int32} {x4 : Int64} {x6 : Int64}  : ∀ (n : Nat) (x8 : Int32) (x9 : Int32) (x10 : Int32) (S : St), VF (OG P) X 11 614 38756 S0 f_mi (C_X3_group_36 F x0 x1 x2 x4 x6 n x8 x9 x10 S) S 36 [(0, .ref x0), (1, .int x1), (2, .int x2), (4, .long x4), (6, .long x6), (8, .int x8), (9, .int x9), (10, .int x10)] [] := by
  intro n
  induction n with
  | zero => intro x8 x9 x10 S; exact VF.none
  | succ n ih =>
    intro x8 x9 x10 S
    unfold C_X3_group_36
    refine v_iload C dX3_group_36 7 rfl ?_
    refine v_iload_n C dX3_group_38 2 rfl ?_
    refine v_icmp_gt C (tgt := 73) dX3_group_39 rfl (fun _ => ?_) (fun _ => ?_)
    · refine v_iload C dX3_group_73 6 rfl ?_
      exact v_ireturn C hm dX3_group_75 rfl
    · refine v_aload_n C dX3_group_42 0 rfl ?_
      refine v_iload C dX3_group_43 5 rfl ?_
      refine v_iload_n C dX3_group_45 1 rfl ?_
      refine v_iconst C dX3_group_46 ci_1 ?_
      refine v_isub C dX3_group_47 ?_
      refine v_iload C dX3_group_48 7 rfl ?_
      refine v_isub C dX3_group_50 ?_
      refine v_lload C dX3_group_51 3 rfl ?_
      refine v_lload C dX3_group_53 4 rfl ?_
      refine g_callV_mi C (As := [.int x8, .int ((x1 - 1) - x10), .long x4, .long x6]) (st := []) lk_X3_208 dX3_group_55 rfl (Nat.le_of_ble_eq_true rfl) (Nat.le_of_ble_eq_true rfl) (Nat.le_of_ble_eq_true rfl) cls_3.1 rfl (fun _ z => rc_X3_greatest z) (fun _ z => met_X3_greatest hO F S x0 x8 ((x1 - 1) - x10) x4 x6 z) (fun r9 hr9 => ?_)
      refine v_leti (fun y10 hy10 => ?_)
      refine v_istore C (lv' := [(9, .int y10), (0, .ref x0), (1, .int x1), (2, .int x2), (4, .long x4), (6, .long x6), (8, .int x8), (10, .int x10)]) dX3_group_58 (Nat.le_of_ble_eq_true rfl) rfl ?_
      refine v_iload C dX3_group_60 6 rfl ?_
      refine v_iload C dX3_group_62 0 rfl ?_
      refine v_ixor C dX3_group_64 ?_
      refine v_leti (fun y11 hy11 => ?_)
      refine v_istore C (lv' := [(8, .int y11), (9, .int y10), (0, .ref x0), (1, .int x1), (2, .int x2), (4, .long x4), (6, .long x6), (10, .int x10)]) dX3_group_65 (Nat.le_of_ble_eq_true rfl) rfl ?_
      refine v_iincN C (lv' := fun y12 => [(10, .int y12), (8, .int y11), (9, .int y10), (0, .ref x0), (1, .int x1), (2, .int x2), (4, .long x4), (6, .long x6)]) dX3_group_67 7 rfl ci_1 (Nat.le_of_ble_eq_true rfl) (fun _ => rfl) (fun y12 hy12 => ?_)
      refine v_goto C (tgt := 36) dX3_group_70 rfl ?_
      exact v_sub [3, 4, 5, 6, 7, 1, 2, 0] rfl (ih y11 y10 y12 r9.2)
theorem met_X3_group {P : GP} {l : Launch} (hO : okG P) (F : Nat) (S : St) (x0 : Nat) (x1 : Int32) (x2 : Int32) {r : Int32 × St} (h : C_X3_group F S x0 x1 x2 = some r) : FM l (OG P) yX3_group (ws_ yX3_group cX3_group 11 (some .int)) 614 38756 [.ref x0, .int x1, .int x2] S (f_mi r) := by
  refine FM.of (own := RX3) (lv := [(0, .ref x0), (1, .int x1), (2, .int x2)]) (OG_ok P hO) pl_X3 rfl (Nat.le_of_ble_eq_true rfl) rfl h (mono_X3_group h).LE (fun X C hm => ?_)
  unfold C_X3_group
  refine VF.bind (fun _ _ => ?_)
  refine v_aload_n C dX3_group_0 0 rfl ?_
  refine v_iload_n C dX3_group_1 1 rfl ?_
  refine g_callV_mi C (As := [.int x1]) (st := []) lk_X3_205 dX3_group_2 rfl (Nat.le_of_ble_eq_true rfl) (Nat.le_of_ble_eq_true rfl) (Nat.le_of_ble_eq_true rfl) cls_3.1 rfl (fun _ z => rc_X3_deciding z) (fun _ z => met_X3_deciding hO F S x0 x1 z) (fun r1 hr1 => ?_)
  refine v_leti (fun y2 hy2 => ?_)
  refine v_istore_n C (lv' := [(3, .int y2), (0, .ref x0), (1, .int x1), (2, .int x2)]) dX3_group_5 (Nat.le_of_ble_eq_true rfl) rfl ?_
  refine v_aload_n C dX3_group_6 1 rfl ?_
  refine v_iload_n C dX3_group_7 0 rfl ?_
  refine g_callV_ml C (As := [.int y2]) (st := []) lk_X3_185 dX3_group_8 rfl (Nat.le_of_ble_eq_true rfl) (Nat.le_of_ble_eq_true rfl) (Nat.le_of_ble_eq_true rfl) cls_3.1 rfl (fun _ z => rc_X3_above z) (fun _ z => met_X3_above hO F r1.2 x0 y2 z) (fun r3 hr3 => ?_)
  refine v_letl (fun y4 hy4 => ?_)
  refine v_lstore C (lv' := [(4, .long y4), (3, .int y2), (0, .ref x0), (1, .int x1), (2, .int x2)]) dX3_group_11 (Nat.le_of_ble_eq_true rfl) rfl ?_
  refine v_aload_n C dX3_group_13 2 rfl ?_
  refine v_iload_n C dX3_group_14 1 rfl ?_
  refine g_callV_ml C (As := [.int y2]) (st := []) lk_X3_188 dX3_group_15 rfl (Nat.le_of_ble_eq_true rfl) (Nat.le_of_ble_eq_true rfl) (Nat.le_of_ble_eq_true rfl) cls_3.1 rfl (fun _ z => rc_X3_below z) (fun _ z => met_X3_below hO F r3.2 x0 y2 z) (fun r5 hr5 => ?_)
  refine v_letl (fun y6 hy6 => ?_)
  refine v_lstore C (lv' := [(6, .long y6), (4, .long y4), (3, .int y2), (0, .ref x0), (1, .int x1), (2, .int x2)]) dX3_group_18 (Nat.le_of_ble_eq_true rfl) rfl ?_
  refine v_iconst C dX3_group_20 ci_1 ?_
  refine v_aload_n C dX3_group_21 3 rfl ?_
  refine g_getI C dX3_group_22 cls_3 (Nat.le_of_ble_eq_true rfl) fl_X3_21 fs_X3_21 (fun y7 hy7 => ?_)
  refine v_ishl C dX3_group_25 ?_
  refine v_iconst C dX3_group_26 ci_1 ?_
  refine v_isub C dX3_group_27 ?_
  refine v_leti (fun y8 hy8 => ?_)
  refine v_istore C (lv' := [(8, .int y8), (6, .long y6), (4, .long y4), (3, .int y2), (0, .ref x0), (1, .int x1), (2, .int x2)]) dX3_group_28 (Nat.le_of_ble_eq_true rfl) rfl ?_
  refine v_iconst C dX3_group_30 ci_0 ?_
  refine v_istore C (lv' := [(9, .int 0), (8, .int y8), (6, .long y6), (4, .long y4), (3, .int y2), (0, .ref x0), (1, .int x1), (2, .int x2)]) dX3_group_31 (Nat.le_of_ble_eq_true rfl) rfl ?_
  refine v_iconst C dX3_group_33 ci_0 ?_
  refine v_istore C (lv' := [(10, .int 0), (9, .int 0), (8, .int y8), (6, .long y6), (4, .long y4), (3, .int y2), (0, .ref x0), (1, .int x1), (2, .int x2)]) dX3_group_34 (Nat.le_of_ble_eq_true rfl) rfl ?_
  exact v_sub [6, 7, 8, 4, 3, 2, 1, 0] rfl (w_X3_group_36 hO C hm F y8 0 0 r5.2)
theorem o_X1_group_25 {F : Nat} {x0 : Nat} {x1 : Int32} {x2 : Int32}  (s0 : Int32) (S : St) : MF mf_p (C_X1_group_25 F x0 x1 x2 s0 S) S := by
  unfold C_X1_group_25
  refine mf_bind (fun r3 hr3 => ?_)
  refine mf_bind (fun y4 hy4 => ?_)
  refine mf_bind (fun r5 hr5 => ?_)
  refine mf_bind (fun r6 hr6 => ?_)
  refine mf_bind (fun y7 hy7 => ?_)
  refine mf_call (fun _ z => mono_X3_group z) (fun r8 hr8 => ?_)
  exact mf_ret leG.rf
theorem o_X1_group_24 {F : Nat} {x0 : Nat} {x1 : Int32} {x2 : Int32}  (S : St) : MF mf_p (C_X1_group_24 F x0 x1 x2 S) S := by
  unfold C_X1_group_24
  exact (o_X1_group_25 0 S)
theorem mono_X1_group {F : Nat} {S : St} {x0 : Nat} {x1 : Int32} {x2 : Int32} {r : Int32 × St} (h : C_X1_group F S x0 x1 x2 = some r) : leG S r.2 := by
  have q : MF mf_p (C_X1_group F S x0 x1 x2) S := by
    unfold C_X1_group
    refine mf_bind (fun _ _ => ?_)
    refine mf_bind (fun r1 hr1 => ?_)
    refine mf_ite ?_ ?_
    · exact (o_X1_group_24 S)
    · refine mf_bind (fun r2 hr2 => ?_)
      refine mf_ite ?_ ?_
      · exact (o_X1_group_24 S)
      · exact (o_X1_group_25 1 S)
  exact q r h
theorem w_X1_group_25 {P : GP} {X : Ctx} {l : Launch} {S0 : St} {F : Nat} (hO : okG P) (C : CX (OG P) X l cX1_group 3 RX1 (some .int)) (hm : X.2.2.2.2.2.2.2.2.2 = none) {x0 : Nat} {x1 : Int32} {x2 : Int32}  (s0 : Int32) (S : St) : VF (OG P) X 3 615 38786 S0 f_mi (C_X1_group_25 F x0 x1 x2 s0 S) S 25 [(0, .ref x0), (1, .int x1), (2, .int x2)] [.int s0] := by
  unfold C_X1_group_25
  refine v_callS_rv C (As := [.int s0]) (st := []) lk_X1_115 dX1_group_25 rfl (Nat.le_of_ble_eq_true rfl) (Nat.le_of_ble_eq_true rfl) (Nat.le_of_ble_eq_true rfl) (fun _ z => met_X1_checkThat hO S s0 z) (fun r3 hr3 => ?_)
  refine v_aload_n C dX1_group_28 0 rfl ?_
  refine g_getA C dX1_group_29 cls_1 (Nat.le_of_ble_eq_true rfl) fl_X1_48 fs_X1_48 (fun y4 hy4 => ?_)
  refine g_callV_ri C (As := []) (st := []) lk_X1_271 dX1_group_32 rfl (Nat.le_of_ble_eq_true rfl) (Nat.le_of_ble_eq_true rfl) (Nat.le_of_ble_eq_true rfl) cls_3.1 rfl (fun _ z => rc_X3_isUsable z) (fun _ z => met_X3_isUsable hO F S y4 z) (fun r5 hr5 => ?_)
  refine v_callS_rv C (As := [.int r5]) (st := []) lk_X1_131 dX1_group_35 rfl (Nat.le_of_ble_eq_true rfl) (Nat.le_of_ble_eq_true rfl) (Nat.le_of_ble_eq_true rfl) (fun _ z => met_X1_checkState hO S r5 z) (fun r6 hr6 => ?_)
  refine v_aload_n C dX1_group_38 0 rfl ?_
  refine g_getA C dX1_group_39 cls_1 (Nat.le_of_ble_eq_true rfl) fl_X1_48 fs_X1_48 (fun y7 hy7 => ?_)
  refine v_iload_n C dX1_group_42 1 rfl ?_
  refine v_iload_n C dX1_group_43 2 rfl ?_
  refine g_callV_mi C (As := [.int x1, .int x2]) (st := []) lk_X1_297 dX1_group_44 rfl (Nat.le_of_ble_eq_true rfl) (Nat.le_of_ble_eq_true rfl) (Nat.le_of_ble_eq_true rfl) cls_3.1 rfl (fun _ z => rc_X3_group z) (fun _ z => met_X3_group hO F S y7 x1 x2 z) (fun r8 hr8 => ?_)
  exact v_ireturn C hm dX1_group_47 rfl
theorem w_X1_group_24 {P : GP} {X : Ctx} {l : Launch} {S0 : St} {F : Nat} (hO : okG P) (C : CX (OG P) X l cX1_group 3 RX1 (some .int)) (hm : X.2.2.2.2.2.2.2.2.2 = none) {x0 : Nat} {x1 : Int32} {x2 : Int32}  (S : St) : VF (OG P) X 3 615 38786 S0 f_mi (C_X1_group_24 F x0 x1 x2 S) S 24 [(0, .ref x0), (1, .int x1), (2, .int x2)] [] := by
  unfold C_X1_group_24
  refine v_iconst C dX1_group_24 ci_0 ?_
  exact v_sub [0, 1, 2] rfl (w_X1_group_25 hO C hm 0 S)
theorem met_X1_group {P : GP} {l : Launch} (hO : okG P) (F : Nat) (S : St) (x0 : Nat) (x1 : Int32) (x2 : Int32) {r : Int32 × St} (h : C_X1_group F S x0 x1 x2 = some r) : FM l (OG P) yX1_group (ws_ yX1_group cX1_group 3 (some .int)) 615 38786 [.ref x0, .int x1, .int x2] S (f_mi r) := by
  refine FM.of (own := RX1) (lv := [(0, .ref x0), (1, .int x1), (2, .int x2)]) (OG_ok P hO) pl_X1 rfl (Nat.le_of_ble_eq_true rfl) rfl h (mono_X1_group h).LE (fun X C hm => ?_)
  unfold C_X1_group
  refine VF.bind (fun _ _ => ?_)
  refine v_iload_n C dX1_group_0 1 rfl ?_
  refine v_iconst C dX1_group_1 ci_1 ?_
  refine v_iconst C dX1_group_2 ci_3 ?_
  refine v_callS_ri C (As := [.int x1, .int 1, .int 3]) (st := []) lk_X1_87 dX1_group_3 rfl (Nat.le_of_ble_eq_true rfl) (Nat.le_of_ble_eq_true rfl) (Nat.le_of_ble_eq_true rfl) (fun _ z => met_X1_isIn hO S x1 1 3 z) (fun r1 hr1 => ?_)
  refine v_if_eq C (tgt := 24) dX1_group_6 rfl (fun _ => ?_) (fun _ => ?_)
  · exact v_sub [0, 1, 2] rfl (w_X1_group_24 hO C hm S)
  · refine v_iload_n C dX1_group_9 2 rfl ?_
    refine v_iconst C dX1_group_10 ci_0 ?_
    refine v_iload_n C dX1_group_11 1 rfl ?_
    refine v_iconst C dX1_group_12 ci_1 ?_
    refine v_isub C dX1_group_13 ?_
    refine v_callS_ri C (As := [.int x2, .int 0, .int (x1 - 1)]) (st := []) lk_X1_87 dX1_group_14 rfl (Nat.le_of_ble_eq_true rfl) (Nat.le_of_ble_eq_true rfl) (Nat.le_of_ble_eq_true rfl) (fun _ z => met_X1_isIn hO S x2 0 (x1 - 1) z) (fun r2 hr2 => ?_)
    refine v_if_eq C (tgt := 24) dX1_group_17 rfl (fun _ => ?_) (fun _ => ?_)
    · exact v_sub [0, 1, 2] rfl (w_X1_group_24 hO C hm S)
    · refine v_iconst C dX1_group_20 ci_1 ?_
      refine v_goto C (tgt := 25) dX1_group_21 rfl ?_
      exact v_sub [0, 1, 2] rfl (w_X1_group_25 hO C hm 1 S)
theorem o_X3_covering_3 {F : Nat} {x0 : Nat} {x1 : Int64} {x3 : Int64}  : ∀ (n : Nat) (x5 : Int32) (S : St), MF mf_p (C_X3_covering_3 F x0 x1 x3 n x5 S) S := by
  intro n
  induction n with
  | zero => intro x5 S; exact mf_none
  | succ n ih =>
    intro x5 S
    unfold C_X3_covering_3
    refine mf_bind (fun y1 hy1 => ?_)
    refine mf_call (fun _ z => mono_X3_isDivided z) (fun r2 hr2 => ?_)
    refine mf_ite ?_ ?_
    · refine mf_bind (fun y3 hy3 => ?_)
      exact (ih y3 r2.2)
    · exact mf_ret leG.rf
theorem mono_X3_covering {F : Nat} {S : St} {x0 : Nat} {x1 : Int64} {x3 : Int64} {r : Int32 × St} (h : C_X3_covering F S x0 x1 x3 = some r) : leG S r.2 := by
  have q : MF mf_p (C_X3_covering F S x0 x1 x3) S := by
    unfold C_X3_covering
    refine mf_bind (fun _ _ => ?_)
    exact (o_X3_covering_3 F 1 S)
  exact q r h
theorem w_X3_covering_3 {P : GP} {X : Ctx} {l : Launch} {S0 : St} {F : Nat} (hO : okG P) (C : CX (OG P) X l cX3_covering 6 RX3 (some .int)) (hm : X.2.2.2.2.2.2.2.2.2 = none) {x0 : Nat} {x1 : Int64} {x3 : Int64}  : ∀ (n : Nat) (x5 : Int32) (S : St), VF (OG P) X 6 613 38729 S0 f_mi (C_X3_covering_3 F x0 x1 x3 n x5 S) S 3 [(0, .ref x0), (1, .long x1), (3, .long x3), (5, .int x5)] [] := by
  intro n
  induction n with
  | zero => intro x5 S; exact VF.none
  | succ n ih =>
    intro x5 S
    unfold C_X3_covering_3
    refine v_aload_n C dX3_covering_3 0 rfl ?_
    refine v_iconst C dX3_covering_4 ci_1 ?_
    refine v_aload_n C dX3_covering_5 0 rfl ?_
    refine g_getI C dX3_covering_6 cls_3 (Nat.le_of_ble_eq_true rfl) fl_X3_21 fs_X3_21 (fun y1 hy1 => ?_)
    refine v_ishl C dX3_covering_9 ?_
    refine v_iconst C dX3_covering_10 ci_1 ?_
    refine v_isub C dX3_covering_11 ?_
    refine v_iload C dX3_covering_12 3 rfl ?_
    refine v_lload_n C dX3_covering_14 1 rfl ?_
    refine v_lload_n C dX3_covering_15 2 rfl ?_
    refine g_callV_mi C (As := [.int ((1 <<< (y1 &&& 31)) - 1), .int x5, .long x1, .long x3]) (st := []) lk_X3_201 dX3_covering_16 rfl (Nat.le_of_ble_eq_true rfl) (Nat.le_of_ble_eq_true rfl) (Nat.le_of_ble_eq_true rfl) cls_3.1 rfl (fun _ z => rc_X3_isDivided z) (fun _ z => met_X3_isDivided hO F S x0 ((1 <<< (y1 &&& 31)) - 1) x5 x1 x3 z) (fun r2 hr2 => ?_)
    refine v_if_ne C (tgt := 28) dX3_covering_19 rfl (fun _ => ?_) (fun _ => ?_)
    · refine v_iincN C (lv' := fun y3 => [(5, .int y3), (0, .ref x0), (1, .long x1), (3, .long x3)]) dX3_covering_22 3 rfl ci_1 (Nat.le_of_ble_eq_true rfl) (fun _ => rfl) (fun y3 hy3 => ?_)
      refine v_goto C (tgt := 3) dX3_covering_25 rfl ?_
      exact v_sub [1, 2, 3, 0] rfl (ih y3 r2.2)
    · refine v_iload C dX3_covering_28 3 rfl ?_
      exact v_ireturn C hm dX3_covering_30 rfl
theorem met_X3_covering {P : GP} {l : Launch} (hO : okG P) (F : Nat) (S : St) (x0 : Nat) (x1 : Int64) (x3 : Int64) {r : Int32 × St} (h : C_X3_covering F S x0 x1 x3 = some r) : FM l (OG P) yX3_covering (ws_ yX3_covering cX3_covering 6 (some .int)) 613 38729 [.ref x0, .long x1, .long x3] S (f_mi r) := by
  refine FM.of (own := RX3) (lv := [(0, .ref x0), (1, .long x1), (3, .long x3)]) (OG_ok P hO) pl_X3 rfl (Nat.le_of_ble_eq_true rfl) rfl h (mono_X3_covering h).LE (fun X C hm => ?_)
  unfold C_X3_covering
  refine VF.bind (fun _ _ => ?_)
  refine v_iconst C dX3_covering_0 ci_1 ?_
  refine v_istore C (lv' := [(5, .int 1), (0, .ref x0), (1, .long x1), (3, .long x3)]) dX3_covering_1 (Nat.le_of_ble_eq_true rfl) rfl ?_
  exact v_sub [1, 2, 3, 0] rfl (w_X3_covering_3 hO C hm F 1 S)
theorem o_X1_covering_20 {F : Nat} {x0 : Nat} {x1 : Int32} {x2 : Int32}  (s0 : Int32) (S : St) : MF mf_p (C_X1_covering_20 F x0 x1 x2 s0 S) S := by
  unfold C_X1_covering_20
  refine mf_bind (fun r2 hr2 => ?_)
  refine mf_bind (fun y3 hy3 => ?_)
  refine mf_bind (fun r4 hr4 => ?_)
  refine mf_bind (fun r5 hr5 => ?_)
  refine mf_bind (fun y6 hy6 => ?_)
  refine mf_call (fun _ z => mono_X3_covering z) (fun r7 hr7 => ?_)
  exact mf_ret leG.rf
theorem o_X1_covering_19 {F : Nat} {x0 : Nat} {x1 : Int32} {x2 : Int32}  (S : St) : MF mf_p (C_X1_covering_19 F x0 x1 x2 S) S := by
  unfold C_X1_covering_19
  exact (o_X1_covering_20 0 S)
theorem mono_X1_covering {F : Nat} {S : St} {x0 : Nat} {x1 : Int32} {x2 : Int32} {r : Int32 × St} (h : C_X1_covering F S x0 x1 x2 = some r) : leG S r.2 := by
  have q : MF mf_p (C_X1_covering F S x0 x1 x2) S := by
    unfold C_X1_covering
    refine mf_bind (fun _ _ => ?_)
    refine mf_ite ?_ ?_
    · exact (o_X1_covering_19 S)
    · refine mf_bind (fun r1 hr1 => ?_)
      refine mf_ite ?_ ?_
      · exact (o_X1_covering_19 S)
      · exact (o_X1_covering_20 1 S)
  exact q r h
theorem w_X1_covering_20 {P : GP} {X : Ctx} {l : Launch} {S0 : St} {F : Nat} (hO : okG P) (C : CX (OG P) X l cX1_covering 3 RX1 (some .int)) (hm : X.2.2.2.2.2.2.2.2.2 = none) {x0 : Nat} {x1 : Int32} {x2 : Int32}  (s0 : Int32) (S : St) : VF (OG P) X 3 614 38754 S0 f_mi (C_X1_covering_20 F x0 x1 x2 s0 S) S 20 [(0, .ref x0), (1, .int x1), (2, .int x2)] [.int s0] := by
  unfold C_X1_covering_20
  refine v_callS_rv C (As := [.int s0]) (st := []) lk_X1_115 dX1_covering_20 rfl (Nat.le_of_ble_eq_true rfl) (Nat.le_of_ble_eq_true rfl) (Nat.le_of_ble_eq_true rfl) (fun _ z => met_X1_checkThat hO S s0 z) (fun r2 hr2 => ?_)
  refine v_aload_n C dX1_covering_23 0 rfl ?_
  refine g_getA C dX1_covering_24 cls_1 (Nat.le_of_ble_eq_true rfl) fl_X1_48 fs_X1_48 (fun y3 hy3 => ?_)
  refine g_callV_ri C (As := []) (st := []) lk_X1_271 dX1_covering_27 rfl (Nat.le_of_ble_eq_true rfl) (Nat.le_of_ble_eq_true rfl) (Nat.le_of_ble_eq_true rfl) cls_3.1 rfl (fun _ z => rc_X3_isUsable z) (fun _ z => met_X3_isUsable hO F S y3 z) (fun r4 hr4 => ?_)
  refine v_callS_rv C (As := [.int r4]) (st := []) lk_X1_131 dX1_covering_30 rfl (Nat.le_of_ble_eq_true rfl) (Nat.le_of_ble_eq_true rfl) (Nat.le_of_ble_eq_true rfl) (fun _ z => met_X1_checkState hO S r4 z) (fun r5 hr5 => ?_)
  refine v_aload_n C dX1_covering_33 0 rfl ?_
  refine g_getA C dX1_covering_34 cls_1 (Nat.le_of_ble_eq_true rfl) fl_X1_48 fs_X1_48 (fun y6 hy6 => ?_)
  refine v_iload_n C dX1_covering_37 1 rfl ?_
  refine v_i2l C dX1_covering_38 ?_
  refine v_iload_n C dX1_covering_39 2 rfl ?_
  refine v_i2l C dX1_covering_40 ?_
  refine g_callV_mi C (As := [.long (((x1) : Int32).toInt64), .long (((x2) : Int32).toInt64)]) (st := []) lk_X1_300 dX1_covering_41 rfl (Nat.le_of_ble_eq_true rfl) (Nat.le_of_ble_eq_true rfl) (Nat.le_of_ble_eq_true rfl) cls_3.1 rfl (fun _ z => rc_X3_covering z) (fun _ z => met_X3_covering hO F S y6 (((x1) : Int32).toInt64) (((x2) : Int32).toInt64) z) (fun r7 hr7 => ?_)
  exact v_ireturn C hm dX1_covering_44 rfl
theorem w_X1_covering_19 {P : GP} {X : Ctx} {l : Launch} {S0 : St} {F : Nat} (hO : okG P) (C : CX (OG P) X l cX1_covering 3 RX1 (some .int)) (hm : X.2.2.2.2.2.2.2.2.2 = none) {x0 : Nat} {x1 : Int32} {x2 : Int32}  (S : St) : VF (OG P) X 3 614 38754 S0 f_mi (C_X1_covering_19 F x0 x1 x2 S) S 19 [(0, .ref x0), (1, .int x1), (2, .int x2)] [] := by
  unfold C_X1_covering_19
  refine v_iconst C dX1_covering_19 ci_0 ?_
  exact v_sub [0, 1, 2] rfl (w_X1_covering_20 hO C hm 0 S)
theorem met_X1_covering {P : GP} {l : Launch} (hO : okG P) (F : Nat) (S : St) (x0 : Nat) (x1 : Int32) (x2 : Int32) {r : Int32 × St} (h : C_X1_covering F S x0 x1 x2 = some r) : FM l (OG P) yX1_covering (ws_ yX1_covering cX1_covering 3 (some .int)) 614 38754 [.ref x0, .int x1, .int x2] S (f_mi r) := by
  refine FM.of (own := RX1) (lv := [(0, .ref x0), (1, .int x1), (2, .int x2)]) (OG_ok P hO) pl_X1 rfl (Nat.le_of_ble_eq_true rfl) rfl h (mono_X1_covering h).LE (fun X C hm => ?_)
  unfold C_X1_covering
  refine VF.bind (fun _ _ => ?_)
  refine v_iload_n C dX1_covering_0 1 rfl ?_
  refine v_if_lt C (tgt := 19) dX1_covering_1 rfl (fun _ => ?_) (fun _ => ?_)
  · exact v_sub [0, 1, 2] rfl (w_X1_covering_19 hO C hm S)
  · refine v_iload_n C dX1_covering_4 2 rfl ?_
    refine v_iconst C dX1_covering_5 ci_1 ?_
    refine v_sipush C dX1_covering_6 cs_1000 ?_
    refine v_callS_ri C (As := [.int x2, .int 1, .int 1000]) (st := []) lk_X1_87 dX1_covering_9 rfl (Nat.le_of_ble_eq_true rfl) (Nat.le_of_ble_eq_true rfl) (Nat.le_of_ble_eq_true rfl) (fun _ z => met_X1_isIn hO S x2 1 1000 z) (fun r1 hr1 => ?_)
    refine v_if_eq C (tgt := 19) dX1_covering_12 rfl (fun _ => ?_) (fun _ => ?_)
    · exact v_sub [0, 1, 2] rfl (w_X1_covering_19 hO C hm S)
    · refine v_iconst C dX1_covering_15 ci_1 ?_
      refine v_goto C (tgt := 20) dX1_covering_16 rfl ?_
      exact v_sub [0, 1, 2] rfl (w_X1_covering_20 hO C hm 1 S)
theorem w_X1_covered_96 {P : GP} {X : Ctx} {l : Launch} {F : Nat} {S : St} (hO : okG P) (C : CX (OG P) X l cX1_covered 6 RX1 (some .int)) (hm : X.2.2.2.2.2.2.2.2.2 = none) {x0 : Nat} {x1 : Int32} {x2 : Int32} {x3 : Int32} {x5 : Int32} (k53 : Int32 → Int32 → Option Int32) (hk53 : ∀ (z4 : Int32) (z5 : Int32), VF (OG P) X 6 3 90 S (f_ri S) (k53 z4 z5) S 53 [(0, .ref x0), (1, .int x1), (2, .int x2), (3, .int x3), (4, .int z4), (5, .int z5)] []) (s0 : Int32) (s1 : Int32) : VF (OG P) X 6 3 90 S (f_ri S) (C_X1_covered_96 F k53 S x0 x1 x2 x3 x5 s0 s1) S 96 [(0, .ref x0), (1, .int x1), (2, .int x2), (3, .int x3), (5, .int x5)] [.int s1, .int s0] := by
  unfold C_X1_covered_96
  refine v_ior C dX1_covered_96 ?_
  refine v_leti (fun y15 hy15 => ?_)
  refine v_istore C (lv' := [(4, .int y15), (0, .ref x0), (1, .int x1), (2, .int x2), (3, .int x3), (5, .int x5)]) dX1_covered_97 (Nat.le_of_ble_eq_true rfl) rfl ?_
  refine v_iincN C (lv' := fun y16 => [(5, .int y16), (4, .int y15), (0, .ref x0), (1, .int x1), (2, .int x2), (3, .int x3)]) dX1_covered_99 5 rfl ci_1 (Nat.le_of_ble_eq_true rfl) (fun _ => rfl) (fun y16 hy16 => ?_)
  refine v_goto C (tgt := 53) dX1_covered_102 rfl ?_
  exact v_sub [2, 3, 4, 5, 1, 0] rfl (hk53 y15 y16)
theorem w_X1_covered_53 {P : GP} {X : Ctx} {l : Launch} {F : Nat} {S : St} (hO : okG P) (C : CX (OG P) X l cX1_covered 6 RX1 (some .int)) (hm : X.2.2.2.2.2.2.2.2.2 = none) {x0 : Nat} {x1 : Int32} {x2 : Int32} {x3 : Int32}  : ∀ (n : Nat) (x4 : Int32) (x5 : Int32), VF (OG P) X 6 3 90 S (f_ri S) (C_X1_covered_53 F S x0 x1 x2 x3 n x4 x5) S 53 [(0, .ref x0), (1, .int x1), (2, .int x2), (3, .int x3), (4, .int x4), (5, .int x5)] [] := by
  intro n
  induction n with
  | zero => intro x4 x5; exact VF.none
  | succ n ih =>
    intro x4 x5
    unfold C_X1_covered_53
    refine v_iload C dX1_covered_53 5 rfl ?_
    refine v_aload_n C dX1_covered_55 0 rfl ?_
    refine g_getA C dX1_covered_56 cls_1 (Nat.le_of_ble_eq_true rfl) fl_X1_39 fs_X1_39 (fun y11 hy11 => ?_)
    refine g_callV_ri C (As := []) (st := [.int x5]) lk_X1_96 dX1_covered_59 rfl (Nat.le_of_ble_eq_true rfl) (Nat.le_of_ble_eq_true rfl) (Nat.le_of_ble_eq_true rfl) cls_2.1 rfl (fun _ z => rc_X2_size z) (fun _ z => met_X2_size hO S y11 z) (fun r12 hr12 => ?_)
    refine v_icmp_ge C (tgt := 105) dX1_covered_62 rfl (fun _ => ?_) (fun _ => ?_)
    · refine v_iload C dX1_covered_105 4 rfl ?_
      exact v_ireturn C hm dX1_covered_107 rfl
    · refine v_iload C dX1_covered_65 4 rfl ?_
      refine v_aload_n C dX1_covered_67 0 rfl ?_
      refine g_getA C dX1_covered_68 cls_1 (Nat.le_of_ble_eq_true rfl) fl_X1_48 fs_X1_48 (fun y13 hy13 => ?_)
      refine v_iconst C dX1_covered_71 ci_1 ?_
      refine v_iload C dX1_covered_72 5 rfl ?_
      refine v_ishl C dX1_covered_74 ?_
      refine v_iload_n C dX1_covered_75 1 rfl ?_
      refine v_iload_n C dX1_covered_76 2 rfl ?_
      refine v_i2l C dX1_covered_77 ?_
      refine v_lconst C dX1_covered_78 cl_1 ?_
      refine g_callV_rl C (As := [.int (1 <<< (x5 &&& 31)), .int x1, .long (((x2) : Int32).toInt64), .long 1]) (st := [.int x4]) lk_X1_241 dX1_covered_79 rfl (Nat.le_of_ble_eq_true rfl) (Nat.le_of_ble_eq_true rfl) (Nat.le_of_ble_eq_true rfl) cls_3.1 rfl (fun _ z => rc_X3_height z) (fun _ z => met_X3_height hO F S y13 (1 <<< (x5 &&& 31)) x1 (((x2) : Int32).toInt64) 1 z) (fun r14 hr14 => ?_)
      refine v_iload_n C dX1_covered_82 3 rfl ?_
      refine v_i2l C dX1_covered_83 ?_
      refine v_lcmp_gt C (tgt := 95) dX1_covered_84 dX1_covered_85 rfl (fun _ => ?_) (fun _ => ?_)
      · refine v_iconst C dX1_covered_95 ci_0 ?_
        exact v_sub [0, 1, 2, 3, 5] rfl (w_X1_covered_96 hO C hm (C_X1_covered_53 F S x0 x1 x2 x3 n) ih x4 0)
      · refine v_iconst C dX1_covered_88 ci_1 ?_
        refine v_iload C dX1_covered_89 5 rfl ?_
        refine v_ishl C dX1_covered_91 ?_
        refine v_goto C (tgt := 96) dX1_covered_92 rfl ?_
        exact v_sub [0, 1, 2, 3, 5] rfl (w_X1_covered_96 hO C hm (C_X1_covered_53 F S x0 x1 x2 x3 n) ih x4 (1 <<< (x5 &&& 31)))
theorem w_X1_covered_34 {P : GP} {X : Ctx} {l : Launch} {F : Nat} {S : St} (hO : okG P) (C : CX (OG P) X l cX1_covered 6 RX1 (some .int)) (hm : X.2.2.2.2.2.2.2.2.2 = none) {x0 : Nat} {x1 : Int32} {x2 : Int32} {x3 : Int32}  (s0 : Int32) : VF (OG P) X 6 3 90 S (f_ri S) (C_X1_covered_34 F S x0 x1 x2 x3 s0) S 34 [(0, .ref x0), (1, .int x1), (2, .int x2), (3, .int x3)] [.int s0] := by
  unfold C_X1_covered_34
  refine v_callS_rv C (As := [.int s0]) (st := []) lk_X1_115 dX1_covered_34 rfl (Nat.le_of_ble_eq_true rfl) (Nat.le_of_ble_eq_true rfl) (Nat.le_of_ble_eq_true rfl) (fun _ z => met_X1_checkThat hO S s0 z) (fun r7 hr7 => ?_)
  refine v_aload_n C dX1_covered_37 0 rfl ?_
  refine g_getA C dX1_covered_38 cls_1 (Nat.le_of_ble_eq_true rfl) fl_X1_48 fs_X1_48 (fun y8 hy8 => ?_)
  refine g_callV_ri C (As := []) (st := []) lk_X1_185 dX1_covered_41 rfl (Nat.le_of_ble_eq_true rfl) (Nat.le_of_ble_eq_true rfl) (Nat.le_of_ble_eq_true rfl) cls_3.1 rfl (fun _ z => rc_X3_isConnected z) (fun _ z => met_X3_isConnected hO F S y8 z) (fun r9 hr9 => ?_)
  refine v_callS_rv C (As := [.int r9]) (st := []) lk_X1_131 dX1_covered_44 rfl (Nat.le_of_ble_eq_true rfl) (Nat.le_of_ble_eq_true rfl) (Nat.le_of_ble_eq_true rfl) (fun _ z => met_X1_checkState hO S r9 z) (fun r10 hr10 => ?_)
  refine v_iconst C dX1_covered_47 ci_0 ?_
  refine v_istore C (lv' := [(4, .int 0), (0, .ref x0), (1, .int x1), (2, .int x2), (3, .int x3)]) dX1_covered_48 (Nat.le_of_ble_eq_true rfl) rfl ?_
  refine v_iconst C dX1_covered_50 ci_0 ?_
  refine v_istore C (lv' := [(5, .int 0), (4, .int 0), (0, .ref x0), (1, .int x1), (2, .int x2), (3, .int x3)]) dX1_covered_51 (Nat.le_of_ble_eq_true rfl) rfl ?_
  exact v_sub [2, 3, 4, 5, 1, 0] rfl (w_X1_covered_53 hO C hm F 0 0)
theorem w_X1_covered_33 {P : GP} {X : Ctx} {l : Launch} {F : Nat} {S : St} (hO : okG P) (C : CX (OG P) X l cX1_covered 6 RX1 (some .int)) (hm : X.2.2.2.2.2.2.2.2.2 = none) {x0 : Nat} {x1 : Int32} {x2 : Int32} {x3 : Int32}   : VF (OG P) X 6 3 90 S (f_ri S) (C_X1_covered_33 F S x0 x1 x2 x3) S 33 [(0, .ref x0), (1, .int x1), (2, .int x2), (3, .int x3)] [] := by
  unfold C_X1_covered_33
  refine v_iconst C dX1_covered_33 ci_0 ?_
  exact v_sub [0, 1, 2, 3] rfl (w_X1_covered_34 hO C hm 0)
theorem met_X1_covered {P : GP} {l : Launch} (hO : okG P) (F : Nat) (S : St) (x0 : Nat) (x1 : Int32) (x2 : Int32) (x3 : Int32) {r : Int32} (h : C_X1_covered F S x0 x1 x2 x3 = some r) : FM l (OG P) yX1_covered (ws_ yX1_covered cX1_covered 6 (some .int)) 3 90 [.ref x0, .int x1, .int x2, .int x3] S ((f_ri S) r) := by
  refine FM.of (own := RX1) (lv := [(0, .ref x0), (1, .int x1), (2, .int x2), (3, .int x3)]) (OG_ok P hO) pl_X1 rfl (Nat.le_of_ble_eq_true rfl) rfl h LE.rf (fun X C hm => ?_)
  unfold C_X1_covered
  refine VF.bind (fun _ _ => ?_)
  refine v_aload_n C dX1_covered_0 0 rfl ?_
  refine v_iload_n C dX1_covered_1 1 rfl ?_
  refine g_callV_rv C (As := [.int x1]) (st := []) lk_X1_141 dX1_covered_2 rfl (Nat.le_of_ble_eq_true rfl) (Nat.le_of_ble_eq_true rfl) (Nat.le_of_ble_eq_true rfl) cls_1.1 rfl (fun _ z => rc_X1_checkEdge z) (fun _ z => met_X1_checkEdge hO S x0 x1 z) (fun r1 hr1 => ?_)
  refine v_iload_n C dX1_covered_5 2 rfl ?_
  refine v_iconst C dX1_covered_6 ci_0 ?_
  refine v_aload_n C dX1_covered_7 0 rfl ?_
  refine g_getA C dX1_covered_8 cls_1 (Nat.le_of_ble_eq_true rfl) fl_X1_39 fs_X1_39 (fun y2 hy2 => ?_)
  refine g_getA C dX1_covered_11 cls_2 (Nat.le_of_ble_eq_true rfl) fl_X1_83 fs_X1_83 (fun y3 hy3 => ?_)
  refine v_iload_n C dX1_covered_14 1 rfl ?_
  refine g_aalA3 C dX1_covered_15 (fun y4 hy4 => ?_)
  refine g_getI C dX1_covered_16 cls_4 (Nat.le_of_ble_eq_true rfl) fl_X1_91 fs_X1_91 (fun y5 hy5 => ?_)
  refine v_callS_ri C (As := [.int x2, .int 0, .int y5]) (st := []) lk_X1_87 dX1_covered_19 rfl (Nat.le_of_ble_eq_true rfl) (Nat.le_of_ble_eq_true rfl) (Nat.le_of_ble_eq_true rfl) (fun _ z => met_X1_isIn hO S x2 0 y5 z) (fun r6 hr6 => ?_)
  refine v_if_eq C (tgt := 33) dX1_covered_22 rfl (fun _ => ?_) (fun _ => ?_)
  · exact v_sub [0, 1, 2, 3] rfl (w_X1_covered_33 hO C hm)
  · refine v_iload_n C dX1_covered_25 3 rfl ?_
    refine v_if_lt C (tgt := 33) dX1_covered_26 rfl (fun _ => ?_) (fun _ => ?_)
    · exact v_sub [0, 1, 2, 3] rfl (w_X1_covered_33 hO C hm)
    · refine v_iconst C dX1_covered_29 ci_1 ?_
      refine v_goto C (tgt := 34) dX1_covered_30 rfl ?_
      exact v_sub [0, 1, 2, 3] rfl (w_X1_covered_34 hO C hm 1)
theorem o_X2_changed_39 {F : Nat} {x0 : Nat} {x2 : Nat}  (S : St) : MF mf_p (C_X2_changed_39 F x0 x2 S) S := by
  unfold C_X2_changed_39
  refine mf_new (fun r10 hr10 => ?_)
  refine mf_bind (fun y11 hy11 => ?_)
  refine mf_bind (fun y12 hy12 => ?_)
  refine mf_bind (fun y13 hy13 => ?_)
  refine mf_callv (fun _ z => mono_X2_init_2 z) (fun r14 hr14 => ?_)
  exact mf_ret leG.rf
theorem o_X2_changed_13 {F : Nat} {x0 : Nat} {x1 : Int32} {x2 : Nat}  : ∀ (n : Nat) (x3 : Int32) (S : St), MF mf_p (C_X2_changed_13 F x0 x1 x2 n x3 S) S := by
  intro n
  induction n with
  | zero => intro x3 S; exact mf_none
  | succ n ih =>
    intro x3 S
    unfold C_X2_changed_13
    refine mf_bind (fun y4 hy4 => ?_)
    refine mf_ite ?_ ?_
    · exact (o_X2_changed_39 S)
    · refine mf_bind (fun y5 hy5 => ?_)
      refine mf_bind (fun y6 hy6 => ?_)
      refine mf_bind (fun y7 hy7 => ?_)
      refine mf_tI (fun S8 hS8 => ?_)
      refine mf_bind (fun y9 hy9 => ?_)
      exact (ih y9 S8)
theorem mono_X2_changed {F : Nat} {S : St} {x0 : Nat} {x1 : Int32} {r : Nat × St} (h : C_X2_changed F S x0 x1 = some r) : leG S r.2 := by
  have q : MF mf_p (C_X2_changed F S x0 x1) S := by
    unfold C_X2_changed
    refine mf_bind (fun _ _ => ?_)
    refine mf_bind (fun y1 hy1 => ?_)
    refine mf_gcl (fun r2 hr2 => ?_)
    refine mf_bind (fun y3 hy3 => ?_)
    exact (o_X2_changed_13 F 0 r2.2)
  exact q r h
theorem w_X2_changed_39 {P : GP} {X : Ctx} {l : Launch} {S0 : St} {F : Nat} (hO : okG P) (C : CX (OG P) X l cX2_changed 4 RX2 (some (.object "NetworkCenters$Network"))) (hm : X.2.2.2.2.2.2.2.2.2 = none) {x0 : Nat} {x2 : Nat}  (S : St) : VF (OG P) X 4 2 58 S0 f_ma (C_X2_changed_39 F x0 x2 S) S 39 [(0, .ref x0), (2, .ref x2)] [] := by
  unfold C_X2_changed_39
  refine g_new C dX2_changed_39 cls_2 q1360 q160 q106 dfok_2 (fun r10 hr10 => ?_)
  refine v_dup C dX2_changed_42 rfl ?_
  refine v_aload_n C dX2_changed_43 1 rfl ?_
  refine v_aload_n C dX2_changed_44 0 rfl ?_
  refine g_getA C dX2_changed_45 cls_2 (Nat.le_of_ble_eq_true rfl) fl_X2_22 fs_X2_22 (fun y11 hy11 => ?_)
  refine v_aload_n C dX2_changed_48 0 rfl ?_
  refine g_getA C dX2_changed_49 cls_2 (Nat.le_of_ble_eq_true rfl) fl_X2_25 fs_X2_25 (fun y12 hy12 => ?_)
  refine v_aload_n C dX2_changed_52 0 rfl ?_
  refine g_getA C dX2_changed_53 cls_2 (Nat.le_of_ble_eq_true rfl) fl_X2_29 fs_X2_29 (fun y13 hy13 => ?_)
  refine v_callI_mv C (As := [.ref x2, .ref y11, .ref y12, .ref y13]) (st := [.ref (r10.1)]) lk_X2_7 dX2_changed_56 rfl (Nat.le_of_ble_eq_true rfl) (Nat.le_of_ble_eq_true rfl) (Nat.le_of_ble_eq_true rfl) (fun _ z => met_X2_init_2 hO r10.2 (r10.1) x2 y11 y12 y13 z) (fun r14 hr14 => ?_)
  exact v_areturn C hm dX2_changed_59 (Or.inl ⟨_, rfl⟩) (Or.inr ⟨_, rfl⟩) rfl
theorem w_X2_changed_13 {P : GP} {X : Ctx} {l : Launch} {S0 : St} {F : Nat} (hO : okG P) (C : CX (OG P) X l cX2_changed 4 RX2 (some (.object "NetworkCenters$Network"))) (hm : X.2.2.2.2.2.2.2.2.2 = none) {x0 : Nat} {x1 : Int32} {x2 : Nat}  : ∀ (n : Nat) (x3 : Int32) (S : St), VF (OG P) X 4 2 58 S0 f_ma (C_X2_changed_13 F x0 x1 x2 n x3 S) S 13 [(0, .ref x0), (1, .int x1), (2, .ref x2), (3, .int x3)] [] := by
  intro n
  induction n with
  | zero => intro x3 S; exact VF.none
  | succ n ih =>
    intro x3 S
    unfold C_X2_changed_13
    refine v_iload_n C dX2_changed_13 3 rfl ?_
    refine v_aload_n C dX2_changed_14 2 rfl ?_
    refine g_alen (kd := 0) (fun _ => rfl) C dX2_changed_15 (fun y4 hy4 => ?_)
    refine v_icmp_ge C (tgt := 39) dX2_changed_16 rfl (fun _ => ?_) (fun _ => ?_)
    · exact v_sub [0, 2] rfl (w_X2_changed_39 hO C hm S)
    · refine v_aload_n C dX2_changed_19 2 rfl ?_
      refine v_iload_n C dX2_changed_20 3 rfl ?_
      refine v_dup2_11 C dX2_changed_21 rfl rfl ?_
      refine g_ial C dX2_changed_22 (fun y5 hy5 => ?_)
      refine v_iload_n C dX2_changed_23 1 rfl ?_
      refine v_aload_n C dX2_changed_24 0 rfl ?_
      refine g_getA C dX2_changed_25 cls_2 (Nat.le_of_ble_eq_true rfl) fl_X2_22 fs_X2_22 (fun y6 hy6 => ?_)
      refine v_iload_n C dX2_changed_28 3 rfl ?_
      refine g_ial C dX2_changed_29 (fun y7 hy7 => ?_)
      refine v_imul C dX2_changed_30 ?_
      refine v_iadd C dX2_changed_31 ?_
      refine g_ias C dX2_changed_32 (fun S8 hS8 => ?_)
      refine v_iincN C (lv' := fun y9 => [(3, .int y9), (0, .ref x0), (1, .int x1), (2, .ref x2)]) dX2_changed_33 3 rfl ci_1 (Nat.le_of_ble_eq_true rfl) (fun _ => rfl) (fun y9 hy9 => ?_)
      refine v_goto C (tgt := 13) dX2_changed_36 rfl ?_
      exact v_sub [1, 2, 3, 0] rfl (ih y9 S8)
theorem met_X2_changed {P : GP} {l : Launch} (hO : okG P) (F : Nat) (S : St) (x0 : Nat) (x1 : Int32) {r : Nat × St} (h : C_X2_changed F S x0 x1 = some r) : FM l (OG P) yX2_changed (ws_ yX2_changed cX2_changed 4 (some (.object "NetworkCenters$Network"))) 2 58 [.ref x0, .int x1] S (f_ma r) := by
  refine FM.of (own := RX2) (lv := [(0, .ref x0), (1, .int x1)]) (OG_ok P hO) pl_X2 rfl (Nat.le_of_ble_eq_true rfl) rfl h (mono_X2_changed h).LE (fun X C hm => ?_)
  unfold C_X2_changed
  refine VF.bind (fun _ _ => ?_)
  refine v_aload_n C dX2_changed_0 0 rfl ?_
  refine g_getA C dX2_changed_1 cls_2 (Nat.le_of_ble_eq_true rfl) fl_X2_13 fs_X2_13 (fun y1 hy1 => ?_)
  refine g_clone C dX2_changed_4 lkCl_X2_41 (Nat.le_of_ble_eq_true rfl) (Nat.le_of_ble_eq_true rfl) (fun r2 hr2 => ?_)
  refine g_castI C dX2_changed_7 q1719 (fun y3 hy3 => ?_)
  refine v_astore_n C (lv' := [(2, .ref (r2.1)), (0, .ref x0), (1, .int x1)]) dX2_changed_10 (Nat.le_of_ble_eq_true rfl) rfl ?_
  refine v_iconst C dX2_changed_11 ci_0 ?_
  refine v_istore_n C (lv' := [(3, .int 0), (2, .ref (r2.1)), (0, .ref x0), (1, .int x1)]) dX2_changed_12 (Nat.le_of_ble_eq_true rfl) rfl ?_
  exact v_sub [2, 3, 1, 0] rfl (w_X2_changed_13 hO C hm F 0 r2.2)
theorem o_X1_changedRadius_22 {F : Nat} {x0 : Nat} {x1 : Int32} {x2 : Int32}  (s0 : Int32) (S : St) : MF mf_p (C_X1_changedRadius_22 F x0 x1 x2 s0 S) S := by
  unfold C_X1_changedRadius_22
  refine mf_bind (fun r3 hr3 => ?_)
  refine mf_bind (fun y4 hy4 => ?_)
  refine mf_bind (fun r5 hr5 => ?_)
  refine mf_bind (fun r6 hr6 => ?_)
  refine mf_new (fun r7 hr7 => ?_)
  refine mf_bind (fun y8 hy8 => ?_)
  refine mf_call (fun _ z => mono_X2_changed z) (fun r9 hr9 => ?_)
  refine mf_callv (fun _ z => mono_X3_init z) (fun r10 hr10 => ?_)
  refine mf_bind (fun y11 hy11 => ?_)
  refine mf_bind (fun r12 hr12 => ?_)
  refine mf_call (fun _ z => mono_X3_radius z) (fun r13 hr13 => ?_)
  exact mf_ret leG.rf
theorem o_X1_changedRadius_21 {F : Nat} {x0 : Nat} {x1 : Int32} {x2 : Int32}  (S : St) : MF mf_p (C_X1_changedRadius_21 F x0 x1 x2 S) S := by
  unfold C_X1_changedRadius_21
  exact (o_X1_changedRadius_22 0 S)
theorem mono_X1_changedRadius {F : Nat} {S : St} {x0 : Nat} {x1 : Int32} {x2 : Int32} {r : Int32 × St} (h : C_X1_changedRadius F S x0 x1 x2 = some r) : leG S r.2 := by
  have q : MF mf_p (C_X1_changedRadius F S x0 x1 x2) S := by
    unfold C_X1_changedRadius
    refine mf_bind (fun _ _ => ?_)
    refine mf_bind (fun r1 hr1 => ?_)
    refine mf_ite ?_ ?_
    · exact (o_X1_changedRadius_21 S)
    · refine mf_bind (fun r2 hr2 => ?_)
      refine mf_ite ?_ ?_
      · exact (o_X1_changedRadius_21 S)
      · exact (o_X1_changedRadius_22 1 S)
  exact q r h
theorem w_X1_changedRadius_22 {P : GP} {X : Ctx} {l : Launch} {S0 : St} {F : Nat} (hO : okG P) (C : CX (OG P) X l cX1_changedRadius 3 RX1 (some .int)) (hm : X.2.2.2.2.2.2.2.2.2 = none) {x0 : Nat} {x1 : Int32} {x2 : Int32}  (s0 : Int32) (S : St) : VF (OG P) X 3 51 3222 S0 f_mi (C_X1_changedRadius_22 F x0 x1 x2 s0 S) S 22 [(0, .ref x0), (1, .int x1), (2, .int x2)] [.int s0] := by
  unfold C_X1_changedRadius_22
  refine v_callS_rv C (As := [.int s0]) (st := []) lk_X1_115 dX1_changedRadius_22 rfl (Nat.le_of_ble_eq_true rfl) (Nat.le_of_ble_eq_true rfl) (Nat.le_of_ble_eq_true rfl) (fun _ z => met_X1_checkThat hO S s0 z) (fun r3 hr3 => ?_)
  refine v_aload_n C dX1_changedRadius_25 0 rfl ?_
  refine g_getA C dX1_changedRadius_26 cls_1 (Nat.le_of_ble_eq_true rfl) fl_X1_48 fs_X1_48 (fun y4 hy4 => ?_)
  refine g_callV_ri C (As := []) (st := []) lk_X1_271 dX1_changedRadius_29 rfl (Nat.le_of_ble_eq_true rfl) (Nat.le_of_ble_eq_true rfl) (Nat.le_of_ble_eq_true rfl) cls_3.1 rfl (fun _ z => rc_X3_isUsable z) (fun _ z => met_X3_isUsable hO F S y4 z) (fun r5 hr5 => ?_)
  refine v_callS_rv C (As := [.int r5]) (st := []) lk_X1_131 dX1_changedRadius_32 rfl (Nat.le_of_ble_eq_true rfl) (Nat.le_of_ble_eq_true rfl) (Nat.le_of_ble_eq_true rfl) (fun _ z => met_X1_checkState hO S r5 z) (fun r6 hr6 => ?_)
  refine g_new C dX1_changedRadius_35 cls_3 q195 q196 q107 dfok_3 (fun r7 hr7 => ?_)
  refine v_dup C dX1_changedRadius_38 rfl ?_
  refine v_aload_n C dX1_changedRadius_39 0 rfl ?_
  refine g_getA C dX1_changedRadius_40 cls_1 (Nat.le_of_ble_eq_true rfl) fl_X1_39 fs_X1_39 (fun y8 hy8 => ?_)
  refine v_iload_n C dX1_changedRadius_43 1 rfl ?_
  refine g_callV_ma C (As := [.int x1]) (st := [.ref (r7.1), .ref (r7.1)]) lk_X1_304 dX1_changedRadius_44 rfl (Nat.le_of_ble_eq_true rfl) (Nat.le_of_ble_eq_true rfl) (Nat.le_of_ble_eq_true rfl) cls_2.1 rfl (fun _ z => rc_X2_changed z) (fun _ z => met_X2_changed hO F r7.2 y8 x1 z) (fun r9 hr9 => ?_)
  refine v_callI_mv C (As := [.ref (r9.1)]) (st := [.ref (r7.1)]) lk_X1_45 dX1_changedRadius_47 rfl (Nat.le_of_ble_eq_true rfl) (Nat.le_of_ble_eq_true rfl) (Nat.le_of_ble_eq_true rfl) (fun _ z => met_X3_init hO F r9.2 (r7.1) (r9.1) z) (fun r10 hr10 => ?_)
  refine v_iconst C dX1_changedRadius_50 ci_1 ?_
  refine v_aload_n C dX1_changedRadius_51 0 rfl ?_
  refine g_getA C dX1_changedRadius_52 cls_1 (Nat.le_of_ble_eq_true rfl) fl_X1_39 fs_X1_39 (fun y11 hy11 => ?_)
  refine g_callV_ri C (As := []) (st := [.int 1, .ref (r7.1)]) lk_X1_96 dX1_changedRadius_55 rfl (Nat.le_of_ble_eq_true rfl) (Nat.le_of_ble_eq_true rfl) (Nat.le_of_ble_eq_true rfl) cls_2.1 rfl (fun _ z => rc_X2_size z) (fun _ z => met_X2_size hO r10 y11 z) (fun r12 hr12 => ?_)
  refine v_ishl C dX1_changedRadius_58 ?_
  refine v_iconst C dX1_changedRadius_59 ci_1 ?_
  refine v_isub C dX1_changedRadius_60 ?_
  refine v_iload_n C dX1_changedRadius_61 2 rfl ?_
  refine g_callV_mi C (As := [.int ((1 <<< (r12 &&& 31)) - 1), .int x2]) (st := []) lk_X1_274 dX1_changedRadius_62 rfl (Nat.le_of_ble_eq_true rfl) (Nat.le_of_ble_eq_true rfl) (Nat.le_of_ble_eq_true rfl) cls_3.1 rfl (fun _ z => rc_X3_radius z) (fun _ z => met_X3_radius hO F r10 (r7.1) ((1 <<< (r12 &&& 31)) - 1) x2 z) (fun r13 hr13 => ?_)
  exact v_ireturn C hm dX1_changedRadius_65 rfl
theorem w_X1_changedRadius_21 {P : GP} {X : Ctx} {l : Launch} {S0 : St} {F : Nat} (hO : okG P) (C : CX (OG P) X l cX1_changedRadius 3 RX1 (some .int)) (hm : X.2.2.2.2.2.2.2.2.2 = none) {x0 : Nat} {x1 : Int32} {x2 : Int32}  (S : St) : VF (OG P) X 3 51 3222 S0 f_mi (C_X1_changedRadius_21 F x0 x1 x2 S) S 21 [(0, .ref x0), (1, .int x1), (2, .int x2)] [] := by
  unfold C_X1_changedRadius_21
  refine v_iconst C dX1_changedRadius_21 ci_0 ?_
  exact v_sub [0, 1, 2] rfl (w_X1_changedRadius_22 hO C hm 0 S)
theorem met_X1_changedRadius {P : GP} {l : Launch} (hO : okG P) (F : Nat) (S : St) (x0 : Nat) (x1 : Int32) (x2 : Int32) {r : Int32 × St} (h : C_X1_changedRadius F S x0 x1 x2 = some r) : FM l (OG P) yX1_changedRadius (ws_ yX1_changedRadius cX1_changedRadius 3 (some .int)) 51 3222 [.ref x0, .int x1, .int x2] S (f_mi r) := by
  refine FM.of (own := RX1) (lv := [(0, .ref x0), (1, .int x1), (2, .int x2)]) (OG_ok P hO) pl_X1 rfl (Nat.le_of_ble_eq_true rfl) rfl h (mono_X1_changedRadius h).LE (fun X C hm => ?_)
  unfold C_X1_changedRadius
  refine VF.bind (fun _ _ => ?_)
  refine v_iload_n C dX1_changedRadius_0 1 rfl ?_
  refine v_iconst C dX1_changedRadius_1 ci_0 ?_
  refine v_bipush C dX1_changedRadius_2 cb_10 ?_
  refine v_callS_ri C (As := [.int x1, .int 0, .int 10]) (st := []) lk_X1_87 dX1_changedRadius_4 rfl (Nat.le_of_ble_eq_true rfl) (Nat.le_of_ble_eq_true rfl) (Nat.le_of_ble_eq_true rfl) (fun _ z => met_X1_isIn hO S x1 0 10 z) (fun r1 hr1 => ?_)
  refine v_if_eq C (tgt := 21) dX1_changedRadius_7 rfl (fun _ => ?_) (fun _ => ?_)
  · exact v_sub [0, 1, 2] rfl (w_X1_changedRadius_21 hO C hm S)
  · refine v_iload_n C dX1_changedRadius_10 2 rfl ?_
    refine v_callS_ri C (As := [.int x2]) (st := []) lk_X1_223 dX1_changedRadius_11 rfl (Nat.le_of_ble_eq_true rfl) (Nat.le_of_ble_eq_true rfl) (Nat.le_of_ble_eq_true rfl) (fun _ z => met_X1_isPart hO S x2 z) (fun r2 hr2 => ?_)
    refine v_if_eq C (tgt := 21) dX1_changedRadius_14 rfl (fun _ => ?_) (fun _ => ?_)
    · exact v_sub [0, 1, 2] rfl (w_X1_changedRadius_21 hO C hm S)
    · refine v_iconst C dX1_changedRadius_17 ci_1 ?_
      refine v_goto C (tgt := 22) dX1_changedRadius_18 rfl ?_
      exact v_sub [0, 1, 2] rfl (w_X1_changedRadius_22 hO C hm 1 S)
theorem mono_X1_radiusWithout {F : Nat} {S : St} {x0 : Nat} {x1 : Int32} {x2 : Int32} {r : Int32 × St} (h : C_X1_radiusWithout F S x0 x1 x2 = some r) : leG S r.2 := by
  have q : MF mf_p (C_X1_radiusWithout F S x0 x1 x2) S := by
    unfold C_X1_radiusWithout
    refine mf_bind (fun _ _ => ?_)
    refine mf_bind (fun r1 hr1 => ?_)
    refine mf_bind (fun r2 hr2 => ?_)
    refine mf_bind (fun r3 hr3 => ?_)
    refine mf_new (fun r4 hr4 => ?_)
    refine mf_bind (fun y5 hy5 => ?_)
    refine mf_call (fun _ z => mono_X2_withoutEdge z) (fun r6 hr6 => ?_)
    refine mf_callv (fun _ z => mono_X3_init z) (fun r7 hr7 => ?_)
    refine mf_bind (fun r8 hr8 => ?_)
    refine mf_ite ?_ ?_
    · exact mf_ret leG.rf
    · refine mf_bind (fun y9 hy9 => ?_)
      refine mf_bind (fun r10 hr10 => ?_)
      refine mf_call (fun _ z => mono_X3_radius z) (fun r11 hr11 => ?_)
      exact mf_ret leG.rf
  exact q r h
theorem met_X1_radiusWithout {P : GP} {l : Launch} (hO : okG P) (F : Nat) (S : St) (x0 : Nat) (x1 : Int32) (x2 : Int32) {r : Int32 × St} (h : C_X1_radiusWithout F S x0 x1 x2 = some r) : FM l (OG P) yX1_radiusWithout (ws_ yX1_radiusWithout cX1_radiusWithout 4 (some .int)) 51 3222 [.ref x0, .int x1, .int x2] S (f_mi r) := by
  refine FM.of (own := RX1) (lv := [(0, .ref x0), (1, .int x1), (2, .int x2)]) (OG_ok P hO) pl_X1 rfl (Nat.le_of_ble_eq_true rfl) rfl h (mono_X1_radiusWithout h).LE (fun X C hm => ?_)
  unfold C_X1_radiusWithout
  refine VF.bind (fun _ _ => ?_)
  refine v_aload_n C dX1_radiusWithout_0 0 rfl ?_
  refine v_iload_n C dX1_radiusWithout_1 1 rfl ?_
  refine g_callV_rv C (As := [.int x1]) (st := []) lk_X1_141 dX1_radiusWithout_2 rfl (Nat.le_of_ble_eq_true rfl) (Nat.le_of_ble_eq_true rfl) (Nat.le_of_ble_eq_true rfl) cls_1.1 rfl (fun _ z => rc_X1_checkEdge z) (fun _ z => met_X1_checkEdge hO S x0 x1 z) (fun r1 hr1 => ?_)
  refine v_iload_n C dX1_radiusWithout_5 2 rfl ?_
  refine v_callS_ri C (As := [.int x2]) (st := []) lk_X1_223 dX1_radiusWithout_6 rfl (Nat.le_of_ble_eq_true rfl) (Nat.le_of_ble_eq_true rfl) (Nat.le_of_ble_eq_true rfl) (fun _ z => met_X1_isPart hO S x2 z) (fun r2 hr2 => ?_)
  refine v_callS_rv C (As := [.int r2]) (st := []) lk_X1_115 dX1_radiusWithout_9 rfl (Nat.le_of_ble_eq_true rfl) (Nat.le_of_ble_eq_true rfl) (Nat.le_of_ble_eq_true rfl) (fun _ z => met_X1_checkThat hO S r2 z) (fun r3 hr3 => ?_)
  refine g_new C dX1_radiusWithout_12 cls_3 q195 q196 q107 dfok_3 (fun r4 hr4 => ?_)
  refine v_dup C dX1_radiusWithout_15 rfl ?_
  refine v_aload_n C dX1_radiusWithout_16 0 rfl ?_
  refine g_getA C dX1_radiusWithout_17 cls_1 (Nat.le_of_ble_eq_true rfl) fl_X1_39 fs_X1_39 (fun y5 hy5 => ?_)
  refine v_iload_n C dX1_radiusWithout_20 1 rfl ?_
  refine g_callV_ma C (As := [.int x1]) (st := [.ref (r4.1), .ref (r4.1)]) lk_X1_148 dX1_radiusWithout_21 rfl (Nat.le_of_ble_eq_true rfl) (Nat.le_of_ble_eq_true rfl) (Nat.le_of_ble_eq_true rfl) cls_2.1 rfl (fun _ z => rc_X2_withoutEdge z) (fun _ z => met_X2_withoutEdge hO F r4.2 y5 x1 z) (fun r6 hr6 => ?_)
  refine v_callI_mv C (As := [.ref (r6.1)]) (st := [.ref (r4.1)]) lk_X1_45 dX1_radiusWithout_24 rfl (Nat.le_of_ble_eq_true rfl) (Nat.le_of_ble_eq_true rfl) (Nat.le_of_ble_eq_true rfl) (fun _ z => met_X3_init hO F r6.2 (r4.1) (r6.1) z) (fun r7 hr7 => ?_)
  refine v_astore_n C (lv' := [(3, .ref (r4.1)), (0, .ref x0), (1, .int x1), (2, .int x2)]) dX1_radiusWithout_27 (Nat.le_of_ble_eq_true rfl) rfl ?_
  refine v_aload_n C dX1_radiusWithout_28 0 rfl ?_
  refine g_callV_ri C (As := []) (st := []) lk_X1_271 dX1_radiusWithout_29 rfl (Nat.le_of_ble_eq_true rfl) (Nat.le_of_ble_eq_true rfl) (Nat.le_of_ble_eq_true rfl) cls_3.1 rfl (fun _ z => rc_X3_isUsable z) (fun _ z => met_X3_isUsable hO F r7 (r4.1) z) (fun r8 hr8 => ?_)
  refine v_if_eq C (tgt := 54) dX1_radiusWithout_32 rfl (fun _ => ?_) (fun _ => ?_)
  · refine v_iconst C dX1_radiusWithout_54 ci_m1 ?_
    exact v_ireturn C hm dX1_radiusWithout_55 rfl
  · refine v_aload_n C dX1_radiusWithout_35 0 rfl ?_
    refine v_iconst C dX1_radiusWithout_36 ci_1 ?_
    refine v_aload_n C dX1_radiusWithout_37 1 rfl ?_
    refine g_getA C dX1_radiusWithout_38 cls_1 (Nat.le_of_ble_eq_true rfl) fl_X1_39 fs_X1_39 (fun y9 hy9 => ?_)
    refine g_callV_ri C (As := []) (st := [.int 1, .ref (r4.1)]) lk_X1_96 dX1_radiusWithout_41 rfl (Nat.le_of_ble_eq_true rfl) (Nat.le_of_ble_eq_true rfl) (Nat.le_of_ble_eq_true rfl) cls_2.1 rfl (fun _ z => rc_X2_size z) (fun _ z => met_X2_size hO r7 y9 z) (fun r10 hr10 => ?_)
    refine v_ishl C dX1_radiusWithout_44 ?_
    refine v_iconst C dX1_radiusWithout_45 ci_1 ?_
    refine v_isub C dX1_radiusWithout_46 ?_
    refine v_iload_n C dX1_radiusWithout_47 3 rfl ?_
    refine g_callV_mi C (As := [.int ((1 <<< (r10 &&& 31)) - 1), .int x2]) (st := []) lk_X1_274 dX1_radiusWithout_48 rfl (Nat.le_of_ble_eq_true rfl) (Nat.le_of_ble_eq_true rfl) (Nat.le_of_ble_eq_true rfl) cls_3.1 rfl (fun _ z => rc_X3_radius z) (fun _ z => met_X3_radius hO F r7 (r4.1) ((1 <<< (r10 &&& 31)) - 1) x2 z) (fun r11 hr11 => ?_)
    refine v_goto C (tgt := 55) dX1_radiusWithout_51 rfl ?_
    exact v_ireturn C hm dX1_radiusWithout_55 rfl
theorem o_X1_type_28 {x0 : Nat} {x1 : Int32}  (s0 : Int32) (S : St) : MF mf_p (C_X1_type_28 x0 x1 s0 S) S := by
  unfold C_X1_type_28
  refine mf_bind (fun r5 hr5 => ?_)
  refine mf_bind (fun y6 hy6 => ?_)
  refine mf_call (fun _ z => mono_J4_append_3 z) (fun r7 hr7 => ?_)
  refine mf_bind (fun y8 hy8 => ?_)
  refine mf_bind (fun r9 hr9 => ?_)
  exact mf_ret leG.rf
theorem mono_X1_type {S : St} {x0 : Nat} {x1 : Int32} {r : Int32 × St} (h : C_X1_type S x0 x1 = some r) : leG S r.2 := by
  have q : MF mf_p (C_X1_type S x0 x1) S := by
    unfold C_X1_type
    refine mf_bind (fun _ _ => ?_)
    refine mf_bind (fun r1 hr1 => ?_)
    refine mf_bind (fun r2 hr2 => ?_)
    refine mf_bind (fun y3 hy3 => ?_)
    refine mf_bind (fun r4 hr4 => ?_)
    refine mf_ite ?_ ?_
    · exact (o_X1_type_28 0 S)
    · exact (o_X1_type_28 1 S)
  exact q r h
theorem w_X1_type_28 {P : GP} {X : Ctx} {l : Launch} {S0 : St} (hO : okG P) (C : CX (OG P) X l cX1_type 2 RX1 (some .int)) (hm : X.2.2.2.2.2.2.2.2.2 = none) {x0 : Nat} {x1 : Int32}  (s0 : Int32) (S : St) : VF (OG P) X 2 6 146 S0 f_mi (C_X1_type_28 x0 x1 s0 S) S 28 [(0, .ref x0), (1, .int x1)] [.int s0] := by
  unfold C_X1_type_28
  refine v_callS_rv C (As := [.int s0]) (st := []) lk_X1_131 dX1_type_28 rfl (Nat.le_of_ble_eq_true rfl) (Nat.le_of_ble_eq_true rfl) (Nat.le_of_ble_eq_true rfl) (fun _ z => met_X1_checkState hO S s0 z) (fun r5 hr5 => ?_)
  refine v_aload_n C dX1_type_31 0 rfl ?_
  refine g_getA C dX1_type_32 cls_1 (Nat.le_of_ble_eq_true rfl) fl_X1_62 fs_X1_62 (fun y6 hy6 => ?_)
  refine v_iload_n C dX1_type_35 1 rfl ?_
  refine v_i2c C dX1_type_36 ?_
  refine g_callV_ma C (As := [.int ((x1.toUInt32 % 65536).toInt32)]) (st := []) lk_X1_309 dX1_type_37 rfl (Nat.le_of_ble_eq_true rfl) (Nat.le_of_ble_eq_true rfl) (Nat.le_of_ble_eq_true rfl) cls_12.1 rfl (fun _ z => rc_J4_append_3 z) (fun _ z => met_J4_append_3 hO S y6 ((x1.toUInt32 % 65536).toInt32) z) (fun r7 hr7 => ?_)
  refine v_pop C dX1_type_40 rfl ?_
  refine v_aload_n C dX1_type_41 0 rfl ?_
  refine g_getA C dX1_type_42 cls_1 (Nat.le_of_ble_eq_true rfl) fl_X1_62 fs_X1_62 (fun y8 hy8 => ?_)
  refine g_callV_ri C (As := []) (st := []) lk_X1_307 dX1_type_45 rfl (Nat.le_of_ble_eq_true rfl) (Nat.le_of_ble_eq_true rfl) (Nat.le_of_ble_eq_true rfl) cls_12.1 rfl (fun _ z => rc_J4_length z) (fun _ z => met_J4_length hO r7.2 y8 z) (fun r9 hr9 => ?_)
  exact v_ireturn C hm dX1_type_48 rfl
theorem met_X1_type {P : GP} {l : Launch} (hO : okG P) (S : St) (x0 : Nat) (x1 : Int32) {r : Int32 × St} (h : C_X1_type S x0 x1 = some r) : FM l (OG P) yX1_type (ws_ yX1_type cX1_type 2 (some .int)) 6 146 [.ref x0, .int x1] S (f_mi r) := by
  refine FM.of (own := RX1) (lv := [(0, .ref x0), (1, .int x1)]) (OG_ok P hO) pl_X1 rfl (Nat.le_of_ble_eq_true rfl) rfl h (mono_X1_type h).LE (fun X C hm => ?_)
  unfold C_X1_type
  refine VF.bind (fun _ _ => ?_)
  refine v_iload_n C dX1_type_0 1 rfl ?_
  refine v_bipush C dX1_type_1 cb_32 ?_
  refine v_bipush C dX1_type_3 cb_126 ?_
  refine v_callS_ri C (As := [.int x1, .int 32, .int 126]) (st := []) lk_X1_87 dX1_type_5 rfl (Nat.le_of_ble_eq_true rfl) (Nat.le_of_ble_eq_true rfl) (Nat.le_of_ble_eq_true rfl) (fun _ z => met_X1_isIn hO S x1 32 126 z) (fun r1 hr1 => ?_)
  refine v_callS_rv C (As := [.int r1]) (st := []) lk_X1_115 dX1_type_8 rfl (Nat.le_of_ble_eq_true rfl) (Nat.le_of_ble_eq_true rfl) (Nat.le_of_ble_eq_true rfl) (fun _ z => met_X1_checkThat hO S r1 z) (fun r2 hr2 => ?_)
  refine v_aload_n C dX1_type_11 0 rfl ?_
  refine g_getA C dX1_type_12 cls_1 (Nat.le_of_ble_eq_true rfl) fl_X1_62 fs_X1_62 (fun y3 hy3 => ?_)
  refine g_callV_ri C (As := []) (st := []) lk_X1_307 dX1_type_15 rfl (Nat.le_of_ble_eq_true rfl) (Nat.le_of_ble_eq_true rfl) (Nat.le_of_ble_eq_true rfl) cls_12.1 rfl (fun _ z => rc_J4_length z) (fun _ z => met_J4_length hO S y3 z) (fun r4 hr4 => ?_)
  refine v_bipush C dX1_type_18 cb_120 ?_
  refine v_icmp_ge C (tgt := 27) dX1_type_20 rfl (fun _ => ?_) (fun _ => ?_)
  · refine v_iconst C dX1_type_27 ci_0 ?_
    exact v_sub [0, 1] rfl (w_X1_type_28 hO C hm 0 S)
  · refine v_iconst C dX1_type_23 ci_1 ?_
    refine v_goto C (tgt := 28) dX1_type_24 rfl ?_
    exact v_sub [0, 1] rfl (w_X1_type_28 hO C hm 1 S)
theorem o_X1_undo_15 {F : Nat} {x0 : Nat}  (s0 : Int32) (S : St) : MF mf_p (C_X1_undo_15 F x0 s0 S) S := by
  unfold C_X1_undo_15
  refine mf_bind (fun r3 hr3 => ?_)
  refine mf_bind (fun y4 hy4 => ?_)
  refine mf_call (fun _ z => mono_J2_removeLast z) (fun r5 hr5 => ?_)
  refine mf_bind (fun y6 hy6 => ?_)
  refine mf_callv (fun _ z => mono_X1_stand z) (fun r7 hr7 => ?_)
  refine mf_bind (fun y8 hy8 => ?_)
  refine mf_bind (fun r9 hr9 => ?_)
  exact mf_ret leG.rf
theorem mono_X1_undo {F : Nat} {S : St} {x0 : Nat} {r : Int32 × St} (h : C_X1_undo F S x0 = some r) : leG S r.2 := by
  have q : MF mf_p (C_X1_undo F S x0) S := by
    unfold C_X1_undo
    refine mf_bind (fun _ _ => ?_)
    refine mf_bind (fun y1 hy1 => ?_)
    refine mf_bind (fun r2 hr2 => ?_)
    refine mf_ite ?_ ?_
    · exact (o_X1_undo_15 1 S)
    · exact (o_X1_undo_15 0 S)
  exact q r h
theorem w_X1_undo_15 {P : GP} {X : Ctx} {l : Launch} {S0 : St} {F : Nat} (hO : okG P) (C : CX (OG P) X l cX1_undo 1 RX1 (some .int)) (hm : X.2.2.2.2.2.2.2.2.2 = none) {x0 : Nat}  (s0 : Int32) (S : St) : VF (OG P) X 1 3 78 S0 f_mi (C_X1_undo_15 F x0 s0 S) S 15 [(0, .ref x0)] [.int s0] := by
  unfold C_X1_undo_15
  refine v_callS_rv C (As := [.int s0]) (st := []) lk_X1_131 dX1_undo_15 rfl (Nat.le_of_ble_eq_true rfl) (Nat.le_of_ble_eq_true rfl) (Nat.le_of_ble_eq_true rfl) (fun _ z => met_X1_checkState hO S s0 z) (fun r3 hr3 => ?_)
  refine v_aload_n C dX1_undo_18 0 rfl ?_
  refine v_aload_n C dX1_undo_19 0 rfl ?_
  refine g_getA C dX1_undo_20 cls_1 (Nat.le_of_ble_eq_true rfl) fl_X1_55 fs_X1_55 (fun y4 hy4 => ?_)
  refine g_callV_ma C (As := []) (st := [.ref x0]) lk_X1_351 dX1_undo_23 rfl (Nat.le_of_ble_eq_true rfl) (Nat.le_of_ble_eq_true rfl) (Nat.le_of_ble_eq_true rfl) cls_11.1 rfl (fun _ z => rc_J2_removeLast z) (fun _ z => met_J2_removeLast hO S y4 z) (fun r5 hr5 => ?_)
  refine g_castS C dX1_undo_26 cls_2.1 q159 (fun y6 hy6 => ?_)
  refine g_callV_mv C (As := [.ref (r5.1)]) (st := []) lk_X1_112 dX1_undo_29 rfl (Nat.le_of_ble_eq_true rfl) (Nat.le_of_ble_eq_true rfl) (Nat.le_of_ble_eq_true rfl) cls_1.1 rfl (fun _ z => rc_X1_stand z) (fun _ z => met_X1_stand hO F r5.2 x0 (r5.1) z) (fun r7 hr7 => ?_)
  refine v_aload_n C dX1_undo_32 0 rfl ?_
  refine g_getA C dX1_undo_33 cls_1 (Nat.le_of_ble_eq_true rfl) fl_X1_55 fs_X1_55 (fun y8 hy8 => ?_)
  refine g_callV_ri C (As := []) (st := []) lk_X1_100 dX1_undo_36 rfl (Nat.le_of_ble_eq_true rfl) (Nat.le_of_ble_eq_true rfl) (Nat.le_of_ble_eq_true rfl) cls_11.1 rfl (fun _ z => rc_J2_size z) (fun _ z => met_J2_size hO r7 y8 z) (fun r9 hr9 => ?_)
  exact v_ireturn C hm dX1_undo_39 rfl
theorem met_X1_undo {P : GP} {l : Launch} (hO : okG P) (F : Nat) (S : St) (x0 : Nat) {r : Int32 × St} (h : C_X1_undo F S x0 = some r) : FM l (OG P) yX1_undo (ws_ yX1_undo cX1_undo 1 (some .int)) 3 78 [.ref x0] S (f_mi r) := by
  refine FM.of (own := RX1) (lv := [(0, .ref x0)]) (OG_ok P hO) pl_X1 rfl (Nat.le_of_ble_eq_true rfl) rfl h (mono_X1_undo h).LE (fun X C hm => ?_)
  unfold C_X1_undo
  refine VF.bind (fun _ _ => ?_)
  refine v_aload_n C dX1_undo_0 0 rfl ?_
  refine g_getA C dX1_undo_1 cls_1 (Nat.le_of_ble_eq_true rfl) fl_X1_55 fs_X1_55 (fun y1 hy1 => ?_)
  refine g_callV_ri C (As := []) (st := []) lk_X1_348 dX1_undo_4 rfl (Nat.le_of_ble_eq_true rfl) (Nat.le_of_ble_eq_true rfl) (Nat.le_of_ble_eq_true rfl) cls_11.1 rfl (fun _ z => rc_J2_isEmpty z) (fun _ z => met_J2_isEmpty hO S y1 z) (fun r2 hr2 => ?_)
  refine v_if_ne C (tgt := 14) dX1_undo_7 rfl (fun _ => ?_) (fun _ => ?_)
  · refine v_iconst C dX1_undo_10 ci_1 ?_
    refine v_goto C (tgt := 15) dX1_undo_11 rfl ?_
    exact v_sub [0] rfl (w_X1_undo_15 hO C hm 1 S)
  · refine v_iconst C dX1_undo_14 ci_0 ?_
    exact v_sub [0] rfl (w_X1_undo_15 hO C hm 0 S)
theorem mono_X10_init {S : St} {x0 : Nat} {x1 : Nat} {r : St} (h : C_X10_init S x0 x1 = some r) : leG S r := by
  have q : MF mf_s (C_X10_init S x0 x1) S := by
    unfold C_X10_init
    refine mf_nI_ (fun r1 hr1 => ?_)
    refine mf_put (fun S2 hS2 => ?_)
    refine mf_put (fun S3 hS3 => ?_)
    exact mf_ret leG.rf
  exact q r h
theorem met_X10_init {P : GP} {l : Launch} (hO : okG P) (S : St) (x0 : Nat) (x1 : Nat) {r : St} (h : C_X10_init S x0 x1 = some r) : FM l (OG P) yX10_init (ws_ yX10_init cX10_init 2 none) 1 34 [.ref x0, .ref x1] S (f_mv r) := by
  refine FM.ofI (own := RX10) (lv := [(0, .ref x0), (1, .ref x1)]) hO pl_X10 rfl rfl (Nat.le_of_ble_eq_true rfl) rfl h (mono_X10_init h).LE (fun X C hm hin2 => ?_)
  unfold C_X10_init
  refine v_aload_n C dX10_init_0 0 rfl ?_
  refine g_objInit C dX10_init_1 lkO_X10_3 (Nat.le_of_ble_eq_true rfl) (Nat.le_of_ble_eq_true rfl) ?_
  refine v_aload_n C dX10_init_4 0 rfl ?_
  refine v_iconst C dX10_init_5 ci_3 ?_
  refine g_naI C dX10_init_6 q194 (fun r1 hr1 => ?_)
  refine g_putFV C hin2 dX10_init_8 cls_9 (Nat.le_of_ble_eq_true rfl) q674 rfl rfl rfl rfl (fun S2 hS2 => ?_)
  refine v_aload_n C dX10_init_11 0 rfl ?_
  refine v_aload_n C dX10_init_12 1 rfl ?_
  refine g_putFV C hin2 dX10_init_13 cls_9 (Nat.le_of_ble_eq_true rfl) q673 rfl rfl rfl rfl (fun S3 hS3 => ?_)
  exact v_vreturn C hm dX10_init_16 rfl
theorem met_X10_next {P : GP} {l : Launch} (hO : okG P) (S : St) (x0 : Nat) {r : Int32} (h : C_X10_next P.2.2.2.2.2 S x0 = some r) : FM l (OG P) yX10_next (ws_ yX10_next cX10_next 1 (some .int)) 4 88 [.ref x0] S ((f_ri S) r) := by
  refine FM.of (own := RX10) (lv := [(0, .ref x0)]) (OG_ok P hO) pl_X10 rfl (Nat.le_of_ble_eq_true rfl) rfl h LE.rf (fun X C hm => ?_)
  unfold C_X10_next
  refine VF.bind (fun _ _ => ?_)
  refine v_aload_n C dX10_next_0 0 rfl ?_
  refine g_getI C dX10_next_1 cls_9 (Nat.le_of_ble_eq_true rfl) fl_X10_19 fs_X10_19 (fun y1 hy1 => ?_)
  refine v_aload_n C dX10_next_4 0 rfl ?_
  refine g_getA C dX10_next_5 cls_9 (Nat.le_of_ble_eq_true rfl) fl_X10_15 fs_X10_15 (fun y2 hy2 => ?_)
  refine g_callF_ri C (As := []) (st := [.int y1]) lk_X10_23 dX10_next_8 rfl (Nat.le_of_ble_eq_true rfl) (Nat.le_of_ble_eq_true rfl) (Nat.le_of_ble_eq_true rfl) cls_12.1 (fun _ z => rc_J4_length z) (fun _ z => met_J4_length hO S y2 z) (fun r3 hr3 => ?_)
  refine v_icmp_ge C (tgt := 32) dX10_next_13 rfl (fun _ => ?_) (fun _ => ?_)
  · refine v_bipush C dX10_next_32 cb_m2 ?_
    exact v_ireturn C hm dX10_next_34 rfl
  · refine v_aload_n C dX10_next_16 0 rfl ?_
    refine g_getA C dX10_next_17 cls_9 (Nat.le_of_ble_eq_true rfl) fl_X10_15 fs_X10_15 (fun y4 hy4 => ?_)
    refine v_aload_n C dX10_next_20 0 rfl ?_
    refine g_getI C dX10_next_21 cls_9 (Nat.le_of_ble_eq_true rfl) fl_X10_19 fs_X10_19 (fun y5 hy5 => ?_)
    refine g_callF_ri C (As := [.int y5]) (st := []) lk_X10_29 dX10_next_24 rfl (Nat.le_of_ble_eq_true rfl) (Nat.le_of_ble_eq_true rfl) (Nat.le_of_ble_eq_true rfl) cls_12.1 (fun _ z => rc_J4_charAt z) (fun _ z => met_J4_charAt hO S y4 y5 z) (fun r6 hr6 => ?_)
    refine v_goto C (tgt := 34) dX10_next_29 rfl ?_
    exact v_ireturn C hm dX10_next_34 rfl
theorem o_X10_token_22 {F : Nat} {ek : Nat → Nat} {x0 : Nat}  (S : St) : MF mf_p (C_X10_token_22 F ek x0 S) S := by
  unfold C_X10_token_22
  refine mf_bind (fun r4 hr4 => ?_)
  exact mf_ret leG.rf
theorem o_X10_token_0 {F : Nat} {ek : Nat → Nat} {x0 : Nat}  : ∀ (n : Nat) (S : St), MF mf_p (C_X10_token_0 F ek x0 n S) S := by
  intro n
  induction n with
  | zero => intro S; exact mf_none
  | succ n ih =>
    intro S
    unfold C_X10_token_0
    refine mf_bind (fun r1 hr1 => ?_)
    refine mf_ite ?_ ?_
    · refine mf_bind (fun y2 hy2 => ?_)
      refine mf_put (fun S3 hS3 => ?_)
      exact (ih S3)
    · exact (o_X10_token_22 S)
theorem mono_X10_token {F : Nat} {ek : Nat → Nat} {S : St} {x0 : Nat} {r : Int32 × St} (h : C_X10_token F ek S x0 = some r) : leG S r.2 := by
  have q : MF mf_p (C_X10_token F ek S x0) S := by
    unfold C_X10_token
    refine mf_bind (fun _ _ => ?_)
    exact (o_X10_token_0 F S)
  exact q r h
theorem w_X10_token_22 {P : GP} {X : Ctx} {l : Launch} {S0 : St} {F : Nat} (hO : okG P) (C : CX (OG P) X l cX10_token 1 RX10 (some .int)) (hm : X.2.2.2.2.2.2.2.2.2 = none) {x0 : Nat}  (S : St) : VF (OG P) X 1 5 108 S0 f_mi (C_X10_token_22 F P.2.2.2.2.2 x0 S) S 22 [(0, .ref x0)] [] := by
  unfold C_X10_token_22
  refine v_aload_n C dX10_token_22 0 rfl ?_
  refine g_callV_ri C (As := []) (st := []) lk_X10_33 dX10_token_23 rfl (Nat.le_of_ble_eq_true rfl) (Nat.le_of_ble_eq_true rfl) (Nat.le_of_ble_eq_true rfl) cls_9.1 rfl (fun _ z => rc_X10_next z) (fun _ z => met_X10_next hO S x0 z) (fun r4 hr4 => ?_)
  exact v_ireturn C hm dX10_token_26 rfl
theorem w_X10_token_0 {P : GP} {X : Ctx} {l : Launch} {S0 : St} {F : Nat} (hO : okG P) (C : CX (OG P) X l cX10_token 1 RX10 (some .int)) (hm : X.2.2.2.2.2.2.2.2.2 = none) {x0 : Nat}  : ∀ (n : Nat) (S : St), VF (OG P) X 1 5 108 S0 f_mi (C_X10_token_0 F P.2.2.2.2.2 x0 n S) S 0 [(0, .ref x0)] [] := by
  intro n
  induction n with
  | zero => intro S; exact VF.none
  | succ n ih =>
    intro S
    unfold C_X10_token_0
    refine v_aload_n C dX10_token_0 0 rfl ?_
    refine g_callV_ri C (As := []) (st := []) lk_X10_33 dX10_token_1 rfl (Nat.le_of_ble_eq_true rfl) (Nat.le_of_ble_eq_true rfl) (Nat.le_of_ble_eq_true rfl) cls_9.1 rfl (fun _ z => rc_X10_next z) (fun _ z => met_X10_next hO S x0 z) (fun r1 hr1 => ?_)
    refine v_bipush C dX10_token_4 cb_32 ?_
    refine v_icmp_ne C (tgt := 22) dX10_token_6 rfl (fun _ => ?_) (fun _ => ?_)
    · refine v_aload_n C dX10_token_9 0 rfl ?_
      refine v_dup C dX10_token_10 rfl ?_
      refine g_getI C dX10_token_11 cls_9 (Nat.le_of_ble_eq_true rfl) fl_X10_19 fs_X10_19 (fun y2 hy2 => ?_)
      refine v_iconst C dX10_token_14 ci_1 ?_
      refine v_iadd C dX10_token_15 ?_
      refine g_putV C dX10_token_16 cls_9 (Nat.le_of_ble_eq_true rfl) fl_X10_19 fs_X10_19 rfl rfl rfl (fun S3 hS3 => ?_)
      refine v_goto C (tgt := 0) dX10_token_19 rfl ?_
      exact v_sub [0] rfl (ih S3)
    · exact v_sub [0] rfl (w_X10_token_22 hO C hm S)
theorem met_X10_token {P : GP} {l : Launch} (hO : okG P) (F : Nat) (S : St) (x0 : Nat) {r : Int32 × St} (h : C_X10_token F P.2.2.2.2.2 S x0 = some r) : FM l (OG P) yX10_token (ws_ yX10_token cX10_token 1 (some .int)) 5 108 [.ref x0] S (f_mi r) := by
  refine FM.of (own := RX10) (lv := [(0, .ref x0)]) (OG_ok P hO) pl_X10 rfl (Nat.le_of_ble_eq_true rfl) rfl h (mono_X10_token h).LE (fun X C hm => ?_)
  unfold C_X10_token
  refine VF.bind (fun _ _ => ?_)
  exact v_sub [0] rfl (w_X10_token_0 hO C hm F S)
theorem mono_X10_isAtEnd {F : Nat} {ek : Nat → Nat} {S : St} {x0 : Nat} {r : Int32 × St} (h : C_X10_isAtEnd F ek S x0 = some r) : leG S r.2 := by
  have q : MF mf_p (C_X10_isAtEnd F ek S x0) S := by
    unfold C_X10_isAtEnd
    refine mf_bind (fun _ _ => ?_)
    refine mf_call (fun _ z => mono_X10_token z) (fun r1 hr1 => ?_)
    refine mf_ite ?_ ?_
    · exact mf_ret leG.rf
    · exact mf_ret leG.rf
  exact q r h
theorem met_X10_isAtEnd {P : GP} {l : Launch} (hO : okG P) (F : Nat) (S : St) (x0 : Nat) {r : Int32 × St} (h : C_X10_isAtEnd F P.2.2.2.2.2 S x0 = some r) : FM l (OG P) yX10_isAtEnd (ws_ yX10_isAtEnd cX10_isAtEnd 1 (some .boolean)) 6 128 [.ref x0] S (f_mi r) := by
  refine FM.of (own := RX10) (lv := [(0, .ref x0)]) (OG_ok P hO) pl_X10 rfl (Nat.le_of_ble_eq_true rfl) rfl h (mono_X10_isAtEnd h).LE (fun X C hm => ?_)
  unfold C_X10_isAtEnd
  refine VF.bind (fun _ _ => ?_)
  refine v_aload_n C dX10_isAtEnd_0 0 rfl ?_
  refine g_callV_mi C (As := []) (st := []) lk_X10_36 dX10_isAtEnd_1 rfl (Nat.le_of_ble_eq_true rfl) (Nat.le_of_ble_eq_true rfl) (Nat.le_of_ble_eq_true rfl) cls_9.1 rfl (fun _ z => rc_X10_token z) (fun _ z => met_X10_token hO F S x0 z) (fun r1 hr1 => ?_)
  refine v_bipush C dX10_isAtEnd_4 cb_m2 ?_
  refine v_icmp_ne C (tgt := 13) dX10_isAtEnd_6 rfl (fun _ => ?_) (fun _ => ?_)
  · refine v_iconst C dX10_isAtEnd_9 ci_1 ?_
    refine v_goto C (tgt := 14) dX10_isAtEnd_10 rfl ?_
    exact v_zreturn C hm dX10_isAtEnd_14 (Or.inr rfl) rfl
  · refine v_iconst C dX10_isAtEnd_13 ci_0 ?_
    exact v_zreturn C hm dX10_isAtEnd_14 (Or.inl rfl) rfl
theorem mono_X11_init {ek : Nat → Nat} {S : St} {x0 : Nat} {x1 : Int32} {r : St} (h : C_X11_init ek S x0 x1 = some r) : leG S r := by
  have q : MF mf_s (C_X11_init ek S x0 x1) S := by
    unfold C_X11_init
    refine mf_callv (fun _ z => mono_J8_init_2 z) (fun r1 hr1 => ?_)
    refine mf_put (fun S2 hS2 => ?_)
    exact mf_ret leG.rf
  exact q r h
theorem met_X11_init {P : GP} {l : Launch} (hO : okG P) (S : St) (x0 : Nat) (x1 : Int32) {r : St} (h : C_X11_init P.2.2.2.2.2 S x0 x1 = some r) : FM l (OG P) yX11_init (ws_ yX11_init cX11_init 2 none) 3 82 [.ref x0, .int x1] S (f_mv r) := by
  refine FM.ofI (own := RX11) (lv := [(0, .ref x0), (1, .int x1)]) hO pl_X11 rfl rfl (Nat.le_of_ble_eq_true rfl) rfl h (mono_X11_init h).LE (fun X C hm hin2 => ?_)
  unfold C_X11_init
  refine v_aload_n C dX11_init_0 0 rfl ?_
  refine g_ldcS (q := P.2.2.2.2.2 7) C dX11_init_1 hO.2.2.2.2.2.2.1 ?_
  refine g_null C dX11_init_3 ?_
  refine v_iconst C dX11_init_4 ci_0 ?_
  refine v_iconst C dX11_init_5 ci_0 ?_
  refine v_callI_mv C (As := [.ref (P.2.2.2.2.2 7), va_rf none, .int 0, .int 0]) (st := []) lk_X11_3 dX11_init_6 rfl (Nat.le_of_ble_eq_true rfl) (Nat.le_of_ble_eq_true rfl) (Nat.le_of_ble_eq_true rfl) (fun _ z => met_J8_init_2 hO S x0 (P.2.2.2.2.2 7) none 0 0 z) (fun r1 hr1 => ?_)
  refine v_aload_n C dX11_init_9 0 rfl ?_
  refine v_iload_n C dX11_init_10 1 rfl ?_
  refine g_putFV C hin2 dX11_init_11 cls_10 (Nat.le_of_ble_eq_true rfl) q792 rfl rfl rfl rfl (fun S2 hS2 => ?_)
  exact v_vreturn C hm dX11_init_14 rfl
theorem mono_X10_require {ek : Nat → Nat} {S : St} {x0 : Nat} {x1 : Int32} {r : St} (h : C_X10_require ek S x0 x1 = some r) : leG S r := by
  have q : MF mf_s (C_X10_require ek S x0 x1) S := by
    unfold C_X10_require
    refine mf_bind (fun _ _ => ?_)
    refine mf_ite ?_ ?_
    · refine mf_new (fun r1 hr1 => ?_)
      refine mf_bind (fun y2 hy2 => ?_)
      refine mf_callv (fun _ z => mono_X11_init z) (fun r3 hr3 => ?_)
      exact mf_none
    · exact mf_ret leG.rf
  exact q r h
theorem met_X10_require {P : GP} {l : Launch} (hO : okG P) (S : St) (x0 : Nat) (x1 : Int32) {r : St} (h : C_X10_require P.2.2.2.2.2 S x0 x1 = some r) : FM l (OG P) yX10_require (ws_ yX10_require cX10_require 2 none) 4 103 [.ref x0, .int x1] S (f_mv r) := by
  refine FM.of (own := RX10) (lv := [(0, .ref x0), (1, .int x1)]) (OG_ok P hO) pl_X10 rfl (Nat.le_of_ble_eq_true rfl) rfl h (mono_X10_require h).LE (fun X C hm => ?_)
  unfold C_X10_require
  refine VF.bind (fun _ _ => ?_)
  refine v_iload_n C dX10_require_0 1 rfl ?_
  refine v_if_ne C (tgt := 16) dX10_require_1 rfl (fun _ => ?_) (fun _ => ?_)
  · refine g_new C dX10_require_4 cls_10 q773 q774 q150 dfok_10 (fun r1 hr1 => ?_)
    refine v_dup C dX10_require_7 rfl ?_
    refine v_aload_n C dX10_require_8 0 rfl ?_
    refine g_getI C dX10_require_9 cls_9 (Nat.le_of_ble_eq_true rfl) fl_X10_19 fs_X10_19 (fun y2 hy2 => ?_)
    refine v_callI_mv C (As := [.int y2]) (st := [.ref (r1.1)]) lk_X10_41 dX10_require_12 rfl (Nat.le_of_ble_eq_true rfl) (Nat.le_of_ble_eq_true rfl) (Nat.le_of_ble_eq_true rfl) (fun _ z => met_X11_init hO r1.2 (r1.1) y2 z) (fun r3 hr3 => ?_)
    exact VF.none
  · exact v_vreturn C hm dX10_require_16 rfl
theorem o_X10_expect_14 {F : Nat} {ek : Nat → Nat} {x0 : Nat}  (s0 : Nat) (s1 : Int32) (S : St) : MF mf_s (C_X10_expect_14 F ek x0 s0 s1 S) S := by
  unfold C_X10_expect_14
  refine mf_callv (fun _ z => mono_X10_require z) (fun r2 hr2 => ?_)
  refine mf_bind (fun y3 hy3 => ?_)
  refine mf_put (fun S4 hS4 => ?_)
  exact mf_ret leG.rf
theorem mono_X10_expect {F : Nat} {ek : Nat → Nat} {S : St} {x0 : Nat} {x1 : Int32} {r : St} (h : C_X10_expect F ek S x0 x1 = some r) : leG S r := by
  have q : MF mf_s (C_X10_expect F ek S x0 x1) S := by
    unfold C_X10_expect
    refine mf_bind (fun _ _ => ?_)
    refine mf_call (fun _ z => mono_X10_token z) (fun r1 hr1 => ?_)
    refine mf_ite ?_ ?_
    · exact (o_X10_expect_14 x0 1 r1.2)
    · exact (o_X10_expect_14 x0 0 r1.2)
  exact q r h
theorem w_X10_expect_14 {P : GP} {X : Ctx} {l : Launch} {S0 : St} {F : Nat} (hO : okG P) (C : CX (OG P) X l cX10_expect 2 RX10 none) (hm : X.2.2.2.2.2.2.2.2.2 = none) {x0 : Nat}  (s0 : Nat) (s1 : Int32) (S : St) : VF (OG P) X 2 6 128 S0 f_mv (C_X10_expect_14 F P.2.2.2.2.2 x0 s0 s1 S) S 14 [(0, .ref x0)] [.int s1, .ref s0] := by
  unfold C_X10_expect_14
  refine g_callV_mv C (As := [.int s1]) (st := []) lk_X10_44 dX10_expect_14 rfl (Nat.le_of_ble_eq_true rfl) (Nat.le_of_ble_eq_true rfl) (Nat.le_of_ble_eq_true rfl) cls_9.1 rfl (fun _ z => rc_X10_require z) (fun _ z => met_X10_require hO S s0 s1 z) (fun r2 hr2 => ?_)
  refine v_aload_n C dX10_expect_17 0 rfl ?_
  refine v_dup C dX10_expect_18 rfl ?_
  refine g_getI C dX10_expect_19 cls_9 (Nat.le_of_ble_eq_true rfl) fl_X10_19 fs_X10_19 (fun y3 hy3 => ?_)
  refine v_iconst C dX10_expect_22 ci_1 ?_
  refine v_iadd C dX10_expect_23 ?_
  refine g_putV C dX10_expect_24 cls_9 (Nat.le_of_ble_eq_true rfl) fl_X10_19 fs_X10_19 rfl rfl rfl (fun S4 hS4 => ?_)
  exact v_vreturn C hm dX10_expect_27 rfl
theorem met_X10_expect {P : GP} {l : Launch} (hO : okG P) (F : Nat) (S : St) (x0 : Nat) (x1 : Int32) {r : St} (h : C_X10_expect F P.2.2.2.2.2 S x0 x1 = some r) : FM l (OG P) yX10_expect (ws_ yX10_expect cX10_expect 2 none) 6 128 [.ref x0, .int x1] S (f_mv r) := by
  refine FM.of (own := RX10) (lv := [(0, .ref x0), (1, .int x1)]) (OG_ok P hO) pl_X10 rfl (Nat.le_of_ble_eq_true rfl) rfl h (mono_X10_expect h).LE (fun X C hm => ?_)
  unfold C_X10_expect
  refine VF.bind (fun _ _ => ?_)
  refine v_aload_n C dX10_expect_0 0 rfl ?_
  refine v_aload_n C dX10_expect_1 0 rfl ?_
  refine g_callV_mi C (As := []) (st := [.ref x0]) lk_X10_36 dX10_expect_2 rfl (Nat.le_of_ble_eq_true rfl) (Nat.le_of_ble_eq_true rfl) (Nat.le_of_ble_eq_true rfl) cls_9.1 rfl (fun _ z => rc_X10_token z) (fun _ z => met_X10_token hO F S x0 z) (fun r1 hr1 => ?_)
  refine v_iload_n C dX10_expect_5 1 rfl ?_
  refine v_icmp_ne C (tgt := 13) dX10_expect_6 rfl (fun _ => ?_) (fun _ => ?_)
  · refine v_iconst C dX10_expect_9 ci_1 ?_
    refine v_goto C (tgt := 14) dX10_expect_10 rfl ?_
    exact v_sub [0] rfl (w_X10_expect_14 hO C hm x0 1 r1.2)
  · refine v_iconst C dX10_expect_13 ci_0 ?_
    exact v_sub [0] rfl (w_X10_expect_14 hO C hm x0 0 r1.2)
theorem o_X10_number_70 {F : Nat} {ek : Nat → Nat} {x0 : Nat} {x1 : Int32}  (S : St) : MF mf_p (C_X10_number_70 F ek x0 x1 S) S := by
  unfold C_X10_number_70
  refine mf_bind (fun r14 hr14 => ?_)
  refine mf_bind (fun r15 hr15 => ?_)
  refine mf_ite ?_ ?_
  · refine mf_callv (fun _ z => mono_X10_require z) (fun r16 hr16 => ?_)
    exact mf_ret leG.rf
  · refine mf_callv (fun _ z => mono_X10_require z) (fun r17 hr17 => ?_)
    exact mf_ret leG.rf
theorem mono_X10_number {F : Nat} {ek : Nat → Nat} {S : St} {x0 : Nat} {r : Int32 × St} (h : C_X10_number F ek S x0 = some r) : leG S r.2 := by
  have q : MF mf_p (C_X10_number F ek S x0) S := by
    unfold C_X10_number
    refine mf_bind (fun _ _ => ?_)
    refine mf_call (fun _ z => mono_X10_token z) (fun r1 hr1 => ?_)
    refine mf_bind (fun r2 hr2 => ?_)
    refine mf_callv (fun _ z => mono_X10_require z) (fun r3 hr3 => ?_)
    refine mf_bind (fun r4 hr4 => ?_)
    refine mf_bind (fun y5 hy5 => ?_)
    refine mf_bind (fun y6 hy6 => ?_)
    refine mf_put (fun S7 hS7 => ?_)
    refine mf_bind (fun r8 hr8 => ?_)
    refine mf_bind (fun r9 hr9 => ?_)
    refine mf_ite ?_ ?_
    · exact (o_X10_number_70 S7)
    · refine mf_bind (fun r10 hr10 => ?_)
      refine mf_bind (fun y11 hy11 => ?_)
      refine mf_bind (fun y12 hy12 => ?_)
      refine mf_put (fun S13 hS13 => ?_)
      exact (o_X10_number_70 S13)
  exact q r h
theorem w_X10_number_70 {P : GP} {X : Ctx} {l : Launch} {S0 : St} {F : Nat} (hO : okG P) (C : CX (OG P) X l cX10_number 2 RX10 (some .int)) (hm : X.2.2.2.2.2.2.2.2.2 = none) {x0 : Nat} {x1 : Int32}  (S : St) : VF (OG P) X 2 6 128 S0 f_mi (C_X10_number_70 F P.2.2.2.2.2 x0 x1 S) S 70 [(0, .ref x0), (1, .int x1)] [] := by
  unfold C_X10_number_70
  refine v_aload_n C dX10_number_70 0 rfl ?_
  refine v_aload_n C dX10_number_71 0 rfl ?_
  refine g_callV_ri C (As := []) (st := [.ref x0]) lk_X10_33 dX10_number_72 rfl (Nat.le_of_ble_eq_true rfl) (Nat.le_of_ble_eq_true rfl) (Nat.le_of_ble_eq_true rfl) cls_9.1 rfl (fun _ z => rc_X10_next z) (fun _ z => met_X10_next hO S x0 z) (fun r14 hr14 => ?_)
  refine v_bipush C dX10_number_75 cb_48 ?_
  refine v_bipush C dX10_number_77 cb_57 ?_
  refine g_callSN_ri C (As := [.int r14, .int 48, .int 57]) (st := [.ref x0]) lk_X10_48 dX10_number_79 rfl (Nat.le_of_ble_eq_true rfl) (Nat.le_of_ble_eq_true rfl) (Nat.le_of_ble_eq_true rfl) (fun _ z => met_X1_isIn hO S r14 48 57 z) (fun r15 hr15 => ?_)
  refine v_if_ne C (tgt := 89) dX10_number_82 rfl (fun _ => ?_) (fun _ => ?_)
  · refine v_iconst C dX10_number_85 ci_1 ?_
    refine v_goto C (tgt := 90) dX10_number_86 rfl ?_
    refine g_callV_mv C (As := [.int 1]) (st := []) lk_X10_44 dX10_number_90 rfl (Nat.le_of_ble_eq_true rfl) (Nat.le_of_ble_eq_true rfl) (Nat.le_of_ble_eq_true rfl) cls_9.1 rfl (fun _ z => rc_X10_require z) (fun _ z => met_X10_require hO S x0 1 z) (fun r16 hr16 => ?_)
    refine v_iload_n C dX10_number_93 1 rfl ?_
    exact v_ireturn C hm dX10_number_94 rfl
  · refine v_iconst C dX10_number_89 ci_0 ?_
    refine g_callV_mv C (As := [.int 0]) (st := []) lk_X10_44 dX10_number_90 rfl (Nat.le_of_ble_eq_true rfl) (Nat.le_of_ble_eq_true rfl) (Nat.le_of_ble_eq_true rfl) cls_9.1 rfl (fun _ z => rc_X10_require z) (fun _ z => met_X10_require hO S x0 0 z) (fun r17 hr17 => ?_)
    refine v_iload_n C dX10_number_93 1 rfl ?_
    exact v_ireturn C hm dX10_number_94 rfl
theorem met_X10_number {P : GP} {l : Launch} (hO : okG P) (F : Nat) (S : St) (x0 : Nat) {r : Int32 × St} (h : C_X10_number F P.2.2.2.2.2 S x0 = some r) : FM l (OG P) yX10_number (ws_ yX10_number cX10_number 2 (some .int)) 6 128 [.ref x0] S (f_mi r) := by
  refine FM.of (own := RX10) (lv := [(0, .ref x0)]) (OG_ok P hO) pl_X10 rfl (Nat.le_of_ble_eq_true rfl) rfl h (mono_X10_number h).LE (fun X C hm => ?_)
  unfold C_X10_number
  refine VF.bind (fun _ _ => ?_)
  refine v_aload_n C dX10_number_0 0 rfl ?_
  refine v_aload_n C dX10_number_1 0 rfl ?_
  refine g_callV_mi C (As := []) (st := [.ref x0]) lk_X10_36 dX10_number_2 rfl (Nat.le_of_ble_eq_true rfl) (Nat.le_of_ble_eq_true rfl) (Nat.le_of_ble_eq_true rfl) cls_9.1 rfl (fun _ z => rc_X10_token z) (fun _ z => met_X10_token hO F S x0 z) (fun r1 hr1 => ?_)
  refine v_bipush C dX10_number_5 cb_48 ?_
  refine v_bipush C dX10_number_7 cb_57 ?_
  refine g_callSN_ri C (As := [.int (r1.1), .int 48, .int 57]) (st := [.ref x0]) lk_X10_48 dX10_number_9 rfl (Nat.le_of_ble_eq_true rfl) (Nat.le_of_ble_eq_true rfl) (Nat.le_of_ble_eq_true rfl) (fun _ z => met_X1_isIn hO r1.2 (r1.1) 48 57 z) (fun r2 hr2 => ?_)
  refine g_callV_mv C (As := [.int r2]) (st := []) lk_X10_44 dX10_number_12 rfl (Nat.le_of_ble_eq_true rfl) (Nat.le_of_ble_eq_true rfl) (Nat.le_of_ble_eq_true rfl) cls_9.1 rfl (fun _ z => rc_X10_require z) (fun _ z => met_X10_require hO r1.2 x0 r2 z) (fun r3 hr3 => ?_)
  refine v_aload_n C dX10_number_15 0 rfl ?_
  refine g_callV_ri C (As := []) (st := []) lk_X10_33 dX10_number_16 rfl (Nat.le_of_ble_eq_true rfl) (Nat.le_of_ble_eq_true rfl) (Nat.le_of_ble_eq_true rfl) cls_9.1 rfl (fun _ z => rc_X10_next z) (fun _ z => met_X10_next hO r3 x0 z) (fun r4 hr4 => ?_)
  refine v_bipush C dX10_number_19 cb_48 ?_
  refine v_isub C dX10_number_21 ?_
  refine v_leti (fun y5 hy5 => ?_)
  refine v_istore_n C (lv' := [(1, .int y5), (0, .ref x0)]) dX10_number_22 (Nat.le_of_ble_eq_true rfl) rfl ?_
  refine v_aload_n C dX10_number_23 1 rfl ?_
  refine v_dup C dX10_number_24 rfl ?_
  refine g_getI C dX10_number_25 cls_9 (Nat.le_of_ble_eq_true rfl) fl_X10_19 fs_X10_19 (fun y6 hy6 => ?_)
  refine v_iconst C dX10_number_28 ci_1 ?_
  refine v_iadd C dX10_number_29 ?_
  refine g_putV C dX10_number_30 cls_9 (Nat.le_of_ble_eq_true rfl) fl_X10_19 fs_X10_19 rfl rfl rfl (fun S7 hS7 => ?_)
  refine v_aload_n C dX10_number_33 1 rfl ?_
  refine g_callV_ri C (As := []) (st := []) lk_X10_33 dX10_number_34 rfl (Nat.le_of_ble_eq_true rfl) (Nat.le_of_ble_eq_true rfl) (Nat.le_of_ble_eq_true rfl) cls_9.1 rfl (fun _ z => rc_X10_next z) (fun _ z => met_X10_next hO S7 x0 z) (fun r8 hr8 => ?_)
  refine v_bipush C dX10_number_37 cb_48 ?_
  refine v_bipush C dX10_number_39 cb_57 ?_
  refine g_callSN_ri C (As := [.int r8, .int 48, .int 57]) (st := []) lk_X10_48 dX10_number_41 rfl (Nat.le_of_ble_eq_true rfl) (Nat.le_of_ble_eq_true rfl) (Nat.le_of_ble_eq_true rfl) (fun _ z => met_X1_isIn hO S7 r8 48 57 z) (fun r9 hr9 => ?_)
  refine v_if_eq C (tgt := 70) dX10_number_44 rfl (fun _ => ?_) (fun _ => ?_)
  · exact v_sub [1, 0] rfl (w_X10_number_70 hO C hm S7)
  · refine v_bipush C dX10_number_47 cb_10 ?_
    refine v_iload_n C dX10_number_49 0 rfl ?_
    refine v_imul C dX10_number_50 ?_
    refine v_aload_n C dX10_number_51 1 rfl ?_
    refine g_callV_ri C (As := []) (st := [.int (10 * y5)]) lk_X10_33 dX10_number_52 rfl (Nat.le_of_ble_eq_true rfl) (Nat.le_of_ble_eq_true rfl) (Nat.le_of_ble_eq_true rfl) cls_9.1 rfl (fun _ z => rc_X10_next z) (fun _ z => met_X10_next hO S7 x0 z) (fun r10 hr10 => ?_)
    refine v_iadd C dX10_number_55 ?_
    refine v_bipush C dX10_number_56 cb_48 ?_
    refine v_isub C dX10_number_58 ?_
    refine v_leti (fun y11 hy11 => ?_)
    refine v_istore_n C (lv' := [(1, .int y11), (0, .ref x0)]) dX10_number_59 (Nat.le_of_ble_eq_true rfl) rfl ?_
    refine v_aload_n C dX10_number_60 1 rfl ?_
    refine v_dup C dX10_number_61 rfl ?_
    refine g_getI C dX10_number_62 cls_9 (Nat.le_of_ble_eq_true rfl) fl_X10_19 fs_X10_19 (fun y12 hy12 => ?_)
    refine v_iconst C dX10_number_65 ci_1 ?_
    refine v_iadd C dX10_number_66 ?_
    refine g_putV C dX10_number_67 cls_9 (Nat.le_of_ble_eq_true rfl) fl_X10_19 fs_X10_19 rfl rfl rfl (fun S13 hS13 => ?_)
    exact v_sub [1, 0] rfl (w_X10_number_70 hO C hm S13)
theorem mono_X10_two {F : Nat} {ek : Nat → Nat} {S : St} {x0 : Nat} {x1 : Int32} {x2 : Int32} {r : St} (h : C_X10_two F ek S x0 x1 x2 = some r) : leG S r := by
  have q : MF mf_s (C_X10_two F ek S x0 x1 x2) S := by
    unfold C_X10_two
    refine mf_bind (fun _ _ => ?_)
    refine mf_bind (fun y1 hy1 => ?_)
    refine mf_call (fun _ z => mono_X10_number z) (fun r2 hr2 => ?_)
    refine mf_tI (fun S3 hS3 => ?_)
    refine mf_callv (fun _ z => mono_X10_expect z) (fun r4 hr4 => ?_)
    refine mf_bind (fun y5 hy5 => ?_)
    refine mf_call (fun _ z => mono_X10_number z) (fun r6 hr6 => ?_)
    refine mf_tI (fun S7 hS7 => ?_)
    exact mf_ret leG.rf
  exact q r h
theorem met_X10_two {P : GP} {l : Launch} (hO : okG P) (F : Nat) (S : St) (x0 : Nat) (x1 : Int32) (x2 : Int32) {r : St} (h : C_X10_two F P.2.2.2.2.2 S x0 x1 x2 = some r) : FM l (OG P) yX10_two (ws_ yX10_two cX10_two 3 none) 7 149 [.ref x0, .int x1, .int x2] S (f_mv r) := by
  refine FM.of (own := RX10) (lv := [(0, .ref x0), (1, .int x1), (2, .int x2)]) (OG_ok P hO) pl_X10 rfl (Nat.le_of_ble_eq_true rfl) rfl h (mono_X10_two h).LE (fun X C hm => ?_)
  unfold C_X10_two
  refine VF.bind (fun _ _ => ?_)
  refine v_aload_n C dX10_two_0 0 rfl ?_
  refine g_getA C dX10_two_1 cls_9 (Nat.le_of_ble_eq_true rfl) fl_X10_9 fs_X10_9 (fun y1 hy1 => ?_)
  refine v_iload_n C dX10_two_4 1 rfl ?_
  refine v_aload_n C dX10_two_5 0 rfl ?_
  refine g_callV_mi C (As := []) (st := [.int x1, .ref y1]) lk_X10_52 dX10_two_6 rfl (Nat.le_of_ble_eq_true rfl) (Nat.le_of_ble_eq_true rfl) (Nat.le_of_ble_eq_true rfl) cls_9.1 rfl (fun _ z => rc_X10_number z) (fun _ z => met_X10_number hO F S x0 z) (fun r2 hr2 => ?_)
  refine g_ias C dX10_two_9 (fun S3 hS3 => ?_)
  refine v_aload_n C dX10_two_10 0 rfl ?_
  refine v_iload_n C dX10_two_11 2 rfl ?_
  refine g_callV_mv C (As := [.int x2]) (st := []) lk_X10_55 dX10_two_12 rfl (Nat.le_of_ble_eq_true rfl) (Nat.le_of_ble_eq_true rfl) (Nat.le_of_ble_eq_true rfl) cls_9.1 rfl (fun _ z => rc_X10_expect z) (fun _ z => met_X10_expect hO F S3 x0 x2 z) (fun r4 hr4 => ?_)
  refine v_aload_n C dX10_two_15 0 rfl ?_
  refine g_getA C dX10_two_16 cls_9 (Nat.le_of_ble_eq_true rfl) fl_X10_9 fs_X10_9 (fun y5 hy5 => ?_)
  refine v_iload_n C dX10_two_19 1 rfl ?_
  refine v_iconst C dX10_two_20 ci_1 ?_
  refine v_iadd C dX10_two_21 ?_
  refine v_aload_n C dX10_two_22 0 rfl ?_
  refine g_callV_mi C (As := []) (st := [.int (x1 + 1), .ref y5]) lk_X10_52 dX10_two_23 rfl (Nat.le_of_ble_eq_true rfl) (Nat.le_of_ble_eq_true rfl) (Nat.le_of_ble_eq_true rfl) cls_9.1 rfl (fun _ z => rc_X10_number z) (fun _ z => met_X10_number hO F r4 x0 z) (fun r6 hr6 => ?_)
  refine g_ias C dX10_two_26 (fun S7 hS7 => ?_)
  exact v_vreturn C hm dX10_two_27 rfl
theorem o_X10_command_156 {F : Nat} {ek : Nat → Nat} {x0 : Nat}  (S : St) : MF mf_s (C_X10_command_156 F ek x0 S) S := by
  unfold C_X10_command_156
  refine mf_callv (fun _ z => mono_X10_expect z) (fun r13 hr13 => ?_)
  exact mf_ret leG.rf
theorem o_X10_command_114 {F : Nat} {ek : Nat → Nat} {x0 : Nat} {x1 : Int32}  (s0 : Nat) (s1 : Nat) (S : St) : MF mf_s (C_X10_command_114 F ek x0 x1 s0 s1 S) S := by
  unfold C_X10_command_114
  refine mf_put (fun S14 hS14 => ?_)
  refine mf_ite ?_ ?_
  · refine mf_callv (fun _ z => mono_X10_two z) (fun r15 hr15 => ?_)
    refine mf_callv (fun _ z => mono_X10_expect z) (fun r16 hr16 => ?_)
    refine mf_bind (fun y17 hy17 => ?_)
    refine mf_call (fun _ z => mono_X10_number z) (fun r18 hr18 => ?_)
    refine mf_tI (fun S19 hS19 => ?_)
    exact (o_X10_command_156 S19)
  · refine mf_callv (fun _ z => mono_X10_two z) (fun r20 hr20 => ?_)
    exact (o_X10_command_156 r20)
theorem o_X10_command_73 {F : Nat} {ek : Nat → Nat} {x0 : Nat} {x1 : Int32}  (s0 : Nat) (s1 : Int32) (S : St) : MF mf_s (C_X10_command_73 F ek x0 x1 s0 s1 S) S := by
  unfold C_X10_command_73
  refine mf_callv (fun _ z => mono_X10_require z) (fun r10 hr10 => ?_)
  refine mf_bind (fun y11 hy11 => ?_)
  refine mf_put (fun S12 hS12 => ?_)
  refine mf_ite ?_ ?_
  · exact (o_X10_command_114 x0 (ek 1) S12)
  · refine mf_ite ?_ ?_
    · exact (o_X10_command_114 x0 (ek 2) S12)
    · exact (o_X10_command_114 x0 (ek 3) S12)
theorem o_X10_command_68 {F : Nat} {ek : Nat → Nat} {x0 : Nat} {x1 : Int32}  (s0 : Nat) (S : St) : MF mf_s (C_X10_command_68 F ek x0 x1 s0 S) S := by
  unfold C_X10_command_68
  exact (o_X10_command_73 s0 1 S)
theorem mono_X10_command {F : Nat} {ek : Nat → Nat} {S : St} {x0 : Nat} {r : St} (h : C_X10_command F ek S x0 = some r) : leG S r := by
  have q : MF mf_s (C_X10_command F ek S x0) S := by
    unfold C_X10_command
    refine mf_bind (fun _ _ => ?_)
    refine mf_call (fun _ z => mono_X10_token z) (fun r1 hr1 => ?_)
    refine mf_bind (fun y2 hy2 => ?_)
    refine mf_bind (fun r3 hr3 => ?_)
    refine mf_ite ?_ ?_
    · refine mf_ite ?_ ?_
      · exact (o_X10_command_68 x0 r1.2)
      · refine mf_ite ?_ ?_
        · exact (o_X10_command_68 x0 r1.2)
        · refine mf_ite ?_ ?_
          · exact (o_X10_command_68 x0 r1.2)
          · exact (o_X10_command_73 x0 0 r1.2)
    · refine mf_put (fun S4 hS4 => ?_)
      refine mf_callv (fun _ z => mono_X10_two z) (fun r5 hr5 => ?_)
      refine mf_callv (fun _ z => mono_X10_expect z) (fun r6 hr6 => ?_)
      refine mf_bind (fun y7 hy7 => ?_)
      refine mf_call (fun _ z => mono_X10_number z) (fun r8 hr8 => ?_)
      refine mf_tI (fun S9 hS9 => ?_)
      exact (o_X10_command_156 S9)
  exact q r h
theorem w_X10_command_156 {P : GP} {X : Ctx} {l : Launch} {S0 : St} {F : Nat} (hO : okG P) (C : CX (OG P) X l cX10_command 2 RX10 none) (hm : X.2.2.2.2.2.2.2.2.2 = none) {x0 : Nat}  (S : St) : VF (OG P) X 2 8 171 S0 f_mv (C_X10_command_156 F P.2.2.2.2.2 x0 S) S 156 [(0, .ref x0)] [] := by
  unfold C_X10_command_156
  refine v_aload_n C dX10_command_156 0 rfl ?_
  refine v_bipush C dX10_command_157 cb_59 ?_
  refine g_callV_mv C (As := [.int 59]) (st := []) lk_X10_55 dX10_command_159 rfl (Nat.le_of_ble_eq_true rfl) (Nat.le_of_ble_eq_true rfl) (Nat.le_of_ble_eq_true rfl) cls_9.1 rfl (fun _ z => rc_X10_expect z) (fun _ z => met_X10_expect hO F S x0 59 z) (fun r13 hr13 => ?_)
  exact v_vreturn C hm dX10_command_162 rfl
theorem w_X10_command_114 {P : GP} {X : Ctx} {l : Launch} {S0 : St} {F : Nat} (hO : okG P) (C : CX (OG P) X l cX10_command 2 RX10 none) (hm : X.2.2.2.2.2.2.2.2.2 = none) {x0 : Nat} {x1 : Int32}  (s0 : Nat) (s1 : Nat) (S : St) : VF (OG P) X 2 8 171 S0 f_mv (C_X10_command_114 F P.2.2.2.2.2 x0 x1 s0 s1 S) S 114 [(0, .ref x0), (1, .int x1)] [.ref s1, .ref s0] := by
  unfold C_X10_command_114
  refine g_putV C dX10_command_114 cls_9 (Nat.le_of_ble_eq_true rfl) fl_X10_65 fs_X10_65 rfl rfl rfl (fun S14 hS14 => ?_)
  refine v_iload_n C dX10_command_117 1 rfl ?_
  refine v_bipush C dX10_command_118 cb_120 ?_
  refine v_icmp_ne C (tgt := 149) dX10_command_120 rfl (fun _ => ?_) (fun _ => ?_)
  · refine v_aload_n C dX10_command_123 0 rfl ?_
    refine v_iconst C dX10_command_124 ci_0 ?_
    refine v_bipush C dX10_command_125 cb_58 ?_
    refine g_callV_mv C (As := [.int 0, .int 58]) (st := []) lk_X10_68 dX10_command_127 rfl (Nat.le_of_ble_eq_true rfl) (Nat.le_of_ble_eq_true rfl) (Nat.le_of_ble_eq_true rfl) cls_9.1 rfl (fun _ z => rc_X10_two z) (fun _ z => met_X10_two hO F S14 x0 0 58 z) (fun r15 hr15 => ?_)
    refine v_aload_n C dX10_command_130 0 rfl ?_
    refine v_bipush C dX10_command_131 cb_45 ?_
    refine g_callV_mv C (As := [.int 45]) (st := []) lk_X10_55 dX10_command_133 rfl (Nat.le_of_ble_eq_true rfl) (Nat.le_of_ble_eq_true rfl) (Nat.le_of_ble_eq_true rfl) cls_9.1 rfl (fun _ z => rc_X10_expect z) (fun _ z => met_X10_expect hO F r15 x0 45 z) (fun r16 hr16 => ?_)
    refine v_aload_n C dX10_command_136 0 rfl ?_
    refine g_getA C dX10_command_137 cls_9 (Nat.le_of_ble_eq_true rfl) fl_X10_9 fs_X10_9 (fun y17 hy17 => ?_)
    refine v_iconst C dX10_command_140 ci_2 ?_
    refine v_aload_n C dX10_command_141 0 rfl ?_
    refine g_callV_mi C (As := []) (st := [.int 2, .ref y17]) lk_X10_52 dX10_command_142 rfl (Nat.le_of_ble_eq_true rfl) (Nat.le_of_ble_eq_true rfl) (Nat.le_of_ble_eq_true rfl) cls_9.1 rfl (fun _ z => rc_X10_number z) (fun _ z => met_X10_number hO F r16 x0 z) (fun r18 hr18 => ?_)
    refine g_ias C dX10_command_145 (fun S19 hS19 => ?_)
    refine v_goto C (tgt := 156) dX10_command_146 rfl ?_
    exact v_sub [0] rfl (w_X10_command_156 hO C hm S19)
  · refine v_aload_n C dX10_command_149 0 rfl ?_
    refine v_iconst C dX10_command_150 ci_0 ?_
    refine v_bipush C dX10_command_151 cb_61 ?_
    refine g_callV_mv C (As := [.int 0, .int 61]) (st := []) lk_X10_68 dX10_command_153 rfl (Nat.le_of_ble_eq_true rfl) (Nat.le_of_ble_eq_true rfl) (Nat.le_of_ble_eq_true rfl) cls_9.1 rfl (fun _ z => rc_X10_two z) (fun _ z => met_X10_two hO F S14 x0 0 61 z) (fun r20 hr20 => ?_)
    exact v_sub [0] rfl (w_X10_command_156 hO C hm r20)
theorem w_X10_command_73 {P : GP} {X : Ctx} {l : Launch} {S0 : St} {F : Nat} (hO : okG P) (C : CX (OG P) X l cX10_command 2 RX10 none) (hm : X.2.2.2.2.2.2.2.2.2 = none) {x0 : Nat} {x1 : Int32}  (s0 : Nat) (s1 : Int32) (S : St) : VF (OG P) X 2 8 171 S0 f_mv (C_X10_command_73 F P.2.2.2.2.2 x0 x1 s0 s1 S) S 73 [(0, .ref x0), (1, .int x1)] [.int s1, .ref s0] := by
  unfold C_X10_command_73
  refine g_callV_mv C (As := [.int s1]) (st := []) lk_X10_44 dX10_command_73 rfl (Nat.le_of_ble_eq_true rfl) (Nat.le_of_ble_eq_true rfl) (Nat.le_of_ble_eq_true rfl) cls_9.1 rfl (fun _ z => rc_X10_require z) (fun _ z => met_X10_require hO S s0 s1 z) (fun r10 hr10 => ?_)
  refine v_aload_n C dX10_command_76 0 rfl ?_
  refine v_dup C dX10_command_77 rfl ?_
  refine g_getI C dX10_command_78 cls_9 (Nat.le_of_ble_eq_true rfl) fl_X10_19 fs_X10_19 (fun y11 hy11 => ?_)
  refine v_iconst C dX10_command_81 ci_1 ?_
  refine v_iadd C dX10_command_82 ?_
  refine g_putV C dX10_command_83 cls_9 (Nat.le_of_ble_eq_true rfl) fl_X10_19 fs_X10_19 rfl rfl rfl (fun S12 hS12 => ?_)
  refine v_aload_n C dX10_command_86 0 rfl ?_
  refine v_iload_n C dX10_command_87 1 rfl ?_
  refine v_bipush C dX10_command_88 cb_119 ?_
  refine v_icmp_ne C (tgt := 99) dX10_command_90 rfl (fun _ => ?_) (fun _ => ?_)
  · refine g_gets C dX10_command_93 (zG_3 P) q802 ?_
    refine v_goto C (tgt := 114) dX10_command_96 rfl ?_
    exact v_sub [0, 1] rfl (w_X10_command_114 hO C hm x0 (P.2.2.2.2.2 1) S12)
  · refine v_iload_n C dX10_command_99 1 rfl ?_
    refine v_bipush C dX10_command_100 cb_118 ?_
    refine v_icmp_ne C (tgt := 111) dX10_command_102 rfl (fun _ => ?_) (fun _ => ?_)
    · refine g_gets C dX10_command_105 (zG_4 P) q804 ?_
      refine v_goto C (tgt := 114) dX10_command_108 rfl ?_
      exact v_sub [0, 1] rfl (w_X10_command_114 hO C hm x0 (P.2.2.2.2.2 2) S12)
    · refine g_gets C dX10_command_111 (zG_5 P) q806 ?_
      exact v_sub [0, 1] rfl (w_X10_command_114 hO C hm x0 (P.2.2.2.2.2 3) S12)
theorem w_X10_command_68 {P : GP} {X : Ctx} {l : Launch} {S0 : St} {F : Nat} (hO : okG P) (C : CX (OG P) X l cX10_command 2 RX10 none) (hm : X.2.2.2.2.2.2.2.2.2 = none) {x0 : Nat} {x1 : Int32}  (s0 : Nat) (S : St) : VF (OG P) X 2 8 171 S0 f_mv (C_X10_command_68 F P.2.2.2.2.2 x0 x1 s0 S) S 68 [(0, .ref x0), (1, .int x1)] [.ref s0] := by
  unfold C_X10_command_68
  refine v_iconst C dX10_command_68 ci_1 ?_
  refine v_goto C (tgt := 73) dX10_command_69 rfl ?_
  exact v_sub [0, 1] rfl (w_X10_command_73 hO C hm s0 1 S)
theorem met_X10_command {P : GP} {l : Launch} (hO : okG P) (F : Nat) (S : St) (x0 : Nat) {r : St} (h : C_X10_command F P.2.2.2.2.2 S x0 = some r) : FM l (OG P) yX10_command (ws_ yX10_command cX10_command 2 none) 8 171 [.ref x0] S (f_mv r) := by
  refine FM.of (own := RX10) (lv := [(0, .ref x0)]) (OG_ok P hO) pl_X10 rfl (Nat.le_of_ble_eq_true rfl) rfl h (mono_X10_command h).LE (fun X C hm => ?_)
  unfold C_X10_command
  refine VF.bind (fun _ _ => ?_)
  refine v_aload_n C dX10_command_0 0 rfl ?_
  refine g_callV_mi C (As := []) (st := []) lk_X10_36 dX10_command_1 rfl (Nat.le_of_ble_eq_true rfl) (Nat.le_of_ble_eq_true rfl) (Nat.le_of_ble_eq_true rfl) cls_9.1 rfl (fun _ z => rc_X10_token z) (fun _ z => met_X10_token hO F S x0 z) (fun r1 hr1 => ?_)
  refine v_leti (fun y2 hy2 => ?_)
  refine v_istore_n C (lv' := [(1, .int y2), (0, .ref x0)]) dX10_command_4 (Nat.le_of_ble_eq_true rfl) rfl ?_
  refine v_iload_n C dX10_command_5 0 rfl ?_
  refine v_bipush C dX10_command_6 cb_48 ?_
  refine v_bipush C dX10_command_8 cb_57 ?_
  refine g_callSN_ri C (As := [.int y2, .int 48, .int 57]) (st := []) lk_X10_48 dX10_command_10 rfl (Nat.le_of_ble_eq_true rfl) (Nat.le_of_ble_eq_true rfl) (Nat.le_of_ble_eq_true rfl) (fun _ z => met_X1_isIn hO r1.2 y2 48 57 z) (fun r3 hr3 => ?_)
  refine v_if_eq C (tgt := 49) dX10_command_13 rfl (fun _ => ?_) (fun _ => ?_)
  · refine v_aload_n C dX10_command_49 1 rfl ?_
    refine v_iload_n C dX10_command_50 0 rfl ?_
    refine v_bipush C dX10_command_51 cb_119 ?_
    refine v_icmp_eq C (tgt := 68) dX10_command_53 rfl (fun _ => ?_) (fun _ => ?_)
    · exact v_sub [1, 0] rfl (w_X10_command_68 hO C hm x0 r1.2)
    · refine v_iload_n C dX10_command_56 0 rfl ?_
      refine v_bipush C dX10_command_57 cb_118 ?_
      refine v_icmp_eq C (tgt := 68) dX10_command_59 rfl (fun _ => ?_) (fun _ => ?_)
      · exact v_sub [1, 0] rfl (w_X10_command_68 hO C hm x0 r1.2)
      · refine v_iload_n C dX10_command_62 0 rfl ?_
        refine v_bipush C dX10_command_63 cb_120 ?_
        refine v_icmp_ne C (tgt := 72) dX10_command_65 rfl (fun _ => ?_) (fun _ => ?_)
        · exact v_sub [1, 0] rfl (w_X10_command_68 hO C hm x0 r1.2)
        · refine v_iconst C dX10_command_72 ci_0 ?_
          exact v_sub [1, 0] rfl (w_X10_command_73 hO C hm x0 0 r1.2)
  · refine v_aload_n C dX10_command_16 1 rfl ?_
    refine g_gets C dX10_command_17 (zG_2 P) q759 ?_
    refine g_putV C dX10_command_20 cls_9 (Nat.le_of_ble_eq_true rfl) fl_X10_65 fs_X10_65 rfl rfl rfl (fun S4 hS4 => ?_)
    refine v_aload_n C dX10_command_23 1 rfl ?_
    refine v_iconst C dX10_command_24 ci_0 ?_
    refine v_bipush C dX10_command_25 cb_45 ?_
    refine g_callV_mv C (As := [.int 0, .int 45]) (st := []) lk_X10_68 dX10_command_27 rfl (Nat.le_of_ble_eq_true rfl) (Nat.le_of_ble_eq_true rfl) (Nat.le_of_ble_eq_true rfl) cls_9.1 rfl (fun _ z => rc_X10_two z) (fun _ z => met_X10_two hO F S4 x0 0 45 z) (fun r5 hr5 => ?_)
    refine v_aload_n C dX10_command_30 1 rfl ?_
    refine v_bipush C dX10_command_31 cb_58 ?_
    refine g_callV_mv C (As := [.int 58]) (st := []) lk_X10_55 dX10_command_33 rfl (Nat.le_of_ble_eq_true rfl) (Nat.le_of_ble_eq_true rfl) (Nat.le_of_ble_eq_true rfl) cls_9.1 rfl (fun _ z => rc_X10_expect z) (fun _ z => met_X10_expect hO F r5 x0 58 z) (fun r6 hr6 => ?_)
    refine v_aload_n C dX10_command_36 1 rfl ?_
    refine g_getA C dX10_command_37 cls_9 (Nat.le_of_ble_eq_true rfl) fl_X10_9 fs_X10_9 (fun y7 hy7 => ?_)
    refine v_iconst C dX10_command_40 ci_2 ?_
    refine v_aload_n C dX10_command_41 1 rfl ?_
    refine g_callV_mi C (As := []) (st := [.int 2, .ref y7]) lk_X10_52 dX10_command_42 rfl (Nat.le_of_ble_eq_true rfl) (Nat.le_of_ble_eq_true rfl) (Nat.le_of_ble_eq_true rfl) cls_9.1 rfl (fun _ z => rc_X10_number z) (fun _ z => met_X10_number hO F r6 x0 z) (fun r8 hr8 => ?_)
    refine g_ias C dX10_command_45 (fun S9 hS9 => ?_)
    refine v_goto C (tgt := 156) dX10_command_46 rfl ?_
    exact v_sub [1] rfl (w_X10_command_156 hO C hm S9)
theorem o_X12_done_42 {x1 : Nat} {x2 : Nat}  (s0 : Int32) (S : St) : MF mf_p (C_X12_done_42 x1 x2 s0 S) S := by
  unfold C_X12_done_42
  refine mf_ite ?_ ?_
  · exact mf_ret leG.rf
  · refine mf_new (fun r10 hr10 => ?_)
    refine mf_bind (fun y11 hy11 => ?_)
    refine mf_bind (fun y12 hy12 => ?_)
    refine mf_bind (fun y13 hy13 => ?_)
    refine mf_callv (fun _ z => mono_X6_init z) (fun r14 hr14 => ?_)
    refine mf_call (fun _ z => mono_X2_withStretch z) (fun r15 hr15 => ?_)
    exact mf_ret leG.rf
theorem o_X12_done_41 {x1 : Nat} {x2 : Nat}  (S : St) : MF mf_p (C_X12_done_41 x1 x2 S) S := by
  unfold C_X12_done_41
  exact (o_X12_done_42 0 S)
theorem mono_X12_done {S : St} {x0 : Nat} {x1 : Nat} {x2 : Nat} {r : Option Nat × St} (h : C_X12_done S x0 x1 x2 = some r) : leG S r.2 := by
  have q : MF mf_p (C_X12_done S x0 x1 x2) S := by
    unfold C_X12_done
    refine mf_bind (fun y1 hy1 => ?_)
    refine mf_bind (fun y2 hy2 => ?_)
    refine mf_bind (fun y3 hy3 => ?_)
    refine mf_ite ?_ ?_
    · exact (o_X12_done_41 S)
    · refine mf_bind (fun y4 hy4 => ?_)
      refine mf_bind (fun y5 hy5 => ?_)
      refine mf_bind (fun y6 hy6 => ?_)
      refine mf_bind (fun r7 hr7 => ?_)
      refine mf_ite ?_ ?_
      · exact (o_X12_done_41 S)
      · refine mf_bind (fun y8 hy8 => ?_)
        refine mf_bind (fun y9 hy9 => ?_)
        refine mf_ite ?_ ?_
        · exact (o_X12_done_41 S)
        · exact (o_X12_done_42 1 S)
  exact q r h
theorem w_X12_done_42 {P : GP} {X : Ctx} {l : Launch} {S0 : St} (hO : okG P) (C : CX (OG P) X l cX12_done 4 RX12 (some (.object "NetworkCenters$Network"))) (hm : X.2.2.2.2.2.2.2.2.2 = none) {x1 : Nat} {x2 : Nat}  (s0 : Int32) (S : St) : VF (OG P) X 4 3 80 S0 f_mq (C_X12_done_42 x1 x2 s0 S) S 42 [(1, .ref x1), (2, .ref x2)] [.int s0] := by
  unfold C_X12_done_42
  refine v_istore_n C (lv' := [(3, .int s0), (1, .ref x1), (2, .ref x2)]) dX12_done_42 (Nat.le_of_ble_eq_true rfl) rfl ?_
  refine v_iload_n C dX12_done_43 0 rfl ?_
  refine v_if_eq C (tgt := 70) dX12_done_44 rfl (fun _ => ?_) (fun _ => ?_)
  · refine g_null C dX12_done_70 ?_
    exact v_areturn C hm dX12_done_71 (Or.inl ⟨_, rfl⟩) (Or.inl rfl) rfl
  · refine v_aload_n C dX12_done_47 1 rfl ?_
    refine g_new C dX12_done_48 cls_5 q1996 q1679 q140 dfok_5 (fun r10 hr10 => ?_)
    refine v_dup C dX12_done_51 rfl ?_
    refine v_aload_n C dX12_done_52 2 rfl ?_
    refine v_iconst C dX12_done_53 ci_0 ?_
    refine g_ial C dX12_done_54 (fun y11 hy11 => ?_)
    refine v_aload_n C dX12_done_55 2 rfl ?_
    refine v_iconst C dX12_done_56 ci_1 ?_
    refine g_ial C dX12_done_57 (fun y12 hy12 => ?_)
    refine v_aload_n C dX12_done_58 2 rfl ?_
    refine v_iconst C dX12_done_59 ci_2 ?_
    refine g_ial C dX12_done_60 (fun y13 hy13 => ?_)
    refine v_callI_mv C (As := [.int y11, .int y12, .int y13]) (st := [.ref (r10.1), .ref x1]) lk_X12_25 dX12_done_61 rfl (Nat.le_of_ble_eq_true rfl) (Nat.le_of_ble_eq_true rfl) (Nat.le_of_ble_eq_true rfl) (fun _ z => met_X6_init hO r10.2 (r10.1) y11 y12 y13 z) (fun r14 hr14 => ?_)
    refine g_callV_ma C (As := [.ref (r10.1)]) (st := []) lk_X12_28 dX12_done_64 rfl (Nat.le_of_ble_eq_true rfl) (Nat.le_of_ble_eq_true rfl) (Nat.le_of_ble_eq_true rfl) cls_2.1 rfl (fun _ z => rc_X2_withStretch z) (fun _ z => met_X2_withStretch hO r14 x1 (r10.1) z) (fun r15 hr15 => ?_)
    refine v_goto C (tgt := 71) dX12_done_67 rfl ?_
    exact v_areturn C hm dX12_done_71 (Or.inl ⟨_, rfl⟩) (Or.inr ⟨_, rfl⟩) rfl
theorem w_X12_done_41 {P : GP} {X : Ctx} {l : Launch} {S0 : St} (hO : okG P) (C : CX (OG P) X l cX12_done 4 RX12 (some (.object "NetworkCenters$Network"))) (hm : X.2.2.2.2.2.2.2.2.2 = none) {x1 : Nat} {x2 : Nat}  (S : St) : VF (OG P) X 4 3 80 S0 f_mq (C_X12_done_41 x1 x2 S) S 41 [(1, .ref x1), (2, .ref x2)] [] := by
  unfold C_X12_done_41
  refine v_iconst C dX12_done_41 ci_0 ?_
  exact v_sub [0, 1] rfl (w_X12_done_42 hO C hm 0 S)
theorem met_X12_done {P : GP} {l : Launch} (hO : okG P) (S : St) (x0 : Nat) (x1 : Nat) (x2 : Nat) {r : Option Nat × St} (h : C_X12_done S x0 x1 x2 = some r) : FMU l P yX12_done (ws_ yX12_done cX12_done 4 (some (.object "NetworkCenters$Network"))) 3 80 [.ref x0, .ref x1, .ref x2] S (f_mq r) := by
  refine FMU.of (own := RX12) (lv := [(0, .ref x0), (1, .ref x1), (2, .ref x2)]) (OG_ok P hO) pl_X12 rfl (Nat.le_of_ble_eq_true rfl) rfl h (mono_X12_done h).LE (fun X C hm => ?_)
  unfold C_X12_done
  refine v_aload_n C dX12_done_0 2 rfl ?_
  refine v_iconst C dX12_done_1 ci_0 ?_
  refine g_ial C dX12_done_2 (fun y1 hy1 => ?_)
  refine v_aload_n C dX12_done_3 1 rfl ?_
  refine g_getA C dX12_done_4 cls_2 (Nat.le_of_ble_eq_true rfl) fl_X12_9 fs_X12_9 (fun y2 hy2 => ?_)
  refine g_alen (kd := 3) (fun _ => rfl) C dX12_done_7 (fun y3 hy3 => ?_)
  refine v_icmp_ge C (tgt := 41) dX12_done_8 rfl (fun _ => ?_) (fun _ => ?_)
  · exact v_sub [1, 2] rfl (w_X12_done_41 hO C hm S)
  · refine v_aload_n C dX12_done_11 1 rfl ?_
    refine v_aload_n C dX12_done_12 2 rfl ?_
    refine v_iconst C dX12_done_13 ci_0 ?_
    refine g_ial C dX12_done_14 (fun y4 hy4 => ?_)
    refine v_aload_n C dX12_done_15 2 rfl ?_
    refine v_iconst C dX12_done_16 ci_1 ?_
    refine g_ial C dX12_done_17 (fun y5 hy5 => ?_)
    refine v_aload_n C dX12_done_18 2 rfl ?_
    refine v_iconst C dX12_done_19 ci_2 ?_
    refine g_ial C dX12_done_20 (fun y6 hy6 => ?_)
    refine g_callV_ri C (As := [.int y4, .int y5, .int y6]) (st := []) lk_X12_15 dX12_done_21 rfl (Nat.le_of_ble_eq_true rfl) (Nat.le_of_ble_eq_true rfl) (Nat.le_of_ble_eq_true rfl) cls_2.1 rfl (fun _ z => rc_X2_mayForbid z) (fun _ z => met_X2_mayForbid hO S x1 y4 y5 y6 z) (fun r7 hr7 => ?_)
    refine v_if_eq C (tgt := 41) dX12_done_24 rfl (fun _ => ?_) (fun _ => ?_)
    · exact v_sub [1, 2] rfl (w_X12_done_41 hO C hm S)
    · refine v_aload_n C dX12_done_27 1 rfl ?_
      refine g_getA C dX12_done_28 cls_2 (Nat.le_of_ble_eq_true rfl) fl_X12_19 fs_X12_19 (fun y8 hy8 => ?_)
      refine g_alen (kd := 4) (fun _ => rfl) C dX12_done_31 (fun y9 hy9 => ?_)
      refine v_bipush C dX12_done_32 cb_6 ?_
      refine v_icmp_ge C (tgt := 41) dX12_done_34 rfl (fun _ => ?_) (fun _ => ?_)
      · exact v_sub [1, 2] rfl (w_X12_done_41 hO C hm S)
      · refine v_iconst C dX12_done_37 ci_1 ?_
        refine v_goto C (tgt := 42) dX12_done_38 rfl ?_
        exact v_sub [1, 2] rfl (w_X12_done_42 hO C hm 1 S)
theorem o_X13_done_54 {F : Nat} {x1 : Nat} {x2 : Nat}  (s0 : Int32) (S : St) : MF mf_p (C_X13_done_54 F x1 x2 s0 S) S := by
  unfold C_X13_done_54
  refine mf_ite ?_ ?_
  · exact mf_ret leG.rf
  · refine mf_new (fun r12 hr12 => ?_)
    refine mf_bind (fun y13 hy13 => ?_)
    refine mf_bind (fun y14 hy14 => ?_)
    refine mf_bind (fun y15 hy15 => ?_)
    refine mf_callv (fun _ z => mono_X5_init z) (fun r16 hr16 => ?_)
    refine mf_call (fun _ z => mono_X2_withEdge z) (fun r17 hr17 => ?_)
    exact mf_ret leG.rf
theorem o_X13_done_53 {F : Nat} {x1 : Nat} {x2 : Nat}  (S : St) : MF mf_p (C_X13_done_53 F x1 x2 S) S := by
  unfold C_X13_done_53
  exact (o_X13_done_54 0 S)
theorem mono_X13_done {F : Nat} {S : St} {x0 : Nat} {x1 : Nat} {x2 : Nat} {r : Option Nat × St} (h : C_X13_done F S x0 x1 x2 = some r) : leG S r.2 := by
  have q : MF mf_p (C_X13_done F S x0 x1 x2) S := by
    unfold C_X13_done
    refine mf_bind (fun y1 hy1 => ?_)
    refine mf_bind (fun r2 hr2 => ?_)
    refine mf_ite ?_ ?_
    · exact (o_X13_done_53 S)
    · refine mf_bind (fun y3 hy3 => ?_)
      refine mf_bind (fun r4 hr4 => ?_)
      refine mf_ite ?_ ?_
      · exact (o_X13_done_53 S)
      · refine mf_bind (fun y5 hy5 => ?_)
        refine mf_bind (fun y6 hy6 => ?_)
        refine mf_bind (fun y7 hy7 => ?_)
        refine mf_bind (fun r8 hr8 => ?_)
        refine mf_ite ?_ ?_
        · exact (o_X13_done_53 S)
        · refine mf_bind (fun y9 hy9 => ?_)
          refine mf_bind (fun y10 hy10 => ?_)
          refine mf_bind (fun r11 hr11 => ?_)
          refine mf_ite ?_ ?_
          · exact (o_X13_done_53 S)
          · exact (o_X13_done_54 1 S)
  exact q r h
theorem w_X13_done_54 {P : GP} {X : Ctx} {l : Launch} {S0 : St} {F : Nat} (hO : okG P) (C : CX (OG P) X l cX13_done 4 RX13 (some (.object "NetworkCenters$Network"))) (hm : X.2.2.2.2.2.2.2.2.2 = none) {x1 : Nat} {x2 : Nat}  (s0 : Int32) (S : St) : VF (OG P) X 4 3 80 S0 f_mq (C_X13_done_54 F x1 x2 s0 S) S 54 [(1, .ref x1), (2, .ref x2)] [.int s0] := by
  unfold C_X13_done_54
  refine v_istore_n C (lv' := [(3, .int s0), (1, .ref x1), (2, .ref x2)]) dX13_done_54 (Nat.le_of_ble_eq_true rfl) rfl ?_
  refine v_iload_n C dX13_done_55 0 rfl ?_
  refine v_if_eq C (tgt := 82) dX13_done_56 rfl (fun _ => ?_) (fun _ => ?_)
  · refine g_null C dX13_done_82 ?_
    exact v_areturn C hm dX13_done_83 (Or.inl ⟨_, rfl⟩) (Or.inl rfl) rfl
  · refine v_aload_n C dX13_done_59 1 rfl ?_
    refine g_new C dX13_done_60 cls_4 q1979 q1331 q125 dfok_4 (fun r12 hr12 => ?_)
    refine v_dup C dX13_done_63 rfl ?_
    refine v_aload_n C dX13_done_64 2 rfl ?_
    refine v_iconst C dX13_done_65 ci_0 ?_
    refine g_ial C dX13_done_66 (fun y13 hy13 => ?_)
    refine v_aload_n C dX13_done_67 2 rfl ?_
    refine v_iconst C dX13_done_68 ci_1 ?_
    refine g_ial C dX13_done_69 (fun y14 hy14 => ?_)
    refine v_aload_n C dX13_done_70 2 rfl ?_
    refine v_iconst C dX13_done_71 ci_2 ?_
    refine g_ial C dX13_done_72 (fun y15 hy15 => ?_)
    refine v_callI_mv C (As := [.int y13, .int y14, .int y15]) (st := [.ref (r12.1), .ref x1]) lk_X13_23 dX13_done_73 rfl (Nat.le_of_ble_eq_true rfl) (Nat.le_of_ble_eq_true rfl) (Nat.le_of_ble_eq_true rfl) (fun _ z => met_X5_init hO r12.2 (r12.1) y13 y14 y15 z) (fun r16 hr16 => ?_)
    refine g_callV_ma C (As := [.ref (r12.1)]) (st := []) lk_X13_26 dX13_done_76 rfl (Nat.le_of_ble_eq_true rfl) (Nat.le_of_ble_eq_true rfl) (Nat.le_of_ble_eq_true rfl) cls_2.1 rfl (fun _ z => rc_X2_withEdge z) (fun _ z => met_X2_withEdge hO r16 x1 (r12.1) z) (fun r17 hr17 => ?_)
    refine v_goto C (tgt := 83) dX13_done_79 rfl ?_
    exact v_areturn C hm dX13_done_83 (Or.inl ⟨_, rfl⟩) (Or.inr ⟨_, rfl⟩) rfl
theorem w_X13_done_53 {P : GP} {X : Ctx} {l : Launch} {S0 : St} {F : Nat} (hO : okG P) (C : CX (OG P) X l cX13_done 4 RX13 (some (.object "NetworkCenters$Network"))) (hm : X.2.2.2.2.2.2.2.2.2 = none) {x1 : Nat} {x2 : Nat}  (S : St) : VF (OG P) X 4 3 80 S0 f_mq (C_X13_done_53 F x1 x2 S) S 53 [(1, .ref x1), (2, .ref x2)] [] := by
  unfold C_X13_done_53
  refine v_iconst C dX13_done_53 ci_0 ?_
  exact v_sub [0, 1] rfl (w_X13_done_54 hO C hm 0 S)
theorem met_X13_done {P : GP} {l : Launch} (hO : okG P) (F : Nat) (S : St) (x0 : Nat) (x1 : Nat) (x2 : Nat) {r : Option Nat × St} (h : C_X13_done F S x0 x1 x2 = some r) : FMU l P yX13_done (ws_ yX13_done cX13_done 4 (some (.object "NetworkCenters$Network"))) 3 80 [.ref x0, .ref x1, .ref x2] S (f_mq r) := by
  refine FMU.of (own := RX13) (lv := [(0, .ref x0), (1, .ref x1), (2, .ref x2)]) (OG_ok P hO) pl_X13 rfl (Nat.le_of_ble_eq_true rfl) rfl h (mono_X13_done h).LE (fun X C hm => ?_)
  unfold C_X13_done
  refine v_aload_n C dX13_done_0 1 rfl ?_
  refine v_aload_n C dX13_done_1 2 rfl ?_
  refine v_iconst C dX13_done_2 ci_0 ?_
  refine g_ial C dX13_done_3 (fun y1 hy1 => ?_)
  refine g_callV_ri C (As := [.int y1]) (st := []) lk_X13_7 dX13_done_4 rfl (Nat.le_of_ble_eq_true rfl) (Nat.le_of_ble_eq_true rfl) (Nat.le_of_ble_eq_true rfl) cls_2.1 rfl (fun _ z => rc_X2_isNode z) (fun _ z => met_X2_isNode hO S x1 y1 z) (fun r2 hr2 => ?_)
  refine v_if_eq C (tgt := 53) dX13_done_7 rfl (fun _ => ?_) (fun _ => ?_)
  · exact v_sub [1, 2] rfl (w_X13_done_53 hO C hm S)
  · refine v_aload_n C dX13_done_10 1 rfl ?_
    refine v_aload_n C dX13_done_11 2 rfl ?_
    refine v_iconst C dX13_done_12 ci_1 ?_
    refine g_ial C dX13_done_13 (fun y3 hy3 => ?_)
    refine g_callV_ri C (As := [.int y3]) (st := []) lk_X13_7 dX13_done_14 rfl (Nat.le_of_ble_eq_true rfl) (Nat.le_of_ble_eq_true rfl) (Nat.le_of_ble_eq_true rfl) cls_2.1 rfl (fun _ z => rc_X2_isNode z) (fun _ z => met_X2_isNode hO S x1 y3 z) (fun r4 hr4 => ?_)
    refine v_if_eq C (tgt := 53) dX13_done_17 rfl (fun _ => ?_) (fun _ => ?_)
    · exact v_sub [1, 2] rfl (w_X13_done_53 hO C hm S)
    · refine v_aload_n C dX13_done_20 1 rfl ?_
      refine v_aload_n C dX13_done_21 2 rfl ?_
      refine v_iconst C dX13_done_22 ci_0 ?_
      refine g_ial C dX13_done_23 (fun y5 hy5 => ?_)
      refine v_aload_n C dX13_done_24 2 rfl ?_
      refine v_iconst C dX13_done_25 ci_1 ?_
      refine g_ial C dX13_done_26 (fun y6 hy6 => ?_)
      refine v_aload_n C dX13_done_27 2 rfl ?_
      refine v_iconst C dX13_done_28 ci_2 ?_
      refine g_ial C dX13_done_29 (fun y7 hy7 => ?_)
      refine g_callV_ri C (As := [.int y5, .int y6, .int y7]) (st := []) lk_X13_13 dX13_done_30 rfl (Nat.le_of_ble_eq_true rfl) (Nat.le_of_ble_eq_true rfl) (Nat.le_of_ble_eq_true rfl) cls_2.1 rfl (fun _ z => rc_X2_mayConnect z) (fun _ z => met_X2_mayConnect hO S x1 y5 y6 y7 z) (fun r8 hr8 => ?_)
      refine v_if_eq C (tgt := 53) dX13_done_33 rfl (fun _ => ?_) (fun _ => ?_)
      · exact v_sub [1, 2] rfl (w_X13_done_53 hO C hm S)
      · refine v_aload_n C dX13_done_36 1 rfl ?_
        refine v_aload_n C dX13_done_37 2 rfl ?_
        refine v_iconst C dX13_done_38 ci_0 ?_
        refine g_ial C dX13_done_39 (fun y9 hy9 => ?_)
        refine v_aload_n C dX13_done_40 2 rfl ?_
        refine v_iconst C dX13_done_41 ci_1 ?_
        refine g_ial C dX13_done_42 (fun y10 hy10 => ?_)
        refine g_callV_ri C (As := [.int y9, .int y10]) (st := []) lk_X13_17 dX13_done_43 rfl (Nat.le_of_ble_eq_true rfl) (Nat.le_of_ble_eq_true rfl) (Nat.le_of_ble_eq_true rfl) cls_2.1 rfl (fun _ z => rc_X2_hasRoomFor z) (fun _ z => met_X2_hasRoomFor hO F S x1 y9 y10 z) (fun r11 hr11 => ?_)
        refine v_if_eq C (tgt := 53) dX13_done_46 rfl (fun _ => ?_) (fun _ => ?_)
        · exact v_sub [1, 2] rfl (w_X13_done_53 hO C hm S)
        · refine v_iconst C dX13_done_49 ci_1 ?_
          refine v_goto C (tgt := 54) dX13_done_50 rfl ?_
          exact v_sub [1, 2] rfl (w_X13_done_54 hO C hm 1 S)
theorem mono_X14_done {S : St} {x0 : Nat} {x1 : Nat} {x2 : Nat} {r : Option Nat × St} (h : C_X14_done S x0 x1 x2 = some r) : leG S r.2 := by
  have q : MF mf_p (C_X14_done S x0 x1 x2) S := by
    unfold C_X14_done
    refine mf_bind (fun y1 hy1 => ?_)
    refine mf_bind (fun r2 hr2 => ?_)
    refine mf_ite ?_ ?_
    · exact mf_ret leG.rf
    · refine mf_bind (fun y3 hy3 => ?_)
      refine mf_ite ?_ ?_
      · exact mf_ret leG.rf
      · refine mf_bind (fun y4 hy4 => ?_)
        refine mf_bind (fun y5 hy5 => ?_)
        refine mf_call (fun _ z => mono_X2_withWeight z) (fun r6 hr6 => ?_)
        exact mf_ret leG.rf
  exact q r h
theorem met_X14_done {P : GP} {l : Launch} (hO : okG P) (S : St) (x0 : Nat) (x1 : Nat) (x2 : Nat) {r : Option Nat × St} (h : C_X14_done S x0 x1 x2 = some r) : FMU l P yX14_done (ws_ yX14_done cX14_done 3 (some (.object "NetworkCenters$Network"))) 3 80 [.ref x0, .ref x1, .ref x2] S (f_mq r) := by
  refine FMU.of (own := RX14) (lv := [(0, .ref x0), (1, .ref x1), (2, .ref x2)]) (OG_ok P hO) pl_X14 rfl (Nat.le_of_ble_eq_true rfl) rfl h (mono_X14_done h).LE (fun X C hm => ?_)
  unfold C_X14_done
  refine v_aload_n C dX14_done_0 1 rfl ?_
  refine v_aload_n C dX14_done_1 2 rfl ?_
  refine v_iconst C dX14_done_2 ci_0 ?_
  refine g_ial C dX14_done_3 (fun y1 hy1 => ?_)
  refine g_callV_ri C (As := [.int y1]) (st := []) lk_X14_9 dX14_done_4 rfl (Nat.le_of_ble_eq_true rfl) (Nat.le_of_ble_eq_true rfl) (Nat.le_of_ble_eq_true rfl) cls_2.1 rfl (fun _ z => rc_X2_isNode z) (fun _ z => met_X2_isNode hO S x1 y1 z) (fun r2 hr2 => ?_)
  refine v_if_eq C (tgt := 31) dX14_done_7 rfl (fun _ => ?_) (fun _ => ?_)
  · refine g_null C dX14_done_31 ?_
    exact v_areturn C hm dX14_done_32 (Or.inl ⟨_, rfl⟩) (Or.inl rfl) rfl
  · refine v_aload_n C dX14_done_10 2 rfl ?_
    refine v_iconst C dX14_done_11 ci_1 ?_
    refine g_ial C dX14_done_12 (fun y3 hy3 => ?_)
    refine v_bipush C dX14_done_13 cb_9 ?_
    refine v_icmp_gt C (tgt := 31) dX14_done_15 rfl (fun _ => ?_) (fun _ => ?_)
    · refine g_null C dX14_done_31 ?_
      exact v_areturn C hm dX14_done_32 (Or.inl ⟨_, rfl⟩) (Or.inl rfl) rfl
    · refine v_aload_n C dX14_done_18 1 rfl ?_
      refine v_aload_n C dX14_done_19 2 rfl ?_
      refine v_iconst C dX14_done_20 ci_0 ?_
      refine g_ial C dX14_done_21 (fun y4 hy4 => ?_)
      refine v_aload_n C dX14_done_22 2 rfl ?_
      refine v_iconst C dX14_done_23 ci_1 ?_
      refine g_ial C dX14_done_24 (fun y5 hy5 => ?_)
      refine g_callV_ma C (As := [.int y4, .int y5]) (st := []) lk_X14_15 dX14_done_25 rfl (Nat.le_of_ble_eq_true rfl) (Nat.le_of_ble_eq_true rfl) (Nat.le_of_ble_eq_true rfl) cls_2.1 rfl (fun _ z => rc_X2_withWeight z) (fun _ z => met_X2_withWeight hO S x1 y4 y5 z) (fun r6 hr6 => ?_)
      refine v_goto C (tgt := 32) dX14_done_28 rfl ?_
      exact v_areturn C hm dX14_done_32 (Or.inl ⟨_, rfl⟩) (Or.inr ⟨_, rfl⟩) rfl
theorem mono_X15_done {S : St} {x0 : Nat} {x1 : Nat} {x2 : Nat} {r : Option Nat × St} (h : C_X15_done S x0 x1 x2 = some r) : leG S r.2 := by
  have q : MF mf_p (C_X15_done S x0 x1 x2) S := by
    unfold C_X15_done
    refine mf_bind (fun y1 hy1 => ?_)
    refine mf_bind (fun r2 hr2 => ?_)
    refine mf_ite ?_ ?_
    · exact mf_ret leG.rf
    · refine mf_bind (fun y3 hy3 => ?_)
      refine mf_ite ?_ ?_
      · exact mf_ret leG.rf
      · refine mf_bind (fun y4 hy4 => ?_)
        refine mf_bind (fun y5 hy5 => ?_)
        refine mf_call (fun _ z => mono_X2_withTrend z) (fun r6 hr6 => ?_)
        exact mf_ret leG.rf
  exact q r h
theorem met_X15_done {P : GP} {l : Launch} (hO : okG P) (S : St) (x0 : Nat) (x1 : Nat) (x2 : Nat) {r : Option Nat × St} (h : C_X15_done S x0 x1 x2 = some r) : FMU l P yX15_done (ws_ yX15_done cX15_done 3 (some (.object "NetworkCenters$Network"))) 3 80 [.ref x0, .ref x1, .ref x2] S (f_mq r) := by
  refine FMU.of (own := RX15) (lv := [(0, .ref x0), (1, .ref x1), (2, .ref x2)]) (OG_ok P hO) pl_X15 rfl (Nat.le_of_ble_eq_true rfl) rfl h (mono_X15_done h).LE (fun X C hm => ?_)
  unfold C_X15_done
  refine v_aload_n C dX15_done_0 1 rfl ?_
  refine v_aload_n C dX15_done_1 2 rfl ?_
  refine v_iconst C dX15_done_2 ci_0 ?_
  refine g_ial C dX15_done_3 (fun y1 hy1 => ?_)
  refine g_callV_ri C (As := [.int y1]) (st := []) lk_X15_9 dX15_done_4 rfl (Nat.le_of_ble_eq_true rfl) (Nat.le_of_ble_eq_true rfl) (Nat.le_of_ble_eq_true rfl) cls_2.1 rfl (fun _ z => rc_X2_isNode z) (fun _ z => met_X2_isNode hO S x1 y1 z) (fun r2 hr2 => ?_)
  refine v_if_eq C (tgt := 31) dX15_done_7 rfl (fun _ => ?_) (fun _ => ?_)
  · refine g_null C dX15_done_31 ?_
    exact v_areturn C hm dX15_done_32 (Or.inl ⟨_, rfl⟩) (Or.inl rfl) rfl
  · refine v_aload_n C dX15_done_10 2 rfl ?_
    refine v_iconst C dX15_done_11 ci_1 ?_
    refine g_ial C dX15_done_12 (fun y3 hy3 => ?_)
    refine v_bipush C dX15_done_13 cb_9 ?_
    refine v_icmp_gt C (tgt := 31) dX15_done_15 rfl (fun _ => ?_) (fun _ => ?_)
    · refine g_null C dX15_done_31 ?_
      exact v_areturn C hm dX15_done_32 (Or.inl ⟨_, rfl⟩) (Or.inl rfl) rfl
    · refine v_aload_n C dX15_done_18 1 rfl ?_
      refine v_aload_n C dX15_done_19 2 rfl ?_
      refine v_iconst C dX15_done_20 ci_0 ?_
      refine g_ial C dX15_done_21 (fun y4 hy4 => ?_)
      refine v_aload_n C dX15_done_22 2 rfl ?_
      refine v_iconst C dX15_done_23 ci_1 ?_
      refine g_ial C dX15_done_24 (fun y5 hy5 => ?_)
      refine g_callV_ma C (As := [.int y4, .int y5]) (st := []) lk_X15_15 dX15_done_25 rfl (Nat.le_of_ble_eq_true rfl) (Nat.le_of_ble_eq_true rfl) (Nat.le_of_ble_eq_true rfl) cls_2.1 rfl (fun _ z => rc_X2_withTrend z) (fun _ z => met_X2_withTrend hO S x1 y4 y5 z) (fun r6 hr6 => ?_)
      refine v_goto C (tgt := 32) dX15_done_28 rfl ?_
      exact v_areturn C hm dX15_done_32 (Or.inl ⟨_, rfl⟩) (Or.inr ⟨_, rfl⟩) rfl
