/-! THE MODEL's WALKS (by program) -/
set_option maxRecDepth 100000
set_option maxHeartbeats 4000000
theorem cb_6 : (Int8.ofInt (6)).toInt32 = 6 := by decide
theorem cb_8 : (Int8.ofInt (8)).toInt32 = 8 := by decide
theorem cb_9 : (Int8.ofInt (9)).toInt32 = 9 := by decide
theorem cb_10 : (Int8.ofInt (10)).toInt32 = 10 := by decide
theorem cb_12 : (Int8.ofInt (12)).toInt32 = 12 := by decide
theorem cb_17 : (Int8.ofInt (17)).toInt32 = 17 := by decide
theorem cb_18 : (Int8.ofInt (18)).toInt32 = 18 := by decide
theorem cb_32 : (Int8.ofInt (32)).toInt32 = 32 := by decide
theorem cb_45 : (Int8.ofInt (45)).toInt32 = 45 := by decide
theorem cb_48 : (Int8.ofInt (48)).toInt32 = 48 := by decide
theorem cb_50 : (Int8.ofInt (50)).toInt32 = 50 := by decide
theorem cb_54 : (Int8.ofInt (54)).toInt32 = 54 := by decide
theorem cb_55 : (Int8.ofInt (55)).toInt32 = 55 := by decide
theorem cb_57 : (Int8.ofInt (57)).toInt32 = 57 := by decide
theorem cb_58 : (Int8.ofInt (58)).toInt32 = 58 := by decide
theorem cb_59 : (Int8.ofInt (59)).toInt32 = 59 := by decide
theorem cb_61 : (Int8.ofInt (61)).toInt32 = 61 := by decide
theorem cb_64 : (Int8.ofInt (64)).toInt32 = 64 := by decide
theorem cb_73 : (Int8.ofInt (73)).toInt32 = 73 := by decide
theorem cb_118 : (Int8.ofInt (118)).toInt32 = 118 := by decide
theorem cb_119 : (Int8.ofInt (119)).toInt32 = 119 := by decide
theorem cb_120 : (Int8.ofInt (120)).toInt32 = 120 := by decide
theorem cb_126 : (Int8.ofInt (126)).toInt32 = 126 := by decide
theorem ci_m1 : Int32.ofInt (-1) = -1 := by decide
theorem ci_0 : Int32.ofInt (0) = 0 := by decide
theorem ci_1 : Int32.ofInt (1) = 1 := by decide
theorem ci_2 : Int32.ofInt (2) = 2 := by decide
theorem ci_3 : Int32.ofInt (3) = 3 := by decide
theorem ci_4 : Int32.ofInt (4) = 4 := by decide
theorem ci_5 : Int32.ofInt (5) = 5 := by decide
theorem cl_0 : Int64.ofNat ((0 : Fin 2) : Nat) = 0 := by decide
theorem cl_1 : Int64.ofNat ((1 : Fin 2) : Nat) = 1 := by decide
theorem cs_365 : (Int16.ofInt (365)).toInt32 = 365 := by decide
theorem cs_1000 : (Int16.ofInt (1000)).toInt32 = 1000 := by decide
theorem pl_X4 : plainName RX4 = true := by decide
theorem ne_X4 : RX4 ≠ "java/lang/invoke/MethodHandle" ∧ RX4 ≠ "java/lang/invoke/VarHandle" := by decide +kernel
theorem lkX4_61 : LkV RX4 61 yX4_refused cX4_refused 2 (some .boolean) 1 := ⟨lw_V q2121 q2123 qs43 q115 q2124, ne_X4.1, ne_X4.2, by decide +kernel⟩
theorem lkX4_69 : LkS RX4 69 yX4_within cX4_within 3 (some .boolean) 3 := ⟨lw_S q2129 q2130 q115 q2131, ne_X4.1, ne_X4.2, by decide +kernel⟩
theorem lkX4_65 : LkV RX4 65 yX4_many cX4_many 1 (some .int) 0 := ⟨lw_V q2132 q2134 qs44 q115 q2135, ne_X4.1, ne_X4.2, by decide +kernel⟩
theorem lkX4_76 : LkV RX4 76 yX4_saves cX4_saves 2 none 0 := ⟨lw_V q2136 q2138 qs45 q115 q2139, ne_X4.1, ne_X4.2, by decide +kernel⟩
theorem lkX4_50 : LkV RX4 50 yX4_begins cX4_begins 3 none 1 := ⟨lw_V q2027 q2029 qs42 q115 q2030, ne_X4.1, ne_X4.2, by decide +kernel⟩
theorem lkX4_73 : LkV RX4 73 yX4_edgeMany cX4_edgeMany 1 (some .int) 0 := ⟨lw_V q2156 q2158 qs49 q115 q2159, ne_X4.1, ne_X4.2, by decide +kernel⟩
theorem lkX4_79 : LkV RX4 79 yX4_of cX4_of 3 (some .int) 2 := ⟨lw_V q2160 q2162 qs50 q115 q2163, ne_X4.1, ne_X4.2, by decide +kernel⟩
theorem lkX4_83 : LkV RX4 83 yX4_isNode cX4_isNode 2 (some .boolean) 1 := ⟨lw_V q2148 q2150 qs47 q115 q2151, ne_X4.1, ne_X4.2, by decide +kernel⟩
theorem lkX4_86 : LkV RX4 86 yX4_areJoined cX4_areJoined 5 (some .boolean) 2 := ⟨lw_V q2152 q2154 qs48 q115 q2155, ne_X4.1, ne_X4.2, by decide +kernel⟩
theorem lkX4_90 : LkV RX4 90 yX4_needConnect cX4_needConnect 4 (some .int) 3 := ⟨lw_V q2144 q2146 qs46 q115 q2147, ne_X4.1, ne_X4.2, by decide +kernel⟩
theorem lkX4_94 : LkV RX4 94 yX4_connects cX4_connects 5 (some .int) 3 := ⟨lw_V q2164 q2166 qs51 q115 q2167, ne_X4.1, ne_X4.2, by decide +kernel⟩
theorem lkX4_97 : LkV RX4 97 yX4_stretchMany cX4_stretchMany 1 (some .int) 0 := ⟨lw_V q2180 q2182 qs54 q115 q2183, ne_X4.1, ne_X4.2, by decide +kernel⟩
theorem lkX4_100 : LkV RX4 100 yX4_at cX4_at 3 (some .int) 2 := ⟨lw_V q2184 q2186 qs55 q115 q2187, ne_X4.1, ne_X4.2, by decide +kernel⟩
theorem lkX4_103 : LkV RX4 103 yX4_dropsStretch cX4_dropsStretch 3 none 1 := ⟨lw_V q2188 q2190 qs56 q115 q2191, ne_X4.1, ne_X4.2, by decide +kernel⟩
theorem lkX4_106 : LkV RX4 106 yX4_isEdge cX4_isEdge 2 (some .boolean) 1 := ⟨lw_V q2172 q2174 qs52 q115 q2175, ne_X4.1, ne_X4.2, by decide +kernel⟩
theorem lkX4_109 : LkV RX4 109 yX4_dropsEdge cX4_dropsEdge 4 (some .int) 1 := ⟨lw_V q2176 q2178 qs53 q115 q2179, ne_X4.1, ne_X4.2, by decide +kernel⟩
theorem lkX4_113 : LkV RX4 113 yX4_needSet cX4_needSet 3 (some .int) 2 := ⟨lw_V q2196 q2198 qs57 q115 q2199, ne_X4.1, ne_X4.2, by decide +kernel⟩
theorem lkX4_116 : LkV RX4 116 yX4_needForbid cX4_needForbid 4 (some .int) 3 := ⟨lw_V q2208 q2210 qs58 q115 q2211, ne_X4.1, ne_X4.2, by decide +kernel⟩
theorem lkX4_119 : LkV RX4 119 yX4_forbids cX4_forbids 5 (some .int) 3 := ⟨lw_V q2212 q2214 qs59 q115 q2215, ne_X4.1, ne_X4.2, by decide +kernel⟩
theorem lkX4_133 : LkV RX4 133 yX4_lays cX4_lays 5 none 0 := ⟨lw_V q2232 q2234 qs62 q115 q2235, ne_X4.1, ne_X4.2, by decide +kernel⟩
theorem lkX4_122 : LkV RX4 122 yX4_isConnected cX4_isConnected 3 (some .boolean) 0 := ⟨lw_V q2228 q2230 qs61 q115 q2231, ne_X4.1, ne_X4.2, by decide +kernel⟩
theorem lkX4_126 : LkV RX4 126 yX4_counted cX4_counted 2 (some .int) 1 := ⟨lw_V q2224 q2226 qs60 q115 q2227, ne_X4.1, ne_X4.2, by decide +kernel⟩
theorem lkX4_129 : LkV RX4 129 yX4_nodeTold cX4_nodeTold 5 (some .int) 2 := ⟨lw_V q2245 q2247 qs63 q115 q2248, ne_X4.1, ne_X4.2, by decide +kernel⟩
theorem lkX4_136 : LkV RX4 136 yX4_areNodes cX4_areNodes 3 (some .boolean) 2 := ⟨lw_V q2257 q2259 qs64 q115 q2260, ne_X4.1, ne_X4.2, by decide +kernel⟩
theorem lkX4_143 : LkV RX4 143 yX4_rising cX4_rising 7 (some .long) 4 := ⟨lw_V q2281 q2283 qs67 q115 q2284, ne_X4.1, ne_X4.2, by decide +kernel⟩
theorem lkX4_147 : LkV RX4 147 yX4_falling cX4_falling 7 (some .long) 4 := ⟨lw_V q2285 q2287 qs68 q115 q2288, ne_X4.1, ne_X4.2, by decide +kernel⟩
theorem lkX4_139 : LkS RX4 139 yX4_divisor cX4_divisor 10 (some .long) 2 := ⟨lw_S q2292 q2293 q115 q2294, ne_X4.1, ne_X4.2, by decide +kernel⟩
theorem lkX4_150 : LkV RX4 150 yX4_isPoint cX4_isPoint 4 (some .boolean) 3 := ⟨lw_V q2273 q2275 qs65 q115 q2276, ne_X4.1, ne_X4.2, by decide +kernel⟩
theorem lkX4_153 : LkV RX4 153 yX4_away cX4_away 11 (some .long) 4 := ⟨lw_V q2277 q2279 qs66 q115 q2280, ne_X4.1, ne_X4.2, by decide +kernel⟩
theorem lkX4_156 : LkS RX4 156 yX4_reduced cX4_reduced 7 (some .int) 3 := ⟨lw_S q2289 q2290 q115 q2291, ne_X4.1, ne_X4.2, by decide +kernel⟩
theorem lkX4_160 : LkV RX4 160 yX4_mayLie cX4_mayLie 8 (some .boolean) 3 := ⟨lw_V q2299 q2301 qs69 q115 q2302, ne_X4.1, ne_X4.2, by decide +kernel⟩
theorem lkX4_164 : LkS RX4 164 yX4_has cX4_has 2 (some .boolean) 2 := ⟨lw_S q2319 q2320 q115 q2321, ne_X4.1, ne_X4.2, by decide +kernel⟩
theorem lkX4_167 : LkV RX4 167 yX4_isSet cX4_isSet 2 (some .boolean) 1 := ⟨lw_V q2307 q2309 qs70 q115 q2310, ne_X4.1, ne_X4.2, by decide +kernel⟩
theorem lkX4_170 : LkV RX4 170 yX4_weighs cX4_weighs 3 none 1 := ⟨lw_V q2311 q2313 qs71 q115 q2314, ne_X4.1, ne_X4.2, by decide +kernel⟩
theorem lkX4_173 : LkV RX4 173 yX4_heightAt cX4_heightAt 12 (some .long) 4 := ⟨lw_V q2315 q2317 qs72 q115 q2318, ne_X4.1, ne_X4.2, by decide +kernel⟩
theorem lkX4_176 : LkV RX4 176 yX4_costAt cX4_costAt 9 (some .long) 3 := ⟨lw_V q2326 q2328 qs73 q115 q2329, ne_X4.1, ne_X4.2, by decide +kernel⟩
theorem lkX4_185 : LkV RX4 185 yX4_crosses cX4_crosses 8 none 3 := ⟨lw_V q2342 q2344 qs76 q115 q2345, ne_X4.1, ne_X4.2, by decide +kernel⟩
theorem lkX4_191 : LkV RX4 191 yX4_line cX4_line 5 (some .long) 4 := ⟨lw_V q2348 q2350 qs77 q115 q2351, ne_X4.1, ne_X4.2, by decide +kernel⟩
theorem lkX4_216 : LkV RX4 216 yX4_isRight cX4_isRight 8 (some .boolean) 3 := ⟨lw_V q2360 q2362 qs80 q115 q2363, ne_X4.1, ne_X4.2, by decide +kernel⟩
theorem lkX4_220 : LkV RX4 220 yX4_slopeAt cX4_slopeAt 20 (some .long) 4 := ⟨lw_V q2364 q2366 qs81 q115 q2367, ne_X4.1, ne_X4.2, by decide +kernel⟩
theorem lkX4_224 : LkV RX4 224 yX4_isCorner cX4_isCorner 3 (some .boolean) 2 := ⟨lw_V q2356 q2358 qs79 q115 q2359, ne_X4.1, ne_X4.2, by decide +kernel⟩
theorem lkX4_208 : LkV RX4 208 yX4_laysCrossings cX4_laysCrossings 6 none 2 := ⟨lw_V q2338 q2340 qs75 q115 q2341, ne_X4.1, ne_X4.2, by decide +kernel⟩
theorem lkX4_227 : LkV RX4 227 yX4_nextCorner cX4_nextCorner 6 (some .int) 2 := ⟨lw_V q2352 q2354 qs78 q115 q2355, ne_X4.1, ne_X4.2, by decide +kernel⟩
theorem lkX4_230 : LkV RX4 230 yX4_cornerTold cX4_cornerTold 6 (some .int) 3 := ⟨lw_V q2334 q2336 qs74 q115 q2337, ne_X4.1, ne_X4.2, by decide +kernel⟩
theorem lkX4_212 : LkV RX4 212 yX4_tries cX4_tries 9 none 4 := ⟨lw_V q2384 q2386 qs85 q115 q2387, ne_X4.1, ne_X4.2, by decide +kernel⟩
theorem lkX4_233 : LkV RX4 233 yX4_canHave cX4_canHave 1 (some .boolean) 0 := ⟨lw_V q2376 q2378 qs83 q115 q2379, ne_X4.1, ne_X4.2, by decide +kernel⟩
theorem lkX4_236 : LkV RX4 236 yX4_centers cX4_centers 4 none 1 := ⟨lw_V q2380 q2382 qs84 q115 q2383, ne_X4.1, ne_X4.2, by decide +kernel⟩
theorem lkX4_239 : LkV RX4 239 yX4_refusedCenter cX4_refusedCenter 4 (some .boolean) 3 := ⟨lw_V q2372 q2374 qs82 q115 q2375, ne_X4.1, ne_X4.2, by decide +kernel⟩
theorem lkX4_242 : LkV RX4 242 yX4_centerTold cX4_centerTold 2 (some .int) 1 := ⟨lw_V q2392 q2394 qs86 q115 q2395, ne_X4.1, ne_X4.2, by decide +kernel⟩
theorem lkX4_245 : LkV RX4 245 yX4_criticalNow cX4_criticalNow 4 (some .int) 1 := ⟨lw_V q2400 q2402 qs87 q115 q2403, ne_X4.1, ne_X4.2, by decide +kernel⟩
theorem lkX4_248 : LkV RX4 248 yX4_medians cX4_medians 3 none 0 := ⟨lw_V q2408 q2410 qs88 q115 q2411, ne_X4.1, ne_X4.2, by decide +kernel⟩
theorem lkX4_251 : LkV RX4 251 yX4_medianTold cX4_medianTold 2 (some .int) 1 := ⟨lw_V q2412 q2414 qs89 q115 q2415, ne_X4.1, ne_X4.2, by decide +kernel⟩
theorem lkX4_254 : LkV RX4 254 yX4_laysRadii cX4_laysRadii 2 none 0 := ⟨lw_V q2424 q2426 qs91 q115 q2427, ne_X4.1, ne_X4.2, by decide +kernel⟩
theorem lkX4_257 : LkV RX4 257 yX4_laysTwo cX4_laysTwo 4 none 0 := ⟨lw_V q2428 q2430 qs92 q115 q2431, ne_X4.1, ne_X4.2, by decide +kernel⟩
theorem lkX4_266 : LkV RX4 266 yX4_laysBound cX4_laysBound 9 none 1 := ⟨lw_V q2420 q2422 qs90 q115 q2423, ne_X4.1, ne_X4.2, by decide +kernel⟩
theorem lkX4_269 : LkV RX4 269 yX4_isEnough cX4_isEnough 3 (some .boolean) 2 := ⟨lw_V q2440 q2442 qs94 q115 q2443, ne_X4.1, ne_X4.2, by decide +kernel⟩
theorem lkX4_272 : LkV RX4 272 yX4_groupTold cX4_groupTold 7 (some .int) 2 := ⟨lw_V q2436 q2438 qs93 q115 q2439, ne_X4.1, ne_X4.2, by decide +kernel⟩
theorem lkX4_281 : LkV RX4 281 yX4_looking cX4_looking 1 (some .int) 0 := ⟨lw_V q2476 q2478 qs96 q115 q2479, ne_X4.1, ne_X4.2, by decide +kernel⟩
theorem lkX4_287 : LkV RX4 287 yX4_isDigit cX4_isDigit 1 (some .boolean) 0 := ⟨lw_V q2484 q2486 qs98 q115 q2487, ne_X4.1, ne_X4.2, by decide +kernel⟩
theorem lkX4_290 : LkV RX4 290 yX4_fails cX4_fails 1 none 0 := ⟨lw_V q2488 q2490 qs99 q115 q2491, ne_X4.1, ne_X4.2, by decide +kernel⟩
theorem lkX4_296 : LkV RX4 296 yX4_number cX4_number 2 (some .int) 0 := ⟨lw_V q2480 q2482 qs97 q115 q2483, ne_X4.1, ne_X4.2, by decide +kernel⟩
theorem lkX4_299 : LkV RX4 299 yX4_sign cX4_sign 2 none 1 := ⟨lw_V q2492 q2494 qs100 q115 q2495, ne_X4.1, ne_X4.2, by decide +kernel⟩
theorem lkX4_302 : LkV RX4 302 yX4_isDone cX4_isDone 6 (some .boolean) 4 := ⟨lw_V q2496 q2498 qs101 q115 q2499, ne_X4.1, ne_X4.2, by decide +kernel⟩
theorem lkX4_306 : LkV RX4 306 yX4_goes cX4_goes 7 (some .int) 1 := ⟨lw_V q2472 q2474 qs95 q115 q2475, ne_X4.1, ne_X4.2, by decide +kernel⟩
theorem lkX4_315 : LkV RX4 315 yX4_mix cX4_mix 3 none 1 := ⟨lw_V q2509 q2511 qs102 q115 q2512, ne_X4.1, ne_X4.2, by decide +kernel⟩
theorem lkX4_321 : LkV RX4 321 yX4_mixCenters cX4_mixCenters 4 none 0 := ⟨lw_V q2514 q2516 qs103 q115 q2517, ne_X4.1, ne_X4.2, by decide +kernel⟩
theorem w_begins_30 {P : MP} {X : Ctx} {l : Launch} {S0 : MS} {F : Nat} (C : CX (OM P) X l cX4_begins 3 RX4 none) (hm : X.2.2.2.2.2.2.2.2.2 = none) {x1 : Int32} {x2 : Int32} (k2 : Int32 → MS → Option MS) (hk2 : ∀ (z2 : Int32) (τ : MS), VF (OM P) X 3 0 0 S0 f_mv (k2 z2 τ) τ 2 [(0, .ref (mad P 0)), (1, .int x1), (2, .int z2)] []) (s1 : Int32) (s2 : Int32) (σ : MS) : VF (OM P) X 3 0 0 S0 f_mv (M_begins_30 F k2 x1 x2 s1 s2 σ) σ 30 [(0, .ref (mad P 0)), (1, .int x1), (2, .int x2)] [.int s2, .int s1, .ref (mad P 1)] := by
  unfold M_begins_30
  refine ms_now C dX4_begins_30 (fun σ2 hσ2 => ?_)
  refine v_iincN C (lv' := fun y3 => [(2, .int y3), (0, .ref (mad P 0)), (1, .int x1)]) dX4_begins_31 2 rfl ci_1 (Nat.le_of_ble_eq_true rfl) (fun _ => rfl) (fun y3 hy3 => ?_)
  refine v_goto C (tgt := 2) dX4_begins_34 rfl ?_
  exact v_sub [1, 2, 0] rfl (hk2 y3 σ2)
theorem w_begins_29 {P : MP} {X : Ctx} {l : Launch} {S0 : MS} {F : Nat} (C : CX (OM P) X l cX4_begins 3 RX4 none) (hm : X.2.2.2.2.2.2.2.2.2 = none) {x1 : Int32} {x2 : Int32} (k2 : Int32 → MS → Option MS) (hk2 : ∀ (z2 : Int32) (τ : MS), VF (OM P) X 3 0 0 S0 f_mv (k2 z2 τ) τ 2 [(0, .ref (mad P 0)), (1, .int x1), (2, .int z2)] []) (s1 : Int32) (σ : MS) : VF (OM P) X 3 0 0 S0 f_mv (M_begins_29 F k2 x1 x2 s1 σ) σ 29 [(0, .ref (mad P 0)), (1, .int x1), (2, .int x2)] [.int s1, .ref (mad P 1)] := by
  unfold M_begins_29
  refine v_iconst C dX4_begins_29 ci_0 ?_
  exact v_sub [0, 1, 2] rfl (w_begins_30 C hm k2 hk2 s1 0 σ)
theorem w_begins_37 {P : MP} {X : Ctx} {l : Launch} {S0 : MS} {F : Nat} (C : CX (OM P) X l cX4_begins 3 RX4 none) (hm : X.2.2.2.2.2.2.2.2.2 = none) {x1 : Int32} (σ : MS) : VF (OM P) X 3 0 0 S0 f_mv (M_begins_37 F x1 σ) σ 37 [(0, .ref (mad P 0)), (1, .int x1)] [] := by
  unfold M_begins_37
  refine v_aload_n C dX4_begins_37 0 rfl ?_
  refine mg_now C dX4_begins_38 ?_
  refine v_iconst C dX4_begins_41 ci_0 ?_
  refine v_iload_n C dX4_begins_42 1 rfl ?_
  refine ms_now C dX4_begins_43 (fun σ1 hσ1 => ?_)
  exact v_vreturn C hm dX4_begins_44 rfl
theorem w_begins_2 {P : MP} {X : Ctx} {l : Launch} {S0 : MS} {F : Nat} (C : CX (OM P) X l cX4_begins 3 RX4 none) (hm : X.2.2.2.2.2.2.2.2.2 = none) {x1 : Int32}  : ∀ (n : Nat) (x2 : Int32) (σ : MS), VF (OM P) X 3 0 0 S0 f_mv (M_begins_2 F x1 n x2 σ) σ 2 [(0, .ref (mad P 0)), (1, .int x1), (2, .int x2)] [] := by
  intro n
  induction n with
  | zero => intro x2 σ; exact VF.none
  | succ n ih =>
    intro x2 σ
    unfold M_begins_2
    refine v_iload_n C dX4_begins_2 2 rfl ?_
    refine v_bipush C dX4_begins_3 cb_73 ?_
    refine v_icmp_ge C (tgt := 37) dX4_begins_5 rfl (fun _ => ?_) (fun _ => ?_)
    · exact v_sub [0, 1] rfl (w_begins_37 C hm σ)
    · refine v_aload_n C dX4_begins_8 0 rfl ?_
      refine mg_now C dX4_begins_9 ?_
      refine v_iload_n C dX4_begins_12 2 rfl ?_
      refine v_iload_n C dX4_begins_13 2 rfl ?_
      refine v_iconst C dX4_begins_14 ci_1 ?_
      refine v_icmp_lt C (tgt := 29) dX4_begins_15 rfl (fun _ => ?_) (fun _ => ?_)
      · exact v_sub [0, 1, 2] rfl (w_begins_29 C hm (M_begins_2 F x1 n) ih x2 σ)
      · refine v_iload_n C dX4_begins_18 2 rfl ?_
        refine v_iconst C dX4_begins_19 ci_1 ?_
        refine v_iload_n C dX4_begins_20 1 rfl ?_
        refine v_iadd C dX4_begins_21 ?_
        refine v_icmp_ge C (tgt := 29) dX4_begins_22 rfl (fun _ => ?_) (fun _ => ?_)
        · exact v_sub [0, 1, 2] rfl (w_begins_29 C hm (M_begins_2 F x1 n) ih x2 σ)
        · refine v_iconst C dX4_begins_25 ci_1 ?_
          refine v_goto C (tgt := 30) dX4_begins_26 rfl ?_
          exact v_sub [0, 1, 2] rfl (w_begins_30 C hm (M_begins_2 F x1 n) ih x2 1 σ)
theorem met_X4_begins {P : MP} {l : Launch} (F : Nat) (σ : MS) (x1 : Int32) {r : MS} (h : M_begins F σ x1 = some r) : FM l (OM P) yX4_begins (ws_ yX4_begins cX4_begins 3 none) 0 0 [.ref (mad P 0), .int x1] σ (f_mv r) := by
  refine FM.of (own := RX4) (lv := [(0, .ref (mad P 0)), (1, .int x1)]) (OM_ok P) pl_X4 rfl (Nat.le_of_ble_eq_true rfl) rfl h OM_le (fun X C hm => ?_)
  unfold M_begins
  refine v_iconst C dX4_begins_0 ci_0 ?_
  refine v_istore_n C (lv' := [(2, .int 0), (0, .ref (mad P 0)), (1, .int x1)]) dX4_begins_1 (Nat.le_of_ble_eq_true rfl) rfl ?_
  exact v_sub [1, 2, 0] rfl (w_begins_2 C hm F 0 σ)
theorem met_X4_thrown {P : MP} {l : Launch} (σ : MS) {r : Int32} (h : M_thrown σ = some r) : FM l (OM P) yX4_thrown (ws_ yX4_thrown cX4_thrown 1 (some .int)) 0 0 [.ref (mad P 0)] σ ((f_ri σ) r) := by
  refine FM.of (own := RX4) (lv := [(0, .ref (mad P 0))]) (OM_ok P) pl_X4 rfl (Nat.le_of_ble_eq_true rfl) rfl h OM_le (fun X C hm => ?_)
  unfold M_thrown
  refine v_aload_n C dX4_thrown_0 0 rfl ?_
  refine mg_refusal C dX4_thrown_1 ?_
  exact v_ireturn C hm dX4_thrown_4 rfl
theorem met_X4_refused {P : MP} {l : Launch} (σ : MS) (x1 : Int32) {r : Int32 × MS} (h : M_refused σ x1 = some r) : FM l (OM P) yX4_refused (ws_ yX4_refused cX4_refused 2 (some .boolean)) 0 0 [.ref (mad P 0), .int x1] σ (f_mi r) := by
  refine FM.of (own := RX4) (lv := [(0, .ref (mad P 0)), (1, .int x1)]) (OM_ok P) pl_X4 rfl (Nat.le_of_ble_eq_true rfl) rfl h OM_le (fun X C hm => ?_)
  unfold M_refused
  refine v_aload_n C dX4_refused_0 0 rfl ?_
  refine v_iload_n C dX4_refused_1 1 rfl ?_
  refine mp_refusal C dX4_refused_2 (fun σ1 hσ1 => ?_)
  refine v_iload_n C dX4_refused_5 1 rfl ?_
  refine v_if_le C (tgt := 13) dX4_refused_6 rfl (fun _ => ?_) (fun _ => ?_)
  · refine v_iconst C dX4_refused_13 ci_0 ?_
    exact v_zreturn C hm dX4_refused_14 (Or.inl rfl) rfl
  · refine v_iconst C dX4_refused_9 ci_1 ?_
    refine v_goto C (tgt := 14) dX4_refused_10 rfl ?_
    exact v_zreturn C hm dX4_refused_14 (Or.inr rfl) rfl
theorem w_undo_65 {P : MP} {X : Ctx} {l : Launch} {S0 : MS} {F : Nat} (C : CX (OM P) X l cX4_undo 2 RX4 (some .int)) (hm : X.2.2.2.2.2.2.2.2.2 = none) (σ : MS) : VF (OM P) X 2 1 21 S0 f_mi (M_undo_65 F σ) σ 65 [(0, .ref (mad P 0))] [] := by
  unfold M_undo_65
  refine v_aload_n C dX4_undo_65 0 rfl ?_
  refine mg_saved C dX4_undo_66 ?_
  exact v_ireturn C hm dX4_undo_69 rfl
theorem w_undo_33 {P : MP} {X : Ctx} {l : Launch} {S0 : MS} {F : Nat} (C : CX (OM P) X l cX4_undo 2 RX4 (some .int)) (hm : X.2.2.2.2.2.2.2.2.2 = none)   : ∀ (n : Nat) (x1 : Int32) (σ : MS), VF (OM P) X 2 1 21 S0 f_mi (M_undo_33 F n x1 σ) σ 33 [(0, .ref (mad P 0)), (1, .int x1)] [] := by
  intro n
  induction n with
  | zero => intro x1 σ; exact VF.none
  | succ n ih =>
    intro x1 σ
    unfold M_undo_33
    refine v_iload_n C dX4_undo_33 1 rfl ?_
    refine v_bipush C dX4_undo_34 cb_73 ?_
    refine v_icmp_ge C (tgt := 65) dX4_undo_36 rfl (fun _ => ?_) (fun _ => ?_)
    · exact v_sub [0] rfl (w_undo_65 C hm σ)
    · refine v_aload_n C dX4_undo_39 0 rfl ?_
      refine mg_now C dX4_undo_40 ?_
      refine v_iload_n C dX4_undo_43 1 rfl ?_
      refine v_aload_n C dX4_undo_44 0 rfl ?_
      refine mg_past C dX4_undo_45 ?_
      refine v_bipush C dX4_undo_48 cb_73 ?_
      refine v_aload_n C dX4_undo_50 0 rfl ?_
      refine mg_saved C dX4_undo_51 ?_
      refine v_imul C dX4_undo_54 ?_
      refine v_iload_n C dX4_undo_55 1 rfl ?_
      refine v_iadd C dX4_undo_56 ?_
      refine ml_past C dX4_undo_57 (fun y3 hy3 => ?_)
      refine ms_now C dX4_undo_58 (fun σ4 hσ4 => ?_)
      refine v_iincN C (lv' := fun y5 => [(1, .int y5), (0, .ref (mad P 0))]) dX4_undo_59 1 rfl ci_1 (Nat.le_of_ble_eq_true rfl) (fun _ => rfl) (fun y5 hy5 => ?_)
      refine v_goto C (tgt := 33) dX4_undo_62 rfl ?_
      exact v_sub [1, 0] rfl (ih y5 σ4)
theorem w_undo_13 {P : MP} {X : Ctx} {l : Launch} {S0 : MS} {F : Nat} (C : CX (OM P) X l cX4_undo 2 RX4 (some .int)) (hm : X.2.2.2.2.2.2.2.2.2 = none) (s1 : Int32) (σ : MS) : VF (OM P) X 2 1 21 S0 f_mi (M_undo_13 F s1 σ) σ 13 [(0, .ref (mad P 0))] [.int s1, .ref (mad P 0)] := by
  unfold M_undo_13
  refine v_callV_mi C (As := [.int s1]) (st := []) lkX4_61 dX4_undo_13 rfl (Nat.le_of_ble_eq_true rfl) (Nat.le_of_ble_eq_true rfl) (Nat.le_of_ble_eq_true rfl) (mRecv C) (fun _ z => met_X4_refused σ s1 z) (fun r1 hr1 => ?_)
  refine v_if_eq C (tgt := 21) dX4_undo_16 rfl (fun _ => ?_) (fun _ => ?_)
  · refine v_aload_n C dX4_undo_21 0 rfl ?_
    refine v_dup C dX4_undo_22 rfl ?_
    refine mg_saved C dX4_undo_23 ?_
    refine v_iconst C dX4_undo_26 ci_1 ?_
    refine v_isub C dX4_undo_27 ?_
    refine mp_saved C dX4_undo_28 (fun σ2 hσ2 => ?_)
    refine v_iconst C dX4_undo_31 ci_0 ?_
    refine v_istore_n C (lv' := [(1, .int 0), (0, .ref (mad P 0))]) dX4_undo_32 (Nat.le_of_ble_eq_true rfl) rfl ?_
    exact v_sub [1, 0] rfl (w_undo_33 C hm F 0 σ2)
  · refine v_iconst C dX4_undo_19 ci_0 ?_
    exact v_ireturn C hm dX4_undo_20 rfl
theorem met_X4_undo {P : MP} {l : Launch} (F : Nat) (σ : MS) {r : Int32 × MS} (h : M_undo F σ = some r) : FM l (OM P) yX4_undo (ws_ yX4_undo cX4_undo 2 (some .int)) 1 21 [.ref (mad P 0)] σ (f_mi r) := by
  refine FM.of (own := RX4) (lv := [(0, .ref (mad P 0))]) (OM_ok P) pl_X4 rfl (Nat.le_of_ble_eq_true rfl) rfl h OM_le (fun X C hm => ?_)
  unfold M_undo
  refine v_aload_n C dX4_undo_0 0 rfl ?_
  refine v_aload_n C dX4_undo_1 0 rfl ?_
  refine mg_saved C dX4_undo_2 ?_
  refine v_if_ne C (tgt := 12) dX4_undo_5 rfl (fun _ => ?_) (fun _ => ?_)
  · refine v_iconst C dX4_undo_8 ci_1 ?_
    refine v_goto C (tgt := 13) dX4_undo_9 rfl ?_
    exact v_sub [0] rfl (w_undo_13 C hm 1 σ)
  · refine v_iconst C dX4_undo_12 ci_0 ?_
    exact v_sub [0] rfl (w_undo_13 C hm 0 σ)
theorem met_X4_many {P : MP} {l : Launch} (σ : MS) {r : Int32} (h : M_many σ = some r) : FM l (OM P) yX4_many (ws_ yX4_many cX4_many 1 (some .int)) 0 0 [.ref (mad P 0)] σ ((f_ri σ) r) := by
  refine FM.of (own := RX4) (lv := [(0, .ref (mad P 0))]) (OM_ok P) pl_X4 rfl (Nat.le_of_ble_eq_true rfl) rfl h OM_le (fun X C hm => ?_)
  unfold M_many
  refine v_aload_n C dX4_many_0 0 rfl ?_
  refine mg_now C dX4_many_1 ?_
  refine v_iconst C dX4_many_4 ci_0 ?_
  refine ml_now C dX4_many_5 (fun y1 hy1 => ?_)
  exact v_ireturn C hm dX4_many_6 rfl
theorem w_saves_83 {P : MP} {X : Ctx} {l : Launch} {S0 : MS} {F : Nat} (C : CX (OM P) X l cX4_saves 2 RX4 none) (hm : X.2.2.2.2.2.2.2.2.2 = none) (σ : MS) : VF (OM P) X 2 0 0 S0 f_mv (M_saves_83 F σ) σ 83 [(0, .ref (mad P 0))] [] := by
  unfold M_saves_83
  refine v_aload_n C dX4_saves_83 0 rfl ?_
  refine v_dup C dX4_saves_84 rfl ?_
  refine mg_saved C dX4_saves_85 ?_
  refine v_iconst C dX4_saves_88 ci_1 ?_
  refine v_iadd C dX4_saves_89 ?_
  refine mp_saved C dX4_saves_90 (fun σ8 hσ8 => ?_)
  exact v_vreturn C hm dX4_saves_93 rfl
theorem w_saves_51 {P : MP} {X : Ctx} {l : Launch} {S0 : MS} {F : Nat} (C : CX (OM P) X l cX4_saves 2 RX4 none) (hm : X.2.2.2.2.2.2.2.2.2 = none)   : ∀ (n : Nat) (x1 : Int32) (σ : MS), VF (OM P) X 2 0 0 S0 f_mv (M_saves_51 F n x1 σ) σ 51 [(0, .ref (mad P 0)), (1, .int x1)] [] := by
  intro n
  induction n with
  | zero => intro x1 σ; exact VF.none
  | succ n ih =>
    intro x1 σ
    unfold M_saves_51
    refine v_iload_n C dX4_saves_51 1 rfl ?_
    refine v_bipush C dX4_saves_52 cb_73 ?_
    refine v_icmp_ge C (tgt := 83) dX4_saves_54 rfl (fun _ => ?_) (fun _ => ?_)
    · exact v_sub [0] rfl (w_saves_83 C hm σ)
    · refine v_aload_n C dX4_saves_57 0 rfl ?_
      refine mg_past C dX4_saves_58 ?_
      refine v_bipush C dX4_saves_61 cb_73 ?_
      refine v_aload_n C dX4_saves_63 0 rfl ?_
      refine mg_saved C dX4_saves_64 ?_
      refine v_imul C dX4_saves_67 ?_
      refine v_iload_n C dX4_saves_68 1 rfl ?_
      refine v_iadd C dX4_saves_69 ?_
      refine v_aload_n C dX4_saves_70 0 rfl ?_
      refine mg_now C dX4_saves_71 ?_
      refine v_iload_n C dX4_saves_74 1 rfl ?_
      refine ml_now C dX4_saves_75 (fun y5 hy5 => ?_)
      refine ms_past C dX4_saves_76 (fun σ6 hσ6 => ?_)
      refine v_iincN C (lv' := fun y7 => [(1, .int y7), (0, .ref (mad P 0))]) dX4_saves_77 1 rfl ci_1 (Nat.le_of_ble_eq_true rfl) (fun _ => rfl) (fun y7 hy7 => ?_)
      refine v_goto C (tgt := 51) dX4_saves_80 rfl ?_
      exact v_sub [1, 0] rfl (ih y7 σ6)
theorem w_saves_49 {P : MP} {X : Ctx} {l : Launch} {S0 : MS} {F : Nat} (C : CX (OM P) X l cX4_saves 2 RX4 none) (hm : X.2.2.2.2.2.2.2.2.2 = none) (σ : MS) : VF (OM P) X 2 0 0 S0 f_mv (M_saves_49 F σ) σ 49 [(0, .ref (mad P 0))] [] := by
  unfold M_saves_49
  refine v_iconst C dX4_saves_49 ci_0 ?_
  refine v_istore_n C (lv' := [(1, .int 0), (0, .ref (mad P 0))]) dX4_saves_50 (Nat.le_of_ble_eq_true rfl) rfl ?_
  exact v_sub [1, 0] rfl (w_saves_51 C hm F 0 σ)
theorem w_saves_39 {P : MP} {X : Ctx} {l : Launch} {S0 : MS} {F : Nat} (C : CX (OM P) X l cX4_saves 2 RX4 none) (hm : X.2.2.2.2.2.2.2.2.2 = none) (σ : MS) : VF (OM P) X 2 0 0 S0 f_mv (M_saves_39 F σ) σ 39 [(0, .ref (mad P 0))] [] := by
  unfold M_saves_39
  refine v_aload_n C dX4_saves_39 0 rfl ?_
  refine v_dup C dX4_saves_40 rfl ?_
  refine mg_saved C dX4_saves_41 ?_
  refine v_iconst C dX4_saves_44 ci_1 ?_
  refine v_isub C dX4_saves_45 ?_
  refine mp_saved C dX4_saves_46 (fun σ4 hσ4 => ?_)
  exact v_sub [0] rfl (w_saves_49 C hm σ4)
theorem w_saves_11 {P : MP} {X : Ctx} {l : Launch} {S0 : MS} {F : Nat} (C : CX (OM P) X l cX4_saves 2 RX4 none) (hm : X.2.2.2.2.2.2.2.2.2 = none)   : ∀ (n : Nat) (x1 : Int32) (σ : MS), VF (OM P) X 2 0 0 S0 f_mv (M_saves_11 F n x1 σ) σ 11 [(0, .ref (mad P 0)), (1, .int x1)] [] := by
  intro n
  induction n with
  | zero => intro x1 σ; exact VF.none
  | succ n ih =>
    intro x1 σ
    unfold M_saves_11
    refine v_iload_n C dX4_saves_11 1 rfl ?_
    refine v_sipush C dX4_saves_12 cs_365 ?_
    refine v_icmp_ge C (tgt := 39) dX4_saves_15 rfl (fun _ => ?_) (fun _ => ?_)
    · exact v_sub [0] rfl (w_saves_39 C hm σ)
    · refine v_aload_n C dX4_saves_18 0 rfl ?_
      refine mg_past C dX4_saves_19 ?_
      refine v_iload_n C dX4_saves_22 1 rfl ?_
      refine v_aload_n C dX4_saves_23 0 rfl ?_
      refine mg_past C dX4_saves_24 ?_
      refine v_iload_n C dX4_saves_27 1 rfl ?_
      refine v_bipush C dX4_saves_28 cb_73 ?_
      refine v_iadd C dX4_saves_30 ?_
      refine ml_past C dX4_saves_31 (fun y1 hy1 => ?_)
      refine ms_past C dX4_saves_32 (fun σ2 hσ2 => ?_)
      refine v_iincN C (lv' := fun y3 => [(1, .int y3), (0, .ref (mad P 0))]) dX4_saves_33 1 rfl ci_1 (Nat.le_of_ble_eq_true rfl) (fun _ => rfl) (fun y3 hy3 => ?_)
      refine v_goto C (tgt := 11) dX4_saves_36 rfl ?_
      exact v_sub [1, 0] rfl (ih y3 σ2)
theorem met_X4_saves {P : MP} {l : Launch} (F : Nat) (σ : MS) {r : MS} (h : M_saves F σ = some r) : FM l (OM P) yX4_saves (ws_ yX4_saves cX4_saves 2 none) 0 0 [.ref (mad P 0)] σ (f_mv r) := by
  refine FM.of (own := RX4) (lv := [(0, .ref (mad P 0))]) (OM_ok P) pl_X4 rfl (Nat.le_of_ble_eq_true rfl) rfl h OM_le (fun X C hm => ?_)
  unfold M_saves
  refine v_aload_n C dX4_saves_0 0 rfl ?_
  refine mg_saved C dX4_saves_1 ?_
  refine v_bipush C dX4_saves_4 cb_6 ?_
  refine v_icmp_ne C (tgt := 49) dX4_saves_6 rfl (fun _ => ?_) (fun _ => ?_)
  · refine v_iconst C dX4_saves_9 ci_0 ?_
    refine v_istore_n C (lv' := [(1, .int 0), (0, .ref (mad P 0))]) dX4_saves_10 (Nat.le_of_ble_eq_true rfl) rfl ?_
    exact v_sub [1, 0] rfl (w_saves_11 C hm F 0 σ)
  · exact v_sub [0] rfl (w_saves_49 C hm σ)
theorem met_X4_within {P : MP} {l : Launch} (σ : MS) (x0 : Int32) (x1 : Int32) (x2 : Int32) {r : Int32} (h : M_within x0 x1 x2 = some r) : FM l (OM P) yX4_within (ws_ yX4_within cX4_within 3 (some .boolean)) 0 0 [.int x0, .int x1, .int x2] σ ((f_ri σ) r) := by
  refine FM.of (own := RX4) (lv := [(0, .int x0), (1, .int x1), (2, .int x2)]) (OM_ok P) pl_X4 rfl (Nat.le_of_ble_eq_true rfl) rfl h OM_le (fun X C hm => ?_)
  unfold M_within
  refine v_iload_n C dX4_within_0 0 rfl ?_
  refine v_iload_n C dX4_within_1 1 rfl ?_
  refine v_icmp_lt C (tgt := 14) dX4_within_2 rfl (fun _ => ?_) (fun _ => ?_)
  · refine v_iconst C dX4_within_14 ci_0 ?_
    exact v_zreturn C hm dX4_within_15 (Or.inl rfl) rfl
  · refine v_iload_n C dX4_within_5 0 rfl ?_
    refine v_iload_n C dX4_within_6 2 rfl ?_
    refine v_icmp_gt C (tgt := 14) dX4_within_7 rfl (fun _ => ?_) (fun _ => ?_)
    · refine v_iconst C dX4_within_14 ci_0 ?_
      exact v_zreturn C hm dX4_within_15 (Or.inl rfl) rfl
    · refine v_iconst C dX4_within_10 ci_1 ?_
      refine v_goto C (tgt := 15) dX4_within_11 rfl ?_
      exact v_zreturn C hm dX4_within_15 (Or.inr rfl) rfl
theorem w_reset_16 {P : MP} {X : Ctx} {l : Launch} {S0 : MS} {F : Nat} (C : CX (OM P) X l cX4_reset 3 RX4 (some .int)) (hm : X.2.2.2.2.2.2.2.2.2 = none) {x1 : Int32} (s1 : Int32) (σ : MS) : VF (OM P) X 3 1 22 S0 f_mi (M_reset_16 F x1 s1 σ) σ 16 [(0, .ref (mad P 0)), (1, .int x1)] [.int s1, .ref (mad P 0)] := by
  unfold M_reset_16
  refine v_callV_mi C (As := [.int s1]) (st := []) lkX4_61 dX4_reset_16 rfl (Nat.le_of_ble_eq_true rfl) (Nat.le_of_ble_eq_true rfl) (Nat.le_of_ble_eq_true rfl) (mRecv C) (fun _ z => met_X4_refused σ s1 z) (fun r2 hr2 => ?_)
  refine v_if_eq C (tgt := 24) dX4_reset_19 rfl (fun _ => ?_) (fun _ => ?_)
  · refine v_aload_n C dX4_reset_24 0 rfl ?_
    refine v_callV_ri C (As := []) (st := []) lkX4_65 dX4_reset_25 rfl (Nat.le_of_ble_eq_true rfl) (Nat.le_of_ble_eq_true rfl) (Nat.le_of_ble_eq_true rfl) (mRecv C) (fun _ z => met_X4_many r2.2 z) (fun r3 hr3 => ?_)
    refine v_istore_n C (lv' := [(2, .int r3), (0, .ref (mad P 0)), (1, .int x1)]) dX4_reset_28 (Nat.le_of_ble_eq_true rfl) rfl ?_
    refine v_aload_n C dX4_reset_29 1 rfl ?_
    refine v_callV_mv C (As := []) (st := []) lkX4_76 dX4_reset_30 rfl (Nat.le_of_ble_eq_true rfl) (Nat.le_of_ble_eq_true rfl) (Nat.le_of_ble_eq_true rfl) (mRecv C) (fun _ z => met_X4_saves F r2.2 z) (fun r4 hr4 => ?_)
    refine v_aload_n C dX4_reset_33 1 rfl ?_
    refine v_iload_n C dX4_reset_34 2 rfl ?_
    refine v_callV_mv C (As := [.int x1]) (st := []) lkX4_50 dX4_reset_35 rfl (Nat.le_of_ble_eq_true rfl) (Nat.le_of_ble_eq_true rfl) (Nat.le_of_ble_eq_true rfl) (mRecv C) (fun _ z => met_X4_begins F r4 x1 z) (fun r5 hr5 => ?_)
    refine v_iload_n C dX4_reset_38 0 rfl ?_
    exact v_ireturn C hm dX4_reset_39 rfl
  · refine v_iconst C dX4_reset_22 ci_0 ?_
    exact v_ireturn C hm dX4_reset_23 rfl
theorem met_X4_reset {P : MP} {l : Launch} (F : Nat) (σ : MS) (x1 : Int32) {r : Int32 × MS} (h : M_reset F σ x1 = some r) : FM l (OM P) yX4_reset (ws_ yX4_reset cX4_reset 3 (some .int)) 1 22 [.ref (mad P 0), .int x1] σ (f_mi r) := by
  refine FM.of (own := RX4) (lv := [(0, .ref (mad P 0)), (1, .int x1)]) (OM_ok P) pl_X4 rfl (Nat.le_of_ble_eq_true rfl) rfl h OM_le (fun X C hm => ?_)
  unfold M_reset
  refine v_aload_n C dX4_reset_0 0 rfl ?_
  refine v_iload_n C dX4_reset_1 1 rfl ?_
  refine v_iconst C dX4_reset_2 ci_1 ?_
  refine v_bipush C dX4_reset_3 cb_8 ?_
  refine v_callS_ri C (As := [.int x1, .int 1, .int 8]) (st := [.ref (mad P 0)]) lkX4_69 dX4_reset_5 rfl (Nat.le_of_ble_eq_true rfl) (Nat.le_of_ble_eq_true rfl) (Nat.le_of_ble_eq_true rfl) (fun _ z => met_X4_within σ x1 1 8 z) (fun r1 hr1 => ?_)
  refine v_if_eq C (tgt := 15) dX4_reset_8 rfl (fun _ => ?_) (fun _ => ?_)
  · refine v_iconst C dX4_reset_15 ci_1 ?_
    exact v_sub [0, 1] rfl (w_reset_16 C hm 1 σ)
  · refine v_iconst C dX4_reset_11 ci_0 ?_
    refine v_goto C (tgt := 16) dX4_reset_12 rfl ?_
    exact v_sub [0, 1] rfl (w_reset_16 C hm 0 σ)
theorem met_X4_edgeMany {P : MP} {l : Launch} (σ : MS) {r : Int32} (h : M_edgeMany σ = some r) : FM l (OM P) yX4_edgeMany (ws_ yX4_edgeMany cX4_edgeMany 1 (some .int)) 0 0 [.ref (mad P 0)] σ ((f_ri σ) r) := by
  refine FM.of (own := RX4) (lv := [(0, .ref (mad P 0))]) (OM_ok P) pl_X4 rfl (Nat.le_of_ble_eq_true rfl) rfl h OM_le (fun X C hm => ?_)
  unfold M_edgeMany
  refine v_aload_n C dX4_edgeMany_0 0 rfl ?_
  refine mg_now C dX4_edgeMany_1 ?_
  refine v_bipush C dX4_edgeMany_4 cb_17 ?_
  refine ml_now C dX4_edgeMany_6 (fun y1 hy1 => ?_)
  exact v_ireturn C hm dX4_edgeMany_7 rfl
theorem met_X4_connects {P : MP} {l : Launch} (σ : MS) (x1 : Int32) (x2 : Int32) (x3 : Int32) {r : Int32 × MS} (h : M_connects σ x1 x2 x3 = some r) : FM l (OM P) yX4_connects (ws_ yX4_connects cX4_connects 5 (some .int)) 1 20 [.ref (mad P 0), .int x1, .int x2, .int x3] σ (f_mi r) := by
  refine FM.of (own := RX4) (lv := [(0, .ref (mad P 0)), (1, .int x1), (2, .int x2), (3, .int x3)]) (OM_ok P) pl_X4 rfl (Nat.le_of_ble_eq_true rfl) rfl h OM_le (fun X C hm => ?_)
  unfold M_connects
  refine v_aload_n C dX4_connects_0 0 rfl ?_
  refine v_callV_ri C (As := []) (st := []) lkX4_73 dX4_connects_1 rfl (Nat.le_of_ble_eq_true rfl) (Nat.le_of_ble_eq_true rfl) (Nat.le_of_ble_eq_true rfl) (mRecv C) (fun _ z => met_X4_edgeMany σ z) (fun r1 hr1 => ?_)
  refine v_istore C (lv' := [(4, .int r1), (0, .ref (mad P 0)), (1, .int x1), (2, .int x2), (3, .int x3)]) dX4_connects_4 (Nat.le_of_ble_eq_true rfl) rfl ?_
  refine v_aload_n C dX4_connects_6 1 rfl ?_
  refine mg_now C dX4_connects_7 ?_
  refine v_bipush C dX4_connects_10 cb_18 ?_
  refine v_iconst C dX4_connects_12 ci_3 ?_
  refine v_iload C dX4_connects_13 0 rfl ?_
  refine v_imul C dX4_connects_15 ?_
  refine v_iadd C dX4_connects_16 ?_
  refine v_iload_n C dX4_connects_17 2 rfl ?_
  refine ms_now C dX4_connects_18 (fun σ2 hσ2 => ?_)
  refine v_aload_n C dX4_connects_19 1 rfl ?_
  refine mg_now C dX4_connects_20 ?_
  refine v_bipush C dX4_connects_23 cb_18 ?_
  refine v_iconst C dX4_connects_25 ci_3 ?_
  refine v_iload C dX4_connects_26 0 rfl ?_
  refine v_imul C dX4_connects_28 ?_
  refine v_iadd C dX4_connects_29 ?_
  refine v_iconst C dX4_connects_30 ci_1 ?_
  refine v_iadd C dX4_connects_31 ?_
  refine v_iload_n C dX4_connects_32 3 rfl ?_
  refine ms_now C dX4_connects_33 (fun σ3 hσ3 => ?_)
  refine v_aload_n C dX4_connects_34 1 rfl ?_
  refine mg_now C dX4_connects_35 ?_
  refine v_bipush C dX4_connects_38 cb_18 ?_
  refine v_iconst C dX4_connects_40 ci_3 ?_
  refine v_iload C dX4_connects_41 0 rfl ?_
  refine v_imul C dX4_connects_43 ?_
  refine v_iadd C dX4_connects_44 ?_
  refine v_iconst C dX4_connects_45 ci_2 ?_
  refine v_iadd C dX4_connects_46 ?_
  refine v_iload_n C dX4_connects_47 4 rfl ?_
  refine ms_now C dX4_connects_48 (fun σ4 hσ4 => ?_)
  refine v_aload_n C dX4_connects_49 1 rfl ?_
  refine mg_now C dX4_connects_50 ?_
  refine v_bipush C dX4_connects_53 cb_17 ?_
  refine v_dup2_11 C dX4_connects_55 rfl rfl ?_
  refine ml_now C dX4_connects_56 (fun y5 hy5 => ?_)
  refine v_iconst C dX4_connects_57 ci_1 ?_
  refine v_iadd C dX4_connects_58 ?_
  refine ms_now C dX4_connects_59 (fun σ6 hσ6 => ?_)
  refine v_iload C dX4_connects_60 0 rfl ?_
  exact v_ireturn C hm dX4_connects_62 rfl
theorem met_X4_of {P : MP} {l : Launch} (σ : MS) (x1 : Int32) (x2 : Int32) {r : Int32} (h : M_of σ x1 x2 = some r) : FM l (OM P) yX4_of (ws_ yX4_of cX4_of 3 (some .int)) 0 0 [.ref (mad P 0), .int x1, .int x2] σ ((f_ri σ) r) := by
  refine FM.of (own := RX4) (lv := [(0, .ref (mad P 0)), (1, .int x1), (2, .int x2)]) (OM_ok P) pl_X4 rfl (Nat.le_of_ble_eq_true rfl) rfl h OM_le (fun X C hm => ?_)
  unfold M_of
  refine v_aload_n C dX4_of_0 0 rfl ?_
  refine mg_now C dX4_of_1 ?_
  refine v_bipush C dX4_of_4 cb_18 ?_
  refine v_iconst C dX4_of_6 ci_3 ?_
  refine v_iload_n C dX4_of_7 1 rfl ?_
  refine v_imul C dX4_of_8 ?_
  refine v_iadd C dX4_of_9 ?_
  refine v_iload_n C dX4_of_10 2 rfl ?_
  refine v_iadd C dX4_of_11 ?_
  refine ml_now C dX4_of_12 (fun y1 hy1 => ?_)
  exact v_ireturn C hm dX4_of_13 rfl
theorem w_areJoined_67 {P : MP} {X : Ctx} {l : Launch} {F : Nat} {σ : MS} (C : CX (OM P) X l cX4_areJoined 5 RX4 (some .boolean)) (hm : X.2.2.2.2.2.2.2.2.2 = none) {x1 : Int32} {x2 : Int32} {x4 : Int32} (k5 : Int32 → Int32 → Option Int32) (hk5 : ∀ (z3 : Int32) (z4 : Int32), VF (OM P) X 5 1 22 σ (f_ri σ) (k5 z3 z4) σ 5 [(0, .ref (mad P 0)), (1, .int x1), (2, .int x2), (3, .int z3), (4, .int z4)] []) (s0 : Int32) : VF (OM P) X 5 1 22 σ (f_ri σ) (M_areJoined_67 F k5 σ x1 x2 x4 s0) σ 67 [(0, .ref (mad P 0)), (1, .int x1), (2, .int x2), (4, .int x4)] [.int s0] := by
  unfold M_areJoined_67
  refine v_istore_n C (lv' := [(3, .int s0), (0, .ref (mad P 0)), (1, .int x1), (2, .int x2), (4, .int x4)]) dX4_areJoined_67 (Nat.le_of_ble_eq_true rfl) rfl ?_
  refine v_iincN C (lv' := fun y7 => [(4, .int y7), (3, .int s0), (0, .ref (mad P 0)), (1, .int x1), (2, .int x2)]) dX4_areJoined_68 4 rfl ci_1 (Nat.le_of_ble_eq_true rfl) (fun _ => rfl) (fun y7 hy7 => ?_)
  refine v_goto C (tgt := 5) dX4_areJoined_71 rfl ?_
  exact v_sub [2, 3, 4, 1, 0] rfl (hk5 s0 y7)
theorem w_areJoined_62 {P : MP} {X : Ctx} {l : Launch} {F : Nat} {σ : MS} (C : CX (OM P) X l cX4_areJoined 5 RX4 (some .boolean)) (hm : X.2.2.2.2.2.2.2.2.2 = none) {x1 : Int32} {x2 : Int32} {x4 : Int32} (k5 : Int32 → Int32 → Option Int32) (hk5 : ∀ (z3 : Int32) (z4 : Int32), VF (OM P) X 5 1 22 σ (f_ri σ) (k5 z3 z4) σ 5 [(0, .ref (mad P 0)), (1, .int x1), (2, .int x2), (3, .int z3), (4, .int z4)] []) : VF (OM P) X 5 1 22 σ (f_ri σ) (M_areJoined_62 F k5 σ x1 x2 x4) σ 62 [(0, .ref (mad P 0)), (1, .int x1), (2, .int x2), (4, .int x4)] [] := by
  unfold M_areJoined_62
  refine v_iconst C dX4_areJoined_62 ci_1 ?_
  refine v_goto C (tgt := 67) dX4_areJoined_63 rfl ?_
  exact v_sub [0, 1, 2, 3] rfl (w_areJoined_67 C hm k5 hk5 1)
theorem w_areJoined_66 {P : MP} {X : Ctx} {l : Launch} {F : Nat} {σ : MS} (C : CX (OM P) X l cX4_areJoined 5 RX4 (some .boolean)) (hm : X.2.2.2.2.2.2.2.2.2 = none) {x1 : Int32} {x2 : Int32} {x4 : Int32} (k5 : Int32 → Int32 → Option Int32) (hk5 : ∀ (z3 : Int32) (z4 : Int32), VF (OM P) X 5 1 22 σ (f_ri σ) (k5 z3 z4) σ 5 [(0, .ref (mad P 0)), (1, .int x1), (2, .int x2), (3, .int z3), (4, .int z4)] []) : VF (OM P) X 5 1 22 σ (f_ri σ) (M_areJoined_66 F k5 σ x1 x2 x4) σ 66 [(0, .ref (mad P 0)), (1, .int x1), (2, .int x2), (4, .int x4)] [] := by
  unfold M_areJoined_66
  refine v_iconst C dX4_areJoined_66 ci_0 ?_
  exact v_sub [0, 1, 2, 3] rfl (w_areJoined_67 C hm k5 hk5 0)
theorem w_areJoined_40 {P : MP} {X : Ctx} {l : Launch} {F : Nat} {σ : MS} (C : CX (OM P) X l cX4_areJoined 5 RX4 (some .boolean)) (hm : X.2.2.2.2.2.2.2.2.2 = none) {x1 : Int32} {x2 : Int32} {x4 : Int32} (k5 : Int32 → Int32 → Option Int32) (hk5 : ∀ (z3 : Int32) (z4 : Int32), VF (OM P) X 5 1 22 σ (f_ri σ) (k5 z3 z4) σ 5 [(0, .ref (mad P 0)), (1, .int x1), (2, .int x2), (3, .int z3), (4, .int z4)] []) : VF (OM P) X 5 1 22 σ (f_ri σ) (M_areJoined_40 F k5 σ x1 x2 x4) σ 40 [(0, .ref (mad P 0)), (1, .int x1), (2, .int x2), (4, .int x4)] [] := by
  unfold M_areJoined_40
  refine v_aload_n C dX4_areJoined_40 0 rfl ?_
  refine v_iload C dX4_areJoined_41 3 rfl ?_
  refine v_iconst C dX4_areJoined_43 ci_0 ?_
  refine v_callV_ri C (As := [.int x4, .int 0]) (st := []) lkX4_79 dX4_areJoined_44 rfl (Nat.le_of_ble_eq_true rfl) (Nat.le_of_ble_eq_true rfl) (Nat.le_of_ble_eq_true rfl) (mRecv C) (fun _ z => met_X4_of σ x4 0 z) (fun r5 hr5 => ?_)
  refine v_iload_n C dX4_areJoined_47 2 rfl ?_
  refine v_icmp_ne C (tgt := 66) dX4_areJoined_48 rfl (fun _ => ?_) (fun _ => ?_)
  · refine v_aload_n C dX4_areJoined_51 0 rfl ?_
    refine v_iload C dX4_areJoined_52 3 rfl ?_
    refine v_iconst C dX4_areJoined_54 ci_1 ?_
    refine v_callV_ri C (As := [.int x4, .int 1]) (st := []) lkX4_79 dX4_areJoined_55 rfl (Nat.le_of_ble_eq_true rfl) (Nat.le_of_ble_eq_true rfl) (Nat.le_of_ble_eq_true rfl) (mRecv C) (fun _ z => met_X4_of σ x4 1 z) (fun r6 hr6 => ?_)
    refine v_iload_n C dX4_areJoined_58 1 rfl ?_
    refine v_icmp_ne C (tgt := 66) dX4_areJoined_59 rfl (fun _ => ?_) (fun _ => ?_)
    · exact v_sub [0, 1, 2, 3] rfl (w_areJoined_62 C hm k5 hk5)
    · exact v_sub [0, 1, 2, 3] rfl (w_areJoined_66 C hm k5 hk5)
  · exact v_sub [0, 1, 2, 3] rfl (w_areJoined_66 C hm k5 hk5)
theorem w_areJoined_5 {P : MP} {X : Ctx} {l : Launch} {F : Nat} {σ : MS} (C : CX (OM P) X l cX4_areJoined 5 RX4 (some .boolean)) (hm : X.2.2.2.2.2.2.2.2.2 = none) {x1 : Int32} {x2 : Int32}  : ∀ (n : Nat) (x3 : Int32) (x4 : Int32), VF (OM P) X 5 1 22 σ (f_ri σ) (M_areJoined_5 F σ x1 x2 n x3 x4) σ 5 [(0, .ref (mad P 0)), (1, .int x1), (2, .int x2), (3, .int x3), (4, .int x4)] [] := by
  intro n
  induction n with
  | zero => intro x3 x4; exact VF.none
  | succ n ih =>
    intro x3 x4
    unfold M_areJoined_5
    refine v_iload C dX4_areJoined_5 4 rfl ?_
    refine v_aload_n C dX4_areJoined_7 0 rfl ?_
    refine v_callV_ri C (As := []) (st := [.int x4]) lkX4_73 dX4_areJoined_8 rfl (Nat.le_of_ble_eq_true rfl) (Nat.le_of_ble_eq_true rfl) (Nat.le_of_ble_eq_true rfl) (mRecv C) (fun _ z => met_X4_edgeMany σ z) (fun r1 hr1 => ?_)
    refine v_icmp_ge C (tgt := 74) dX4_areJoined_11 rfl (fun _ => ?_) (fun _ => ?_)
    · refine v_iload_n C dX4_areJoined_74 3 rfl ?_
      refine v_zz (fun b2 hb2 => ?_)
      exact v_zreturn C hm dX4_areJoined_75 hb2 rfl
    · refine v_iload_n C dX4_areJoined_14 3 rfl ?_
      refine v_if_ne C (tgt := 62) dX4_areJoined_15 rfl (fun _ => ?_) (fun _ => ?_)
      · refine v_aload_n C dX4_areJoined_18 0 rfl ?_
        refine v_iload C dX4_areJoined_19 4 rfl ?_
        refine v_iconst C dX4_areJoined_21 ci_0 ?_
        refine v_callV_ri C (As := [.int x4, .int 0]) (st := []) lkX4_79 dX4_areJoined_22 rfl (Nat.le_of_ble_eq_true rfl) (Nat.le_of_ble_eq_true rfl) (Nat.le_of_ble_eq_true rfl) (mRecv C) (fun _ z => met_X4_of σ x4 0 z) (fun r3 hr3 => ?_)
        refine v_iload_n C dX4_areJoined_25 1 rfl ?_
        refine v_icmp_ne C (tgt := 40) dX4_areJoined_26 rfl (fun _ => ?_) (fun _ => ?_)
        · refine v_aload_n C dX4_areJoined_29 0 rfl ?_
          refine v_iload C dX4_areJoined_30 4 rfl ?_
          refine v_iconst C dX4_areJoined_32 ci_1 ?_
          refine v_callV_ri C (As := [.int x4, .int 1]) (st := []) lkX4_79 dX4_areJoined_33 rfl (Nat.le_of_ble_eq_true rfl) (Nat.le_of_ble_eq_true rfl) (Nat.le_of_ble_eq_true rfl) (mRecv C) (fun _ z => met_X4_of σ x4 1 z) (fun r4 hr4 => ?_)
          refine v_iload_n C dX4_areJoined_36 2 rfl ?_
          refine v_icmp_eq C (tgt := 62) dX4_areJoined_37 rfl (fun _ => ?_) (fun _ => ?_)
          · exact v_sub [0, 1, 2, 4] rfl (w_areJoined_62 C hm (M_areJoined_5 F σ x1 x2 n) ih)
          · exact v_sub [0, 1, 2, 4] rfl (w_areJoined_40 C hm (M_areJoined_5 F σ x1 x2 n) ih)
        · exact v_sub [0, 1, 2, 4] rfl (w_areJoined_40 C hm (M_areJoined_5 F σ x1 x2 n) ih)
      · exact v_sub [0, 1, 2, 4] rfl (w_areJoined_62 C hm (M_areJoined_5 F σ x1 x2 n) ih)
theorem met_X4_areJoined {P : MP} {l : Launch} (F : Nat) (σ : MS) (x1 : Int32) (x2 : Int32) {r : Int32} (h : M_areJoined F σ x1 x2 = some r) : FM l (OM P) yX4_areJoined (ws_ yX4_areJoined cX4_areJoined 5 (some .boolean)) 1 22 [.ref (mad P 0), .int x1, .int x2] σ ((f_ri σ) r) := by
  refine FM.of (own := RX4) (lv := [(0, .ref (mad P 0)), (1, .int x1), (2, .int x2)]) (OM_ok P) pl_X4 rfl (Nat.le_of_ble_eq_true rfl) rfl h OM_le (fun X C hm => ?_)
  unfold M_areJoined
  refine v_iconst C dX4_areJoined_0 ci_0 ?_
  refine v_istore_n C (lv' := [(3, .int 0), (0, .ref (mad P 0)), (1, .int x1), (2, .int x2)]) dX4_areJoined_1 (Nat.le_of_ble_eq_true rfl) rfl ?_
  refine v_iconst C dX4_areJoined_2 ci_0 ?_
  refine v_istore C (lv' := [(4, .int 0), (3, .int 0), (0, .ref (mad P 0)), (1, .int x1), (2, .int x2)]) dX4_areJoined_3 (Nat.le_of_ble_eq_true rfl) rfl ?_
  exact v_sub [2, 3, 4, 1, 0] rfl (w_areJoined_5 C hm F 0 0)
theorem met_X4_isNode {P : MP} {l : Launch} (σ : MS) (x1 : Int32) {r : Int32} (h : M_isNode σ x1 = some r) : FM l (OM P) yX4_isNode (ws_ yX4_isNode cX4_isNode 2 (some .boolean)) 1 22 [.ref (mad P 0), .int x1] σ ((f_ri σ) r) := by
  refine FM.of (own := RX4) (lv := [(0, .ref (mad P 0)), (1, .int x1)]) (OM_ok P) pl_X4 rfl (Nat.le_of_ble_eq_true rfl) rfl h OM_le (fun X C hm => ?_)
  unfold M_isNode
  refine v_iload_n C dX4_isNode_0 1 rfl ?_
  refine v_iconst C dX4_isNode_1 ci_0 ?_
  refine v_aload_n C dX4_isNode_2 0 rfl ?_
  refine v_callV_ri C (As := []) (st := [.int 0, .int x1]) lkX4_65 dX4_isNode_3 rfl (Nat.le_of_ble_eq_true rfl) (Nat.le_of_ble_eq_true rfl) (Nat.le_of_ble_eq_true rfl) (mRecv C) (fun _ z => met_X4_many σ z) (fun r1 hr1 => ?_)
  refine v_iconst C dX4_isNode_6 ci_1 ?_
  refine v_isub C dX4_isNode_7 ?_
  refine v_callS_ri C (As := [.int x1, .int 0, .int (r1 - 1)]) (st := []) lkX4_69 dX4_isNode_8 rfl (Nat.le_of_ble_eq_true rfl) (Nat.le_of_ble_eq_true rfl) (Nat.le_of_ble_eq_true rfl) (fun _ z => met_X4_within σ x1 0 (r1 - 1) z) (fun r2 hr2 => ?_)
  refine v_zz (fun b3 hb3 => ?_)
  exact v_zreturn C hm dX4_isNode_11 hb3 rfl
theorem met_X4_needConnect {P : MP} {l : Launch} (F : Nat) (σ : MS) (x1 : Int32) (x2 : Int32) (x3 : Int32) {r : Int32} (h : M_needConnect F σ x1 x2 x3 = some r) : FM l (OM P) yX4_needConnect (ws_ yX4_needConnect cX4_needConnect 4 (some .int)) 2 46 [.ref (mad P 0), .int x1, .int x2, .int x3] σ ((f_ri σ) r) := by
  refine FM.of (own := RX4) (lv := [(0, .ref (mad P 0)), (1, .int x1), (2, .int x2), (3, .int x3)]) (OM_ok P) pl_X4 rfl (Nat.le_of_ble_eq_true rfl) rfl h OM_le (fun X C hm => ?_)
  unfold M_needConnect
  refine v_aload_n C dX4_needConnect_0 0 rfl ?_
  refine v_iload_n C dX4_needConnect_1 1 rfl ?_
  refine v_callV_ri C (As := [.int x1]) (st := []) lkX4_83 dX4_needConnect_2 rfl (Nat.le_of_ble_eq_true rfl) (Nat.le_of_ble_eq_true rfl) (Nat.le_of_ble_eq_true rfl) (mRecv C) (fun _ z => met_X4_isNode σ x1 z) (fun r1 hr1 => ?_)
  refine v_if_eq C (tgt := 16) dX4_needConnect_5 rfl (fun _ => ?_) (fun _ => ?_)
  · refine v_iconst C dX4_needConnect_16 ci_1 ?_
    exact v_ireturn C hm dX4_needConnect_17 rfl
  · refine v_aload_n C dX4_needConnect_8 0 rfl ?_
    refine v_iload_n C dX4_needConnect_9 2 rfl ?_
    refine v_callV_ri C (As := [.int x2]) (st := []) lkX4_83 dX4_needConnect_10 rfl (Nat.le_of_ble_eq_true rfl) (Nat.le_of_ble_eq_true rfl) (Nat.le_of_ble_eq_true rfl) (mRecv C) (fun _ z => met_X4_isNode σ x2 z) (fun r2 hr2 => ?_)
    refine v_if_ne C (tgt := 18) dX4_needConnect_13 rfl (fun _ => ?_) (fun _ => ?_)
    · refine v_iconst C dX4_needConnect_16 ci_1 ?_
      exact v_ireturn C hm dX4_needConnect_17 rfl
    · refine v_iload_n C dX4_needConnect_18 1 rfl ?_
      refine v_iload_n C dX4_needConnect_19 2 rfl ?_
      refine v_icmp_eq C (tgt := 33) dX4_needConnect_20 rfl (fun _ => ?_) (fun _ => ?_)
      · refine v_iconst C dX4_needConnect_33 ci_2 ?_
        exact v_ireturn C hm dX4_needConnect_34 rfl
      · refine v_iload_n C dX4_needConnect_23 3 rfl ?_
        refine v_iconst C dX4_needConnect_24 ci_1 ?_
        refine v_bipush C dX4_needConnect_25 cb_50 ?_
        refine v_callS_ri C (As := [.int x3, .int 1, .int 50]) (st := []) lkX4_69 dX4_needConnect_27 rfl (Nat.le_of_ble_eq_true rfl) (Nat.le_of_ble_eq_true rfl) (Nat.le_of_ble_eq_true rfl) (fun _ z => met_X4_within σ x3 1 50 z) (fun r3 hr3 => ?_)
        refine v_if_ne C (tgt := 35) dX4_needConnect_30 rfl (fun _ => ?_) (fun _ => ?_)
        · refine v_iconst C dX4_needConnect_33 ci_2 ?_
          exact v_ireturn C hm dX4_needConnect_34 rfl
        · refine v_aload_n C dX4_needConnect_35 0 rfl ?_
          refine v_iload_n C dX4_needConnect_36 1 rfl ?_
          refine v_iload_n C dX4_needConnect_37 2 rfl ?_
          refine v_callV_ri C (As := [.int x1, .int x2]) (st := []) lkX4_86 dX4_needConnect_38 rfl (Nat.le_of_ble_eq_true rfl) (Nat.le_of_ble_eq_true rfl) (Nat.le_of_ble_eq_true rfl) (mRecv C) (fun _ z => met_X4_areJoined F σ x1 x2 z) (fun r4 hr4 => ?_)
          refine v_if_ne C (tgt := 53) dX4_needConnect_41 rfl (fun _ => ?_) (fun _ => ?_)
          · refine v_aload_n C dX4_needConnect_44 0 rfl ?_
            refine v_callV_ri C (As := []) (st := []) lkX4_73 dX4_needConnect_45 rfl (Nat.le_of_ble_eq_true rfl) (Nat.le_of_ble_eq_true rfl) (Nat.le_of_ble_eq_true rfl) (mRecv C) (fun _ z => met_X4_edgeMany σ z) (fun r5 hr5 => ?_)
            refine v_bipush C dX4_needConnect_48 cb_12 ?_
            refine v_icmp_ne C (tgt := 57) dX4_needConnect_50 rfl (fun _ => ?_) (fun _ => ?_)
            · refine v_iconst C dX4_needConnect_53 ci_3 ?_
              refine v_goto C (tgt := 58) dX4_needConnect_54 rfl ?_
              exact v_ireturn C hm dX4_needConnect_58 rfl
            · refine v_iconst C dX4_needConnect_57 ci_0 ?_
              exact v_ireturn C hm dX4_needConnect_58 rfl
          · refine v_iconst C dX4_needConnect_53 ci_3 ?_
            refine v_goto C (tgt := 58) dX4_needConnect_54 rfl ?_
            exact v_ireturn C hm dX4_needConnect_58 rfl
theorem met_X4_connect {P : MP} {l : Launch} (F : Nat) (σ : MS) (x1 : Int32) (x2 : Int32) (x3 : Int32) {r : Int32 × MS} (h : M_connect F σ x1 x2 x3 = some r) : FM l (OM P) yX4_connect (ws_ yX4_connect cX4_connect 4 (some .int)) 3 69 [.ref (mad P 0), .int x1, .int x2, .int x3] σ (f_mi r) := by
  refine FM.of (own := RX4) (lv := [(0, .ref (mad P 0)), (1, .int x1), (2, .int x2), (3, .int x3)]) (OM_ok P) pl_X4 rfl (Nat.le_of_ble_eq_true rfl) rfl h OM_le (fun X C hm => ?_)
  unfold M_connect
  refine v_aload_n C dX4_connect_0 0 rfl ?_
  refine v_aload_n C dX4_connect_1 0 rfl ?_
  refine v_iload_n C dX4_connect_2 1 rfl ?_
  refine v_iload_n C dX4_connect_3 2 rfl ?_
  refine v_iload_n C dX4_connect_4 3 rfl ?_
  refine v_callV_ri C (As := [.int x1, .int x2, .int x3]) (st := [.ref (mad P 0)]) lkX4_90 dX4_connect_5 rfl (Nat.le_of_ble_eq_true rfl) (Nat.le_of_ble_eq_true rfl) (Nat.le_of_ble_eq_true rfl) (mRecv C) (fun _ z => met_X4_needConnect F σ x1 x2 x3 z) (fun r1 hr1 => ?_)
  refine v_callV_mi C (As := [.int r1]) (st := []) lkX4_61 dX4_connect_8 rfl (Nat.le_of_ble_eq_true rfl) (Nat.le_of_ble_eq_true rfl) (Nat.le_of_ble_eq_true rfl) (mRecv C) (fun _ z => met_X4_refused σ r1 z) (fun r2 hr2 => ?_)
  refine v_if_eq C (tgt := 16) dX4_connect_11 rfl (fun _ => ?_) (fun _ => ?_)
  · refine v_aload_n C dX4_connect_16 0 rfl ?_
    refine v_callV_mv C (As := []) (st := []) lkX4_76 dX4_connect_17 rfl (Nat.le_of_ble_eq_true rfl) (Nat.le_of_ble_eq_true rfl) (Nat.le_of_ble_eq_true rfl) (mRecv C) (fun _ z => met_X4_saves F r2.2 z) (fun r3 hr3 => ?_)
    refine v_aload_n C dX4_connect_20 0 rfl ?_
    refine v_iload_n C dX4_connect_21 1 rfl ?_
    refine v_iload_n C dX4_connect_22 2 rfl ?_
    refine v_iload_n C dX4_connect_23 3 rfl ?_
    refine v_callV_mi C (As := [.int x1, .int x2, .int x3]) (st := []) lkX4_94 dX4_connect_24 rfl (Nat.le_of_ble_eq_true rfl) (Nat.le_of_ble_eq_true rfl) (Nat.le_of_ble_eq_true rfl) (mRecv C) (fun _ z => met_X4_connects r3 x1 x2 x3 z) (fun r4 hr4 => ?_)
    exact v_ireturn C hm dX4_connect_27 rfl
  · refine v_iconst C dX4_connect_14 ci_0 ?_
    exact v_ireturn C hm dX4_connect_15 rfl
theorem met_X4_at {P : MP} {l : Launch} (σ : MS) (x1 : Int32) (x2 : Int32) {r : Int32} (h : M_at σ x1 x2 = some r) : FM l (OM P) yX4_at (ws_ yX4_at cX4_at 3 (some .int)) 0 0 [.ref (mad P 0), .int x1, .int x2] σ ((f_ri σ) r) := by
  refine FM.of (own := RX4) (lv := [(0, .ref (mad P 0)), (1, .int x1), (2, .int x2)]) (OM_ok P) pl_X4 rfl (Nat.le_of_ble_eq_true rfl) rfl h OM_le (fun X C hm => ?_)
  unfold M_at
  refine v_aload_n C dX4_at_0 0 rfl ?_
  refine mg_now C dX4_at_1 ?_
  refine v_bipush C dX4_at_4 cb_55 ?_
  refine v_iconst C dX4_at_6 ci_3 ?_
  refine v_iload_n C dX4_at_7 1 rfl ?_
  refine v_imul C dX4_at_8 ?_
  refine v_iadd C dX4_at_9 ?_
  refine v_iload_n C dX4_at_10 2 rfl ?_
  refine v_iadd C dX4_at_11 ?_
  refine ml_now C dX4_at_12 (fun y1 hy1 => ?_)
  exact v_ireturn C hm dX4_at_13 rfl
theorem met_X4_stretchMany {P : MP} {l : Launch} (σ : MS) {r : Int32} (h : M_stretchMany σ = some r) : FM l (OM P) yX4_stretchMany (ws_ yX4_stretchMany cX4_stretchMany 1 (some .int)) 0 0 [.ref (mad P 0)] σ ((f_ri σ) r) := by
  refine FM.of (own := RX4) (lv := [(0, .ref (mad P 0))]) (OM_ok P) pl_X4 rfl (Nat.le_of_ble_eq_true rfl) rfl h OM_le (fun X C hm => ?_)
  unfold M_stretchMany
  refine v_aload_n C dX4_stretchMany_0 0 rfl ?_
  refine mg_now C dX4_stretchMany_1 ?_
  refine v_bipush C dX4_stretchMany_4 cb_54 ?_
  refine ml_now C dX4_stretchMany_6 (fun y1 hy1 => ?_)
  exact v_ireturn C hm dX4_stretchMany_7 rfl
theorem w_dropsStretch_42 {P : MP} {X : Ctx} {l : Launch} {S0 : MS} {F : Nat} (C : CX (OM P) X l cX4_dropsStretch 3 RX4 none) (hm : X.2.2.2.2.2.2.2.2.2 = none) (σ : MS) : VF (OM P) X 3 1 20 S0 f_mv (M_dropsStretch_42 F σ) σ 42 [(0, .ref (mad P 0))] [] := by
  unfold M_dropsStretch_42
  refine v_aload_n C dX4_dropsStretch_42 0 rfl ?_
  refine mg_now C dX4_dropsStretch_43 ?_
  refine v_bipush C dX4_dropsStretch_46 cb_54 ?_
  refine v_dup2_11 C dX4_dropsStretch_48 rfl rfl ?_
  refine ml_now C dX4_dropsStretch_49 (fun y6 hy6 => ?_)
  refine v_iconst C dX4_dropsStretch_50 ci_1 ?_
  refine v_isub C dX4_dropsStretch_51 ?_
  refine ms_now C dX4_dropsStretch_52 (fun σ7 hσ7 => ?_)
  exact v_vreturn C hm dX4_dropsStretch_53 rfl
theorem w_dropsStretch_7 {P : MP} {X : Ctx} {l : Launch} {S0 : MS} {F : Nat} (C : CX (OM P) X l cX4_dropsStretch 3 RX4 none) (hm : X.2.2.2.2.2.2.2.2.2 = none)   : ∀ (n : Nat) (x2 : Int32) (σ : MS), VF (OM P) X 3 1 20 S0 f_mv (M_dropsStretch_7 F n x2 σ) σ 7 [(0, .ref (mad P 0)), (2, .int x2)] [] := by
  intro n
  induction n with
  | zero => intro x2 σ; exact VF.none
  | succ n ih =>
    intro x2 σ
    unfold M_dropsStretch_7
    refine v_iload_n C dX4_dropsStretch_7 1 rfl ?_
    refine v_bipush C dX4_dropsStretch_8 cb_55 ?_
    refine v_iconst C dX4_dropsStretch_10 ci_3 ?_
    refine v_aload_n C dX4_dropsStretch_11 0 rfl ?_
    refine v_callV_ri C (As := []) (st := [.int 3, .int 55, .int x2]) lkX4_97 dX4_dropsStretch_12 rfl (Nat.le_of_ble_eq_true rfl) (Nat.le_of_ble_eq_true rfl) (Nat.le_of_ble_eq_true rfl) (mRecv C) (fun _ z => met_X4_stretchMany σ z) (fun r2 hr2 => ?_)
    refine v_iconst C dX4_dropsStretch_15 ci_1 ?_
    refine v_isub C dX4_dropsStretch_16 ?_
    refine v_imul C dX4_dropsStretch_17 ?_
    refine v_iadd C dX4_dropsStretch_18 ?_
    refine v_icmp_ge C (tgt := 42) dX4_dropsStretch_19 rfl (fun _ => ?_) (fun _ => ?_)
    · exact v_sub [0] rfl (w_dropsStretch_42 C hm σ)
    · refine v_aload_n C dX4_dropsStretch_22 0 rfl ?_
      refine mg_now C dX4_dropsStretch_23 ?_
      refine v_iload_n C dX4_dropsStretch_26 1 rfl ?_
      refine v_aload_n C dX4_dropsStretch_27 0 rfl ?_
      refine mg_now C dX4_dropsStretch_28 ?_
      refine v_iload_n C dX4_dropsStretch_31 1 rfl ?_
      refine v_iconst C dX4_dropsStretch_32 ci_3 ?_
      refine v_iadd C dX4_dropsStretch_33 ?_
      refine ml_now C dX4_dropsStretch_34 (fun y3 hy3 => ?_)
      refine ms_now C dX4_dropsStretch_35 (fun σ4 hσ4 => ?_)
      refine v_iincN C (lv' := fun y5 => [(2, .int y5), (0, .ref (mad P 0))]) dX4_dropsStretch_36 1 rfl ci_1 (Nat.le_of_ble_eq_true rfl) (fun _ => rfl) (fun y5 hy5 => ?_)
      refine v_goto C (tgt := 7) dX4_dropsStretch_39 rfl ?_
      exact v_sub [1, 0] rfl (ih y5 σ4)
theorem met_X4_dropsStretch {P : MP} {l : Launch} (F : Nat) (σ : MS) (x1 : Int32) {r : MS} (h : M_dropsStretch F σ x1 = some r) : FM l (OM P) yX4_dropsStretch (ws_ yX4_dropsStretch cX4_dropsStretch 3 none) 1 20 [.ref (mad P 0), .int x1] σ (f_mv r) := by
  refine FM.of (own := RX4) (lv := [(0, .ref (mad P 0)), (1, .int x1)]) (OM_ok P) pl_X4 rfl (Nat.le_of_ble_eq_true rfl) rfl h OM_le (fun X C hm => ?_)
  unfold M_dropsStretch
  refine v_bipush C dX4_dropsStretch_0 cb_55 ?_
  refine v_iconst C dX4_dropsStretch_2 ci_3 ?_
  refine v_iload_n C dX4_dropsStretch_3 1 rfl ?_
  refine v_imul C dX4_dropsStretch_4 ?_
  refine v_iadd C dX4_dropsStretch_5 ?_
  refine v_leti (fun y1 hy1 => ?_)
  refine v_istore_n C (lv' := [(2, .int y1), (0, .ref (mad P 0)), (1, .int x1)]) dX4_dropsStretch_6 (Nat.le_of_ble_eq_true rfl) rfl ?_
  exact v_sub [1, 0] rfl (w_dropsStretch_7 C hm F y1 σ)
theorem w_dropsEdge_59 {P : MP} {X : Ctx} {l : Launch} {S0 : MS} {F : Nat} (C : CX (OM P) X l cX4_dropsEdge 4 RX4 (some .int)) (hm : X.2.2.2.2.2.2.2.2.2 = none) {x1 : Int32} {x2 : Int32} {x3 : Int32} (k9 : Int32 → Int32 → MS → Option (Int32 × MS)) (hk9 : ∀ (z2 : Int32) (z3 : Int32) (τ : MS), VF (OM P) X 4 2 42 S0 f_mi (k9 z2 z3 τ) τ 9 [(0, .ref (mad P 0)), (1, .int x1), (2, .int z2), (3, .int z3)] []) (σ : MS) : VF (OM P) X 4 2 42 S0 f_mi (M_dropsEdge_59 F k9 x1 x2 x3 σ) σ 59 [(0, .ref (mad P 0)), (1, .int x1), (2, .int x2), (3, .int x3)] [] := by
  unfold M_dropsEdge_59
  refine v_iincN C (lv' := fun y11 => [(3, .int y11), (0, .ref (mad P 0)), (1, .int x1), (2, .int x2)]) dX4_dropsEdge_59 3 rfl ci_m1 (Nat.le_of_ble_eq_true rfl) (fun _ => rfl) (fun y11 hy11 => ?_)
  refine v_goto C (tgt := 9) dX4_dropsEdge_62 rfl ?_
  exact v_sub [1, 2, 3, 0] rfl (hk9 x2 y11 σ)
theorem w_dropsEdge_107 {P : MP} {X : Ctx} {l : Launch} {S0 : MS} {F : Nat} (C : CX (OM P) X l cX4_dropsEdge 4 RX4 (some .int)) (hm : X.2.2.2.2.2.2.2.2.2 = none) {x2 : Int32} (σ : MS) : VF (OM P) X 4 2 42 S0 f_mi (M_dropsEdge_107 F x2 σ) σ 107 [(0, .ref (mad P 0)), (2, .int x2)] [] := by
  unfold M_dropsEdge_107
  refine v_aload_n C dX4_dropsEdge_107 0 rfl ?_
  refine mg_now C dX4_dropsEdge_108 ?_
  refine v_bipush C dX4_dropsEdge_111 cb_17 ?_
  refine v_dup2_11 C dX4_dropsEdge_113 rfl rfl ?_
  refine ml_now C dX4_dropsEdge_114 (fun y16 hy16 => ?_)
  refine v_iconst C dX4_dropsEdge_115 ci_1 ?_
  refine v_isub C dX4_dropsEdge_116 ?_
  refine ms_now C dX4_dropsEdge_117 (fun σ17 hσ17 => ?_)
  refine v_iload_n C dX4_dropsEdge_118 1 rfl ?_
  exact v_ireturn C hm dX4_dropsEdge_119 rfl
theorem w_dropsEdge_72 {P : MP} {X : Ctx} {l : Launch} {S0 : MS} {F : Nat} (C : CX (OM P) X l cX4_dropsEdge 4 RX4 (some .int)) (hm : X.2.2.2.2.2.2.2.2.2 = none) {x2 : Int32}  : ∀ (n : Nat) (x3 : Int32) (σ : MS), VF (OM P) X 4 2 42 S0 f_mi (M_dropsEdge_72 F x2 n x3 σ) σ 72 [(0, .ref (mad P 0)), (2, .int x2), (3, .int x3)] [] := by
  intro n
  induction n with
  | zero => intro x3 σ; exact VF.none
  | succ n ih =>
    intro x3 σ
    unfold M_dropsEdge_72
    refine v_iload_n C dX4_dropsEdge_72 2 rfl ?_
    refine v_bipush C dX4_dropsEdge_73 cb_18 ?_
    refine v_iconst C dX4_dropsEdge_75 ci_3 ?_
    refine v_aload_n C dX4_dropsEdge_76 0 rfl ?_
    refine v_callV_ri C (As := []) (st := [.int 3, .int 18, .int x3]) lkX4_73 dX4_dropsEdge_77 rfl (Nat.le_of_ble_eq_true rfl) (Nat.le_of_ble_eq_true rfl) (Nat.le_of_ble_eq_true rfl) (mRecv C) (fun _ z => met_X4_edgeMany σ z) (fun r12 hr12 => ?_)
    refine v_iconst C dX4_dropsEdge_80 ci_1 ?_
    refine v_isub C dX4_dropsEdge_81 ?_
    refine v_imul C dX4_dropsEdge_82 ?_
    refine v_iadd C dX4_dropsEdge_83 ?_
    refine v_icmp_ge C (tgt := 107) dX4_dropsEdge_84 rfl (fun _ => ?_) (fun _ => ?_)
    · exact v_sub [0, 1] rfl (w_dropsEdge_107 C hm σ)
    · refine v_aload_n C dX4_dropsEdge_87 0 rfl ?_
      refine mg_now C dX4_dropsEdge_88 ?_
      refine v_iload_n C dX4_dropsEdge_91 2 rfl ?_
      refine v_aload_n C dX4_dropsEdge_92 0 rfl ?_
      refine mg_now C dX4_dropsEdge_93 ?_
      refine v_iload_n C dX4_dropsEdge_96 2 rfl ?_
      refine v_iconst C dX4_dropsEdge_97 ci_3 ?_
      refine v_iadd C dX4_dropsEdge_98 ?_
      refine ml_now C dX4_dropsEdge_99 (fun y13 hy13 => ?_)
      refine ms_now C dX4_dropsEdge_100 (fun σ14 hσ14 => ?_)
      refine v_iincN C (lv' := fun y15 => [(3, .int y15), (0, .ref (mad P 0)), (2, .int x2)]) dX4_dropsEdge_101 2 rfl ci_1 (Nat.le_of_ble_eq_true rfl) (fun _ => rfl) (fun y15 hy15 => ?_)
      refine v_goto C (tgt := 72) dX4_dropsEdge_104 rfl ?_
      exact v_sub [1, 2, 0] rfl (ih y15 σ14)
theorem w_dropsEdge_65 {P : MP} {X : Ctx} {l : Launch} {S0 : MS} {F : Nat} (C : CX (OM P) X l cX4_dropsEdge 4 RX4 (some .int)) (hm : X.2.2.2.2.2.2.2.2.2 = none) {x1 : Int32} {x2 : Int32} (σ : MS) : VF (OM P) X 4 2 42 S0 f_mi (M_dropsEdge_65 F x1 x2 σ) σ 65 [(0, .ref (mad P 0)), (1, .int x1), (2, .int x2)] [] := by
  unfold M_dropsEdge_65
  refine v_bipush C dX4_dropsEdge_65 cb_18 ?_
  refine v_iconst C dX4_dropsEdge_67 ci_3 ?_
  refine v_iload_n C dX4_dropsEdge_68 1 rfl ?_
  refine v_imul C dX4_dropsEdge_69 ?_
  refine v_iadd C dX4_dropsEdge_70 ?_
  refine v_leti (fun y10 hy10 => ?_)
  refine v_istore_n C (lv' := [(3, .int y10), (0, .ref (mad P 0)), (1, .int x1), (2, .int x2)]) dX4_dropsEdge_71 (Nat.le_of_ble_eq_true rfl) rfl ?_
  exact v_sub [1, 3, 0] rfl (w_dropsEdge_72 C hm F y10 σ)
theorem w_dropsEdge_9 {P : MP} {X : Ctx} {l : Launch} {S0 : MS} {F : Nat} (C : CX (OM P) X l cX4_dropsEdge 4 RX4 (some .int)) (hm : X.2.2.2.2.2.2.2.2.2 = none) {x1 : Int32}  : ∀ (n : Nat) (x2 : Int32) (x3 : Int32) (σ : MS), VF (OM P) X 4 2 42 S0 f_mi (M_dropsEdge_9 F x1 n x2 x3 σ) σ 9 [(0, .ref (mad P 0)), (1, .int x1), (2, .int x2), (3, .int x3)] [] := by
  intro n
  induction n with
  | zero => intro x2 x3 σ; exact VF.none
  | succ n ih =>
    intro x2 x3 σ
    unfold M_dropsEdge_9
    refine v_iload_n C dX4_dropsEdge_9 3 rfl ?_
    refine v_if_lt C (tgt := 65) dX4_dropsEdge_10 rfl (fun _ => ?_) (fun _ => ?_)
    · exact v_sub [0, 1, 2] rfl (w_dropsEdge_65 C hm σ)
    · refine v_aload_n C dX4_dropsEdge_13 0 rfl ?_
      refine v_iload_n C dX4_dropsEdge_14 3 rfl ?_
      refine v_iconst C dX4_dropsEdge_15 ci_0 ?_
      refine v_callV_ri C (As := [.int x3, .int 0]) (st := []) lkX4_100 dX4_dropsEdge_16 rfl (Nat.le_of_ble_eq_true rfl) (Nat.le_of_ble_eq_true rfl) (Nat.le_of_ble_eq_true rfl) (mRecv C) (fun _ z => met_X4_at σ x3 0 z) (fun r3 hr3 => ?_)
      refine v_iload_n C dX4_dropsEdge_19 1 rfl ?_
      refine v_icmp_ne C (tgt := 34) dX4_dropsEdge_20 rfl (fun _ => ?_) (fun _ => ?_)
      · refine v_aload_n C dX4_dropsEdge_23 0 rfl ?_
        refine v_iload_n C dX4_dropsEdge_24 3 rfl ?_
        refine v_callV_mv C (As := [.int x3]) (st := []) lkX4_103 dX4_dropsEdge_25 rfl (Nat.le_of_ble_eq_true rfl) (Nat.le_of_ble_eq_true rfl) (Nat.le_of_ble_eq_true rfl) (mRecv C) (fun _ z => met_X4_dropsStretch F σ x3 z) (fun r4 hr4 => ?_)
        refine v_iincN C (lv' := fun y5 => [(2, .int y5), (0, .ref (mad P 0)), (1, .int x1), (3, .int x3)]) dX4_dropsEdge_28 2 rfl ci_1 (Nat.le_of_ble_eq_true rfl) (fun _ => rfl) (fun y5 hy5 => ?_)
        refine v_goto C (tgt := 59) dX4_dropsEdge_31 rfl ?_
        exact v_sub [1, 2, 0, 3] rfl (w_dropsEdge_59 C hm (M_dropsEdge_9 F x1 n) ih r4)
      · refine v_aload_n C dX4_dropsEdge_34 0 rfl ?_
        refine v_iload_n C dX4_dropsEdge_35 3 rfl ?_
        refine v_iconst C dX4_dropsEdge_36 ci_0 ?_
        refine v_callV_ri C (As := [.int x3, .int 0]) (st := []) lkX4_100 dX4_dropsEdge_37 rfl (Nat.le_of_ble_eq_true rfl) (Nat.le_of_ble_eq_true rfl) (Nat.le_of_ble_eq_true rfl) (mRecv C) (fun _ z => met_X4_at σ x3 0 z) (fun r6 hr6 => ?_)
        refine v_iload_n C dX4_dropsEdge_40 1 rfl ?_
        refine v_icmp_le C (tgt := 59) dX4_dropsEdge_41 rfl (fun _ => ?_) (fun _ => ?_)
        · exact v_sub [0, 1, 2, 3] rfl (w_dropsEdge_59 C hm (M_dropsEdge_9 F x1 n) ih σ)
        · refine v_aload_n C dX4_dropsEdge_44 0 rfl ?_
          refine mg_now C dX4_dropsEdge_45 ?_
          refine v_bipush C dX4_dropsEdge_48 cb_55 ?_
          refine v_iconst C dX4_dropsEdge_50 ci_3 ?_
          refine v_iload_n C dX4_dropsEdge_51 3 rfl ?_
          refine v_imul C dX4_dropsEdge_52 ?_
          refine v_iadd C dX4_dropsEdge_53 ?_
          refine v_leti (fun y7 hy7 => ?_)
          refine v_dup2_11 C dX4_dropsEdge_54 rfl rfl ?_
          refine ml_now C dX4_dropsEdge_55 (fun y8 hy8 => ?_)
          refine v_iconst C dX4_dropsEdge_56 ci_1 ?_
          refine v_isub C dX4_dropsEdge_57 ?_
          refine ms_now C dX4_dropsEdge_58 (fun σ9 hσ9 => ?_)
          exact v_sub [0, 1, 2, 3] rfl (w_dropsEdge_59 C hm (M_dropsEdge_9 F x1 n) ih σ9)
theorem met_X4_dropsEdge {P : MP} {l : Launch} (F : Nat) (σ : MS) (x1 : Int32) {r : Int32 × MS} (h : M_dropsEdge F σ x1 = some r) : FM l (OM P) yX4_dropsEdge (ws_ yX4_dropsEdge cX4_dropsEdge 4 (some .int)) 2 42 [.ref (mad P 0), .int x1] σ (f_mi r) := by
  refine FM.of (own := RX4) (lv := [(0, .ref (mad P 0)), (1, .int x1)]) (OM_ok P) pl_X4 rfl (Nat.le_of_ble_eq_true rfl) rfl h OM_le (fun X C hm => ?_)
  unfold M_dropsEdge
  refine v_iconst C dX4_dropsEdge_0 ci_0 ?_
  refine v_istore_n C (lv' := [(2, .int 0), (0, .ref (mad P 0)), (1, .int x1)]) dX4_dropsEdge_1 (Nat.le_of_ble_eq_true rfl) rfl ?_
  refine v_aload_n C dX4_dropsEdge_2 1 rfl ?_
  refine v_callV_ri C (As := []) (st := []) lkX4_97 dX4_dropsEdge_3 rfl (Nat.le_of_ble_eq_true rfl) (Nat.le_of_ble_eq_true rfl) (Nat.le_of_ble_eq_true rfl) (mRecv C) (fun _ z => met_X4_stretchMany σ z) (fun r1 hr1 => ?_)
  refine v_iconst C dX4_dropsEdge_6 ci_1 ?_
  refine v_isub C dX4_dropsEdge_7 ?_
  refine v_leti (fun y2 hy2 => ?_)
  refine v_istore_n C (lv' := [(3, .int y2), (2, .int 0), (0, .ref (mad P 0)), (1, .int x1)]) dX4_dropsEdge_8 (Nat.le_of_ble_eq_true rfl) rfl ?_
  exact v_sub [2, 3, 1, 0] rfl (w_dropsEdge_9 C hm F 0 y2 σ)
theorem met_X4_isEdge {P : MP} {l : Launch} (σ : MS) (x1 : Int32) {r : Int32} (h : M_isEdge σ x1 = some r) : FM l (OM P) yX4_isEdge (ws_ yX4_isEdge cX4_isEdge 2 (some .boolean)) 1 22 [.ref (mad P 0), .int x1] σ ((f_ri σ) r) := by
  refine FM.of (own := RX4) (lv := [(0, .ref (mad P 0)), (1, .int x1)]) (OM_ok P) pl_X4 rfl (Nat.le_of_ble_eq_true rfl) rfl h OM_le (fun X C hm => ?_)
  unfold M_isEdge
  refine v_iload_n C dX4_isEdge_0 1 rfl ?_
  refine v_iconst C dX4_isEdge_1 ci_0 ?_
  refine v_aload_n C dX4_isEdge_2 0 rfl ?_
  refine v_callV_ri C (As := []) (st := [.int 0, .int x1]) lkX4_73 dX4_isEdge_3 rfl (Nat.le_of_ble_eq_true rfl) (Nat.le_of_ble_eq_true rfl) (Nat.le_of_ble_eq_true rfl) (mRecv C) (fun _ z => met_X4_edgeMany σ z) (fun r1 hr1 => ?_)
  refine v_iconst C dX4_isEdge_6 ci_1 ?_
  refine v_isub C dX4_isEdge_7 ?_
  refine v_callS_ri C (As := [.int x1, .int 0, .int (r1 - 1)]) (st := []) lkX4_69 dX4_isEdge_8 rfl (Nat.le_of_ble_eq_true rfl) (Nat.le_of_ble_eq_true rfl) (Nat.le_of_ble_eq_true rfl) (fun _ z => met_X4_within σ x1 0 (r1 - 1) z) (fun r2 hr2 => ?_)
  refine v_zz (fun b3 hb3 => ?_)
  exact v_zreturn C hm dX4_isEdge_11 hb3 rfl
theorem w_disconnect_14 {P : MP} {X : Ctx} {l : Launch} {S0 : MS} {F : Nat} (C : CX (OM P) X l cX4_disconnect 2 RX4 (some .int)) (hm : X.2.2.2.2.2.2.2.2.2 = none) {x1 : Int32} (s1 : Int32) (σ : MS) : VF (OM P) X 2 3 65 S0 f_mi (M_disconnect_14 F x1 s1 σ) σ 14 [(0, .ref (mad P 0)), (1, .int x1)] [.int s1, .ref (mad P 0)] := by
  unfold M_disconnect_14
  refine v_callV_mi C (As := [.int s1]) (st := []) lkX4_61 dX4_disconnect_14 rfl (Nat.le_of_ble_eq_true rfl) (Nat.le_of_ble_eq_true rfl) (Nat.le_of_ble_eq_true rfl) (mRecv C) (fun _ z => met_X4_refused σ s1 z) (fun r2 hr2 => ?_)
  refine v_if_eq C (tgt := 22) dX4_disconnect_17 rfl (fun _ => ?_) (fun _ => ?_)
  · refine v_aload_n C dX4_disconnect_22 0 rfl ?_
    refine v_callV_mv C (As := []) (st := []) lkX4_76 dX4_disconnect_23 rfl (Nat.le_of_ble_eq_true rfl) (Nat.le_of_ble_eq_true rfl) (Nat.le_of_ble_eq_true rfl) (mRecv C) (fun _ z => met_X4_saves F r2.2 z) (fun r3 hr3 => ?_)
    refine v_aload_n C dX4_disconnect_26 0 rfl ?_
    refine v_iload_n C dX4_disconnect_27 1 rfl ?_
    refine v_callV_mi C (As := [.int x1]) (st := []) lkX4_109 dX4_disconnect_28 rfl (Nat.le_of_ble_eq_true rfl) (Nat.le_of_ble_eq_true rfl) (Nat.le_of_ble_eq_true rfl) (mRecv C) (fun _ z => met_X4_dropsEdge F r3 x1 z) (fun r4 hr4 => ?_)
    exact v_ireturn C hm dX4_disconnect_31 rfl
  · refine v_iconst C dX4_disconnect_20 ci_0 ?_
    exact v_ireturn C hm dX4_disconnect_21 rfl
theorem met_X4_disconnect {P : MP} {l : Launch} (F : Nat) (σ : MS) (x1 : Int32) {r : Int32 × MS} (h : M_disconnect F σ x1 = some r) : FM l (OM P) yX4_disconnect (ws_ yX4_disconnect cX4_disconnect 2 (some .int)) 3 65 [.ref (mad P 0), .int x1] σ (f_mi r) := by
  refine FM.of (own := RX4) (lv := [(0, .ref (mad P 0)), (1, .int x1)]) (OM_ok P) pl_X4 rfl (Nat.le_of_ble_eq_true rfl) rfl h OM_le (fun X C hm => ?_)
  unfold M_disconnect
  refine v_aload_n C dX4_disconnect_0 0 rfl ?_
  refine v_aload_n C dX4_disconnect_1 0 rfl ?_
  refine v_iload_n C dX4_disconnect_2 1 rfl ?_
  refine v_callV_ri C (As := [.int x1]) (st := [.ref (mad P 0)]) lkX4_106 dX4_disconnect_3 rfl (Nat.le_of_ble_eq_true rfl) (Nat.le_of_ble_eq_true rfl) (Nat.le_of_ble_eq_true rfl) (mRecv C) (fun _ z => met_X4_isEdge σ x1 z) (fun r1 hr1 => ?_)
  refine v_if_eq C (tgt := 13) dX4_disconnect_6 rfl (fun _ => ?_) (fun _ => ?_)
  · refine v_iconst C dX4_disconnect_13 ci_1 ?_
    exact v_sub [0, 1] rfl (w_disconnect_14 C hm 1 σ)
  · refine v_iconst C dX4_disconnect_9 ci_0 ?_
    refine v_goto C (tgt := 14) dX4_disconnect_10 rfl ?_
    exact v_sub [0, 1] rfl (w_disconnect_14 C hm 0 σ)
theorem met_X4_needSet {P : MP} {l : Launch} (σ : MS) (x1 : Int32) (x2 : Int32) {r : Int32} (h : M_needSet σ x1 x2 = some r) : FM l (OM P) yX4_needSet (ws_ yX4_needSet cX4_needSet 3 (some .int)) 2 43 [.ref (mad P 0), .int x1, .int x2] σ ((f_ri σ) r) := by
  refine FM.of (own := RX4) (lv := [(0, .ref (mad P 0)), (1, .int x1), (2, .int x2)]) (OM_ok P) pl_X4 rfl (Nat.le_of_ble_eq_true rfl) rfl h OM_le (fun X C hm => ?_)
  unfold M_needSet
  refine v_aload_n C dX4_needSet_0 0 rfl ?_
  refine v_iload_n C dX4_needSet_1 1 rfl ?_
  refine v_callV_ri C (As := [.int x1]) (st := []) lkX4_83 dX4_needSet_2 rfl (Nat.le_of_ble_eq_true rfl) (Nat.le_of_ble_eq_true rfl) (Nat.le_of_ble_eq_true rfl) (mRecv C) (fun _ z => met_X4_isNode σ x1 z) (fun r1 hr1 => ?_)
  refine v_if_ne C (tgt := 12) dX4_needSet_5 rfl (fun _ => ?_) (fun _ => ?_)
  · refine v_iconst C dX4_needSet_8 ci_1 ?_
    refine v_goto C (tgt := 27) dX4_needSet_9 rfl ?_
    exact v_ireturn C hm dX4_needSet_27 rfl
  · refine v_iload_n C dX4_needSet_12 2 rfl ?_
    refine v_iconst C dX4_needSet_13 ci_0 ?_
    refine v_bipush C dX4_needSet_14 cb_9 ?_
    refine v_callS_ri C (As := [.int x2, .int 0, .int 9]) (st := []) lkX4_69 dX4_needSet_16 rfl (Nat.le_of_ble_eq_true rfl) (Nat.le_of_ble_eq_true rfl) (Nat.le_of_ble_eq_true rfl) (fun _ z => met_X4_within σ x2 0 9 z) (fun r2 hr2 => ?_)
    refine v_if_ne C (tgt := 26) dX4_needSet_19 rfl (fun _ => ?_) (fun _ => ?_)
    · refine v_iconst C dX4_needSet_22 ci_2 ?_
      refine v_goto C (tgt := 27) dX4_needSet_23 rfl ?_
      exact v_ireturn C hm dX4_needSet_27 rfl
    · refine v_iconst C dX4_needSet_26 ci_0 ?_
      exact v_ireturn C hm dX4_needSet_27 rfl
theorem met_X4_setWeight {P : MP} {l : Launch} (F : Nat) (σ : MS) (x1 : Int32) (x2 : Int32) {r : Int32 × MS} (h : M_setWeight F σ x1 x2 = some r) : FM l (OM P) yX4_setWeight (ws_ yX4_setWeight cX4_setWeight 4 (some .int)) 3 65 [.ref (mad P 0), .int x1, .int x2] σ (f_mi r) := by
  refine FM.of (own := RX4) (lv := [(0, .ref (mad P 0)), (1, .int x1), (2, .int x2)]) (OM_ok P) pl_X4 rfl (Nat.le_of_ble_eq_true rfl) rfl h OM_le (fun X C hm => ?_)
  unfold M_setWeight
  refine v_aload_n C dX4_setWeight_0 0 rfl ?_
  refine v_aload_n C dX4_setWeight_1 0 rfl ?_
  refine v_iload_n C dX4_setWeight_2 1 rfl ?_
  refine v_iload_n C dX4_setWeight_3 2 rfl ?_
  refine v_callV_ri C (As := [.int x1, .int x2]) (st := [.ref (mad P 0)]) lkX4_113 dX4_setWeight_4 rfl (Nat.le_of_ble_eq_true rfl) (Nat.le_of_ble_eq_true rfl) (Nat.le_of_ble_eq_true rfl) (mRecv C) (fun _ z => met_X4_needSet σ x1 x2 z) (fun r1 hr1 => ?_)
  refine v_callV_mi C (As := [.int r1]) (st := []) lkX4_61 dX4_setWeight_7 rfl (Nat.le_of_ble_eq_true rfl) (Nat.le_of_ble_eq_true rfl) (Nat.le_of_ble_eq_true rfl) (mRecv C) (fun _ z => met_X4_refused σ r1 z) (fun r2 hr2 => ?_)
  refine v_if_eq C (tgt := 15) dX4_setWeight_10 rfl (fun _ => ?_) (fun _ => ?_)
  · refine v_aload_n C dX4_setWeight_15 0 rfl ?_
    refine mg_now C dX4_setWeight_16 ?_
    refine v_iconst C dX4_setWeight_19 ci_1 ?_
    refine v_iload_n C dX4_setWeight_20 1 rfl ?_
    refine v_iadd C dX4_setWeight_21 ?_
    refine ml_now C dX4_setWeight_22 (fun y3 hy3 => ?_)
    refine v_istore_n C (lv' := [(3, .int y3), (0, .ref (mad P 0)), (1, .int x1), (2, .int x2)]) dX4_setWeight_23 (Nat.le_of_ble_eq_true rfl) rfl ?_
    refine v_aload_n C dX4_setWeight_24 1 rfl ?_
    refine v_callV_mv C (As := []) (st := []) lkX4_76 dX4_setWeight_25 rfl (Nat.le_of_ble_eq_true rfl) (Nat.le_of_ble_eq_true rfl) (Nat.le_of_ble_eq_true rfl) (mRecv C) (fun _ z => met_X4_saves F r2.2 z) (fun r4 hr4 => ?_)
    refine v_aload_n C dX4_setWeight_28 1 rfl ?_
    refine mg_now C dX4_setWeight_29 ?_
    refine v_iconst C dX4_setWeight_32 ci_1 ?_
    refine v_iload_n C dX4_setWeight_33 2 rfl ?_
    refine v_iadd C dX4_setWeight_34 ?_
    refine v_iload_n C dX4_setWeight_35 3 rfl ?_
    refine ms_now C dX4_setWeight_36 (fun σ5 hσ5 => ?_)
    refine v_iload_n C dX4_setWeight_37 0 rfl ?_
    exact v_ireturn C hm dX4_setWeight_38 rfl
  · refine v_iconst C dX4_setWeight_13 ci_0 ?_
    exact v_ireturn C hm dX4_setWeight_14 rfl
theorem met_X4_setTrend {P : MP} {l : Launch} (F : Nat) (σ : MS) (x1 : Int32) (x2 : Int32) {r : Int32 × MS} (h : M_setTrend F σ x1 x2 = some r) : FM l (OM P) yX4_setTrend (ws_ yX4_setTrend cX4_setTrend 4 (some .int)) 3 65 [.ref (mad P 0), .int x1, .int x2] σ (f_mi r) := by
  refine FM.of (own := RX4) (lv := [(0, .ref (mad P 0)), (1, .int x1), (2, .int x2)]) (OM_ok P) pl_X4 rfl (Nat.le_of_ble_eq_true rfl) rfl h OM_le (fun X C hm => ?_)
  unfold M_setTrend
  refine v_aload_n C dX4_setTrend_0 0 rfl ?_
  refine v_aload_n C dX4_setTrend_1 0 rfl ?_
  refine v_iload_n C dX4_setTrend_2 1 rfl ?_
  refine v_iload_n C dX4_setTrend_3 2 rfl ?_
  refine v_callV_ri C (As := [.int x1, .int x2]) (st := [.ref (mad P 0)]) lkX4_113 dX4_setTrend_4 rfl (Nat.le_of_ble_eq_true rfl) (Nat.le_of_ble_eq_true rfl) (Nat.le_of_ble_eq_true rfl) (mRecv C) (fun _ z => met_X4_needSet σ x1 x2 z) (fun r1 hr1 => ?_)
  refine v_callV_mi C (As := [.int r1]) (st := []) lkX4_61 dX4_setTrend_7 rfl (Nat.le_of_ble_eq_true rfl) (Nat.le_of_ble_eq_true rfl) (Nat.le_of_ble_eq_true rfl) (mRecv C) (fun _ z => met_X4_refused σ r1 z) (fun r2 hr2 => ?_)
  refine v_if_eq C (tgt := 15) dX4_setTrend_10 rfl (fun _ => ?_) (fun _ => ?_)
  · refine v_aload_n C dX4_setTrend_15 0 rfl ?_
    refine mg_now C dX4_setTrend_16 ?_
    refine v_bipush C dX4_setTrend_19 cb_9 ?_
    refine v_iload_n C dX4_setTrend_21 1 rfl ?_
    refine v_iadd C dX4_setTrend_22 ?_
    refine ml_now C dX4_setTrend_23 (fun y3 hy3 => ?_)
    refine v_istore_n C (lv' := [(3, .int y3), (0, .ref (mad P 0)), (1, .int x1), (2, .int x2)]) dX4_setTrend_24 (Nat.le_of_ble_eq_true rfl) rfl ?_
    refine v_aload_n C dX4_setTrend_25 1 rfl ?_
    refine v_callV_mv C (As := []) (st := []) lkX4_76 dX4_setTrend_26 rfl (Nat.le_of_ble_eq_true rfl) (Nat.le_of_ble_eq_true rfl) (Nat.le_of_ble_eq_true rfl) (mRecv C) (fun _ z => met_X4_saves F r2.2 z) (fun r4 hr4 => ?_)
    refine v_aload_n C dX4_setTrend_29 1 rfl ?_
    refine mg_now C dX4_setTrend_30 ?_
    refine v_bipush C dX4_setTrend_33 cb_9 ?_
    refine v_iload_n C dX4_setTrend_35 2 rfl ?_
    refine v_iadd C dX4_setTrend_36 ?_
    refine v_iload_n C dX4_setTrend_37 3 rfl ?_
    refine ms_now C dX4_setTrend_38 (fun σ5 hσ5 => ?_)
    refine v_iload_n C dX4_setTrend_39 0 rfl ?_
    exact v_ireturn C hm dX4_setTrend_40 rfl
  · refine v_iconst C dX4_setTrend_13 ci_0 ?_
    exact v_ireturn C hm dX4_setTrend_14 rfl
theorem met_X4_forbids {P : MP} {l : Launch} (σ : MS) (x1 : Int32) (x2 : Int32) (x3 : Int32) {r : Int32 × MS} (h : M_forbids σ x1 x2 x3 = some r) : FM l (OM P) yX4_forbids (ws_ yX4_forbids cX4_forbids 5 (some .int)) 1 20 [.ref (mad P 0), .int x1, .int x2, .int x3] σ (f_mi r) := by
  refine FM.of (own := RX4) (lv := [(0, .ref (mad P 0)), (1, .int x1), (2, .int x2), (3, .int x3)]) (OM_ok P) pl_X4 rfl (Nat.le_of_ble_eq_true rfl) rfl h OM_le (fun X C hm => ?_)
  unfold M_forbids
  refine v_aload_n C dX4_forbids_0 0 rfl ?_
  refine v_callV_ri C (As := []) (st := []) lkX4_97 dX4_forbids_1 rfl (Nat.le_of_ble_eq_true rfl) (Nat.le_of_ble_eq_true rfl) (Nat.le_of_ble_eq_true rfl) (mRecv C) (fun _ z => met_X4_stretchMany σ z) (fun r1 hr1 => ?_)
  refine v_istore C (lv' := [(4, .int r1), (0, .ref (mad P 0)), (1, .int x1), (2, .int x2), (3, .int x3)]) dX4_forbids_4 (Nat.le_of_ble_eq_true rfl) rfl ?_
  refine v_aload_n C dX4_forbids_6 1 rfl ?_
  refine mg_now C dX4_forbids_7 ?_
  refine v_bipush C dX4_forbids_10 cb_55 ?_
  refine v_iconst C dX4_forbids_12 ci_3 ?_
  refine v_iload C dX4_forbids_13 0 rfl ?_
  refine v_imul C dX4_forbids_15 ?_
  refine v_iadd C dX4_forbids_16 ?_
  refine v_iload_n C dX4_forbids_17 2 rfl ?_
  refine ms_now C dX4_forbids_18 (fun σ2 hσ2 => ?_)
  refine v_aload_n C dX4_forbids_19 1 rfl ?_
  refine mg_now C dX4_forbids_20 ?_
  refine v_bipush C dX4_forbids_23 cb_55 ?_
  refine v_iconst C dX4_forbids_25 ci_3 ?_
  refine v_iload C dX4_forbids_26 0 rfl ?_
  refine v_imul C dX4_forbids_28 ?_
  refine v_iadd C dX4_forbids_29 ?_
  refine v_iconst C dX4_forbids_30 ci_1 ?_
  refine v_iadd C dX4_forbids_31 ?_
  refine v_iload_n C dX4_forbids_32 3 rfl ?_
  refine ms_now C dX4_forbids_33 (fun σ3 hσ3 => ?_)
  refine v_aload_n C dX4_forbids_34 1 rfl ?_
  refine mg_now C dX4_forbids_35 ?_
  refine v_bipush C dX4_forbids_38 cb_55 ?_
  refine v_iconst C dX4_forbids_40 ci_3 ?_
  refine v_iload C dX4_forbids_41 0 rfl ?_
  refine v_imul C dX4_forbids_43 ?_
  refine v_iadd C dX4_forbids_44 ?_
  refine v_iconst C dX4_forbids_45 ci_2 ?_
  refine v_iadd C dX4_forbids_46 ?_
  refine v_iload_n C dX4_forbids_47 4 rfl ?_
  refine ms_now C dX4_forbids_48 (fun σ4 hσ4 => ?_)
  refine v_aload_n C dX4_forbids_49 1 rfl ?_
  refine mg_now C dX4_forbids_50 ?_
  refine v_bipush C dX4_forbids_53 cb_54 ?_
  refine v_dup2_11 C dX4_forbids_55 rfl rfl ?_
  refine ml_now C dX4_forbids_56 (fun y5 hy5 => ?_)
  refine v_iconst C dX4_forbids_57 ci_1 ?_
  refine v_iadd C dX4_forbids_58 ?_
  refine ms_now C dX4_forbids_59 (fun σ6 hσ6 => ?_)
  refine v_iload C dX4_forbids_60 0 rfl ?_
  exact v_ireturn C hm dX4_forbids_62 rfl
theorem met_X4_needForbid {P : MP} {l : Launch} (σ : MS) (x1 : Int32) (x2 : Int32) (x3 : Int32) {r : Int32} (h : M_needForbid σ x1 x2 x3 = some r) : FM l (OM P) yX4_needForbid (ws_ yX4_needForbid cX4_needForbid 4 (some .int)) 2 43 [.ref (mad P 0), .int x1, .int x2, .int x3] σ ((f_ri σ) r) := by
  refine FM.of (own := RX4) (lv := [(0, .ref (mad P 0)), (1, .int x1), (2, .int x2), (3, .int x3)]) (OM_ok P) pl_X4 rfl (Nat.le_of_ble_eq_true rfl) rfl h OM_le (fun X C hm => ?_)
  unfold M_needForbid
  refine v_aload_n C dX4_needForbid_0 0 rfl ?_
  refine v_iload_n C dX4_needForbid_1 1 rfl ?_
  refine v_callV_ri C (As := [.int x1]) (st := []) lkX4_106 dX4_needForbid_2 rfl (Nat.le_of_ble_eq_true rfl) (Nat.le_of_ble_eq_true rfl) (Nat.le_of_ble_eq_true rfl) (mRecv C) (fun _ z => met_X4_isEdge σ x1 z) (fun r1 hr1 => ?_)
  refine v_if_ne C (tgt := 10) dX4_needForbid_5 rfl (fun _ => ?_) (fun _ => ?_)
  · refine v_iconst C dX4_needForbid_8 ci_1 ?_
    exact v_ireturn C hm dX4_needForbid_9 rfl
  · refine v_iload_n C dX4_needForbid_10 2 rfl ?_
    refine v_if_lt C (tgt := 29) dX4_needForbid_11 rfl (fun _ => ?_) (fun _ => ?_)
    · refine v_iconst C dX4_needForbid_29 ci_2 ?_
      refine v_goto C (tgt := 47) dX4_needForbid_30 rfl ?_
      exact v_ireturn C hm dX4_needForbid_47 rfl
    · refine v_iload_n C dX4_needForbid_14 2 rfl ?_
      refine v_iload_n C dX4_needForbid_15 3 rfl ?_
      refine v_icmp_ge C (tgt := 29) dX4_needForbid_16 rfl (fun _ => ?_) (fun _ => ?_)
      · refine v_iconst C dX4_needForbid_29 ci_2 ?_
        refine v_goto C (tgt := 47) dX4_needForbid_30 rfl ?_
        exact v_ireturn C hm dX4_needForbid_47 rfl
      · refine v_iload_n C dX4_needForbid_19 3 rfl ?_
        refine v_aload_n C dX4_needForbid_20 0 rfl ?_
        refine v_iload_n C dX4_needForbid_21 1 rfl ?_
        refine v_iconst C dX4_needForbid_22 ci_2 ?_
        refine v_callV_ri C (As := [.int x1, .int 2]) (st := [.int x3]) lkX4_79 dX4_needForbid_23 rfl (Nat.le_of_ble_eq_true rfl) (Nat.le_of_ble_eq_true rfl) (Nat.le_of_ble_eq_true rfl) (mRecv C) (fun _ z => met_X4_of σ x1 2 z) (fun r2 hr2 => ?_)
        refine v_icmp_le C (tgt := 33) dX4_needForbid_26 rfl (fun _ => ?_) (fun _ => ?_)
        · refine v_aload_n C dX4_needForbid_33 0 rfl ?_
          refine v_callV_ri C (As := []) (st := []) lkX4_97 dX4_needForbid_34 rfl (Nat.le_of_ble_eq_true rfl) (Nat.le_of_ble_eq_true rfl) (Nat.le_of_ble_eq_true rfl) (mRecv C) (fun _ z => met_X4_stretchMany σ z) (fun r3 hr3 => ?_)
          refine v_bipush C dX4_needForbid_37 cb_6 ?_
          refine v_icmp_ne C (tgt := 46) dX4_needForbid_39 rfl (fun _ => ?_) (fun _ => ?_)
          · refine v_iconst C dX4_needForbid_42 ci_3 ?_
            refine v_goto C (tgt := 47) dX4_needForbid_43 rfl ?_
            exact v_ireturn C hm dX4_needForbid_47 rfl
          · refine v_iconst C dX4_needForbid_46 ci_0 ?_
            exact v_ireturn C hm dX4_needForbid_47 rfl
        · refine v_iconst C dX4_needForbid_29 ci_2 ?_
          refine v_goto C (tgt := 47) dX4_needForbid_30 rfl ?_
          exact v_ireturn C hm dX4_needForbid_47 rfl
theorem met_X4_forbid {P : MP} {l : Launch} (F : Nat) (σ : MS) (x1 : Int32) (x2 : Int32) (x3 : Int32) {r : Int32 × MS} (h : M_forbid F σ x1 x2 x3 = some r) : FM l (OM P) yX4_forbid (ws_ yX4_forbid cX4_forbid 4 (some .int)) 3 66 [.ref (mad P 0), .int x1, .int x2, .int x3] σ (f_mi r) := by
  refine FM.of (own := RX4) (lv := [(0, .ref (mad P 0)), (1, .int x1), (2, .int x2), (3, .int x3)]) (OM_ok P) pl_X4 rfl (Nat.le_of_ble_eq_true rfl) rfl h OM_le (fun X C hm => ?_)
  unfold M_forbid
  refine v_aload_n C dX4_forbid_0 0 rfl ?_
  refine v_aload_n C dX4_forbid_1 0 rfl ?_
  refine v_iload_n C dX4_forbid_2 1 rfl ?_
  refine v_iload_n C dX4_forbid_3 2 rfl ?_
  refine v_iload_n C dX4_forbid_4 3 rfl ?_
  refine v_callV_ri C (As := [.int x1, .int x2, .int x3]) (st := [.ref (mad P 0)]) lkX4_116 dX4_forbid_5 rfl (Nat.le_of_ble_eq_true rfl) (Nat.le_of_ble_eq_true rfl) (Nat.le_of_ble_eq_true rfl) (mRecv C) (fun _ z => met_X4_needForbid σ x1 x2 x3 z) (fun r1 hr1 => ?_)
  refine v_callV_mi C (As := [.int r1]) (st := []) lkX4_61 dX4_forbid_8 rfl (Nat.le_of_ble_eq_true rfl) (Nat.le_of_ble_eq_true rfl) (Nat.le_of_ble_eq_true rfl) (mRecv C) (fun _ z => met_X4_refused σ r1 z) (fun r2 hr2 => ?_)
  refine v_if_eq C (tgt := 16) dX4_forbid_11 rfl (fun _ => ?_) (fun _ => ?_)
  · refine v_aload_n C dX4_forbid_16 0 rfl ?_
    refine v_callV_mv C (As := []) (st := []) lkX4_76 dX4_forbid_17 rfl (Nat.le_of_ble_eq_true rfl) (Nat.le_of_ble_eq_true rfl) (Nat.le_of_ble_eq_true rfl) (mRecv C) (fun _ z => met_X4_saves F r2.2 z) (fun r3 hr3 => ?_)
    refine v_aload_n C dX4_forbid_20 0 rfl ?_
    refine v_iload_n C dX4_forbid_21 1 rfl ?_
    refine v_iload_n C dX4_forbid_22 2 rfl ?_
    refine v_iload_n C dX4_forbid_23 3 rfl ?_
    refine v_callV_mi C (As := [.int x1, .int x2, .int x3]) (st := []) lkX4_119 dX4_forbid_24 rfl (Nat.le_of_ble_eq_true rfl) (Nat.le_of_ble_eq_true rfl) (Nat.le_of_ble_eq_true rfl) (mRecv C) (fun _ z => met_X4_forbids r3 x1 x2 x3 z) (fun r4 hr4 => ?_)
    exact v_ireturn C hm dX4_forbid_27 rfl
  · refine v_iconst C dX4_forbid_14 ci_0 ?_
    exact v_ireturn C hm dX4_forbid_15 rfl
theorem w_allow_20 {P : MP} {X : Ctx} {l : Launch} {S0 : MS} {F : Nat} (C : CX (OM P) X l cX4_allow 3 RX4 (some .int)) (hm : X.2.2.2.2.2.2.2.2.2 = none) {x1 : Int32} (s1 : Int32) (σ : MS) : VF (OM P) X 3 2 42 S0 f_mi (M_allow_20 F x1 s1 σ) σ 20 [(0, .ref (mad P 0)), (1, .int x1)] [.int s1, .ref (mad P 0)] := by
  unfold M_allow_20
  refine v_callV_mi C (As := [.int s1]) (st := []) lkX4_61 dX4_allow_20 rfl (Nat.le_of_ble_eq_true rfl) (Nat.le_of_ble_eq_true rfl) (Nat.le_of_ble_eq_true rfl) (mRecv C) (fun _ z => met_X4_refused σ s1 z) (fun r3 hr3 => ?_)
  refine v_if_eq C (tgt := 28) dX4_allow_23 rfl (fun _ => ?_) (fun _ => ?_)
  · refine v_aload_n C dX4_allow_28 0 rfl ?_
    refine v_iload_n C dX4_allow_29 1 rfl ?_
    refine v_iconst C dX4_allow_30 ci_0 ?_
    refine v_callV_ri C (As := [.int x1, .int 0]) (st := []) lkX4_100 dX4_allow_31 rfl (Nat.le_of_ble_eq_true rfl) (Nat.le_of_ble_eq_true rfl) (Nat.le_of_ble_eq_true rfl) (mRecv C) (fun _ z => met_X4_at r3.2 x1 0 z) (fun r4 hr4 => ?_)
    refine v_istore_n C (lv' := [(2, .int r4), (0, .ref (mad P 0)), (1, .int x1)]) dX4_allow_34 (Nat.le_of_ble_eq_true rfl) rfl ?_
    refine v_aload_n C dX4_allow_35 1 rfl ?_
    refine v_callV_mv C (As := []) (st := []) lkX4_76 dX4_allow_36 rfl (Nat.le_of_ble_eq_true rfl) (Nat.le_of_ble_eq_true rfl) (Nat.le_of_ble_eq_true rfl) (mRecv C) (fun _ z => met_X4_saves F r3.2 z) (fun r5 hr5 => ?_)
    refine v_aload_n C dX4_allow_39 1 rfl ?_
    refine v_iload_n C dX4_allow_40 2 rfl ?_
    refine v_callV_mv C (As := [.int x1]) (st := []) lkX4_103 dX4_allow_41 rfl (Nat.le_of_ble_eq_true rfl) (Nat.le_of_ble_eq_true rfl) (Nat.le_of_ble_eq_true rfl) (mRecv C) (fun _ z => met_X4_dropsStretch F r5 x1 z) (fun r6 hr6 => ?_)
    refine v_iload_n C dX4_allow_44 0 rfl ?_
    exact v_ireturn C hm dX4_allow_45 rfl
  · refine v_iconst C dX4_allow_26 ci_0 ?_
    exact v_ireturn C hm dX4_allow_27 rfl
theorem met_X4_allow {P : MP} {l : Launch} (F : Nat) (σ : MS) (x1 : Int32) {r : Int32 × MS} (h : M_allow F σ x1 = some r) : FM l (OM P) yX4_allow (ws_ yX4_allow cX4_allow 3 (some .int)) 2 42 [.ref (mad P 0), .int x1] σ (f_mi r) := by
  refine FM.of (own := RX4) (lv := [(0, .ref (mad P 0)), (1, .int x1)]) (OM_ok P) pl_X4 rfl (Nat.le_of_ble_eq_true rfl) rfl h OM_le (fun X C hm => ?_)
  unfold M_allow
  refine v_aload_n C dX4_allow_0 0 rfl ?_
  refine v_iload_n C dX4_allow_1 1 rfl ?_
  refine v_iconst C dX4_allow_2 ci_0 ?_
  refine v_aload_n C dX4_allow_3 0 rfl ?_
  refine v_callV_ri C (As := []) (st := [.int 0, .int x1, .ref (mad P 0)]) lkX4_97 dX4_allow_4 rfl (Nat.le_of_ble_eq_true rfl) (Nat.le_of_ble_eq_true rfl) (Nat.le_of_ble_eq_true rfl) (mRecv C) (fun _ z => met_X4_stretchMany σ z) (fun r1 hr1 => ?_)
  refine v_iconst C dX4_allow_7 ci_1 ?_
  refine v_isub C dX4_allow_8 ?_
  refine v_callS_ri C (As := [.int x1, .int 0, .int (r1 - 1)]) (st := [.ref (mad P 0)]) lkX4_69 dX4_allow_9 rfl (Nat.le_of_ble_eq_true rfl) (Nat.le_of_ble_eq_true rfl) (Nat.le_of_ble_eq_true rfl) (fun _ z => met_X4_within σ x1 0 (r1 - 1) z) (fun r2 hr2 => ?_)
  refine v_if_eq C (tgt := 19) dX4_allow_12 rfl (fun _ => ?_) (fun _ => ?_)
  · refine v_iconst C dX4_allow_19 ci_1 ?_
    exact v_sub [0, 1] rfl (w_allow_20 C hm 1 σ)
  · refine v_iconst C dX4_allow_15 ci_0 ?_
    refine v_goto C (tgt := 20) dX4_allow_16 rfl ?_
    exact v_sub [0, 1] rfl (w_allow_20 C hm 0 σ)
theorem w_lays_26 {P : MP} {X : Ctx} {l : Launch} {S0 : MS} {F : Nat} (C : CX (OM P) X l cX4_lays 5 RX4 none) (hm : X.2.2.2.2.2.2.2.2.2 = none) {x1 : Int32} (k2 : Int32 → MS → Option MS) (hk2 : ∀ (z1 : Int32) (τ : MS), VF (OM P) X 5 1 22 S0 f_mv (k2 z1 τ) τ 2 [(0, .ref (mad P 0)), (1, .int z1)] []) (s1 : Int32) (s2 : Int32) (σ : MS) : VF (OM P) X 5 1 22 S0 f_mv (M_lays_26 F k2 x1 s1 s2 σ) σ 26 [(0, .ref (mad P 0)), (1, .int x1)] [.int s2, .int s1, .ref (mad P 5)] := by
  unfold M_lays_26
  refine ms_far C dX4_lays_26 (fun σ1 hσ1 => ?_)
  refine v_iincN C (lv' := fun y2 => [(1, .int y2), (0, .ref (mad P 0))]) dX4_lays_27 1 rfl ci_1 (Nat.le_of_ble_eq_true rfl) (fun _ => rfl) (fun y2 hy2 => ?_)
  refine v_goto C (tgt := 2) dX4_lays_30 rfl ?_
  exact v_sub [1, 0] rfl (hk2 y2 σ1)
theorem w_lays_200 {P : MP} {X : Ctx} {l : Launch} {S0 : MS} {F : Nat} (C : CX (OM P) X l cX4_lays 5 RX4 none) (hm : X.2.2.2.2.2.2.2.2.2 = none) {x1 : Int32} {x2 : Int32} {x3 : Int32} (k105 : Int32 → MS → Option MS) (hk105 : ∀ (z1 : Int32) (τ : MS), VF (OM P) X 5 1 22 S0 f_mv (k105 z1 τ) τ 105 [(0, .ref (mad P 0)), (1, .int z1)] []) (k115 : Int32 → MS → Option MS) (hk115 : ∀ (z2 : Int32) (τ : MS), VF (OM P) X 5 1 22 S0 f_mv (k115 z2 τ) τ 115 [(0, .ref (mad P 0)), (1, .int x1), (2, .int z2)] []) (k125 : Int32 → MS → Option MS) (hk125 : ∀ (z3 : Int32) (τ : MS), VF (OM P) X 5 1 22 S0 f_mv (k125 z3 τ) τ 125 [(0, .ref (mad P 0)), (1, .int x1), (2, .int x2), (3, .int z3)] []) (s1 : Int32) (s2 : Int32) (σ : MS) : VF (OM P) X 5 1 22 S0 f_mv (M_lays_200 F k105 k115 k125 x1 x2 x3 s1 s2 σ) σ 200 [(0, .ref (mad P 0)), (1, .int x1), (2, .int x2), (3, .int x3)] [.int s2, .int s1, .ref (mad P 5)] := by
  unfold M_lays_200
  refine ms_far C dX4_lays_200 (fun σ23 hσ23 => ?_)
  refine v_iincN C (lv' := fun y24 => [(3, .int y24), (0, .ref (mad P 0)), (1, .int x1), (2, .int x2)]) dX4_lays_201 3 rfl ci_1 (Nat.le_of_ble_eq_true rfl) (fun _ => rfl) (fun y24 hy24 => ?_)
  refine v_goto C (tgt := 125) dX4_lays_204 rfl ?_
  exact v_sub [1, 2, 3, 0] rfl (hk125 y24 σ23)
theorem w_lays_207 {P : MP} {X : Ctx} {l : Launch} {S0 : MS} {F : Nat} (C : CX (OM P) X l cX4_lays 5 RX4 none) (hm : X.2.2.2.2.2.2.2.2.2 = none) {x1 : Int32} {x2 : Int32} (k105 : Int32 → MS → Option MS) (hk105 : ∀ (z1 : Int32) (τ : MS), VF (OM P) X 5 1 22 S0 f_mv (k105 z1 τ) τ 105 [(0, .ref (mad P 0)), (1, .int z1)] []) (k115 : Int32 → MS → Option MS) (hk115 : ∀ (z2 : Int32) (τ : MS), VF (OM P) X 5 1 22 S0 f_mv (k115 z2 τ) τ 115 [(0, .ref (mad P 0)), (1, .int x1), (2, .int z2)] []) (σ : MS) : VF (OM P) X 5 1 22 S0 f_mv (M_lays_207 F k105 k115 x1 x2 σ) σ 207 [(0, .ref (mad P 0)), (1, .int x1), (2, .int x2)] [] := by
  unfold M_lays_207
  refine v_iincN C (lv' := fun y22 => [(2, .int y22), (0, .ref (mad P 0)), (1, .int x1)]) dX4_lays_207 2 rfl ci_1 (Nat.le_of_ble_eq_true rfl) (fun _ => rfl) (fun y22 hy22 => ?_)
  refine v_goto C (tgt := 115) dX4_lays_210 rfl ?_
  exact v_sub [1, 2, 0] rfl (hk115 y22 σ)
theorem w_lays_125 {P : MP} {X : Ctx} {l : Launch} {S0 : MS} {F : Nat} (C : CX (OM P) X l cX4_lays 5 RX4 none) (hm : X.2.2.2.2.2.2.2.2.2 = none) {x1 : Int32} {x2 : Int32} (k105 : Int32 → MS → Option MS) (hk105 : ∀ (z1 : Int32) (τ : MS), VF (OM P) X 5 1 22 S0 f_mv (k105 z1 τ) τ 105 [(0, .ref (mad P 0)), (1, .int z1)] []) (k115 : Int32 → MS → Option MS) (hk115 : ∀ (z2 : Int32) (τ : MS), VF (OM P) X 5 1 22 S0 f_mv (k115 z2 τ) τ 115 [(0, .ref (mad P 0)), (1, .int x1), (2, .int z2)] []) : ∀ (n : Nat) (x3 : Int32) (σ : MS), VF (OM P) X 5 1 22 S0 f_mv (M_lays_125 F k105 k115 x1 x2 n x3 σ) σ 125 [(0, .ref (mad P 0)), (1, .int x1), (2, .int x2), (3, .int x3)] [] := by
  intro n
  induction n with
  | zero => intro x3 σ; exact VF.none
  | succ n ih =>
    intro x3 σ
    unfold M_lays_125
    refine v_iload_n C dX4_lays_125 3 rfl ?_
    refine v_aload_n C dX4_lays_126 0 rfl ?_
    refine v_callV_ri C (As := []) (st := [.int x3]) lkX4_65 dX4_lays_127 rfl (Nat.le_of_ble_eq_true rfl) (Nat.le_of_ble_eq_true rfl) (Nat.le_of_ble_eq_true rfl) (mRecv C) (fun _ z => met_X4_many σ z) (fun r16 hr16 => ?_)
    refine v_icmp_ge C (tgt := 207) dX4_lays_130 rfl (fun _ => ?_) (fun _ => ?_)
    · exact v_sub [0, 1, 2] rfl (w_lays_207 C hm k105 hk105 k115 hk115 σ)
    · refine v_aload_n C dX4_lays_133 0 rfl ?_
      refine mg_far C dX4_lays_134 ?_
      refine v_bipush C dX4_lays_137 cb_8 ?_
      refine v_iload_n C dX4_lays_139 2 rfl ?_
      refine v_imul C dX4_lays_140 ?_
      refine v_iload_n C dX4_lays_141 1 rfl ?_
      refine v_iadd C dX4_lays_142 ?_
      refine ml_far C dX4_lays_143 (fun y17 hy17 => ?_)
      refine v_aload_n C dX4_lays_144 0 rfl ?_
      refine mg_far C dX4_lays_145 ?_
      refine v_bipush C dX4_lays_148 cb_8 ?_
      refine v_iload_n C dX4_lays_150 1 rfl ?_
      refine v_imul C dX4_lays_151 ?_
      refine v_iload_n C dX4_lays_152 3 rfl ?_
      refine v_iadd C dX4_lays_153 ?_
      refine ml_far C dX4_lays_154 (fun y18 hy18 => ?_)
      refine v_iadd C dX4_lays_155 ?_
      refine v_leti (fun y19 hy19 => ?_)
      refine v_istore C (lv' := [(4, .int y19), (0, .ref (mad P 0)), (1, .int x1), (2, .int x2), (3, .int x3)]) dX4_lays_156 (Nat.le_of_ble_eq_true rfl) rfl ?_
      refine v_aload_n C dX4_lays_158 1 rfl ?_
      refine mg_far C dX4_lays_159 ?_
      refine v_bipush C dX4_lays_162 cb_8 ?_
      refine v_iload_n C dX4_lays_164 3 rfl ?_
      refine v_imul C dX4_lays_165 ?_
      refine v_iload_n C dX4_lays_166 4 rfl ?_
      refine v_iadd C dX4_lays_167 ?_
      refine v_iload C dX4_lays_168 0 rfl ?_
      refine v_aload_n C dX4_lays_170 1 rfl ?_
      refine mg_far C dX4_lays_171 ?_
      refine v_bipush C dX4_lays_174 cb_8 ?_
      refine v_iload_n C dX4_lays_176 3 rfl ?_
      refine v_imul C dX4_lays_177 ?_
      refine v_iload_n C dX4_lays_178 4 rfl ?_
      refine v_iadd C dX4_lays_179 ?_
      refine ml_far C dX4_lays_180 (fun y20 hy20 => ?_)
      refine v_icmp_ge C (tgt := 189) dX4_lays_181 rfl (fun _ => ?_) (fun _ => ?_)
      · refine v_aload_n C dX4_lays_189 1 rfl ?_
        refine mg_far C dX4_lays_190 ?_
        refine v_bipush C dX4_lays_193 cb_8 ?_
        refine v_iload_n C dX4_lays_195 3 rfl ?_
        refine v_imul C dX4_lays_196 ?_
        refine v_iload_n C dX4_lays_197 4 rfl ?_
        refine v_iadd C dX4_lays_198 ?_
        refine ml_far C dX4_lays_199 (fun y21 hy21 => ?_)
        exact v_sub [1, 2, 3, 4] rfl (w_lays_200 C hm k105 hk105 k115 hk115 (M_lays_125 F k105 k115 x1 x2 n) ih ((8 * x2) + x3) y21 σ)
      · refine v_iload C dX4_lays_184 0 rfl ?_
        refine v_goto C (tgt := 200) dX4_lays_186 rfl ?_
        exact v_sub [1, 2, 3, 4] rfl (w_lays_200 C hm k105 hk105 k115 hk115 (M_lays_125 F k105 k115 x1 x2 n) ih ((8 * x2) + x3) y19 σ)
theorem w_lays_213 {P : MP} {X : Ctx} {l : Launch} {S0 : MS} {F : Nat} (C : CX (OM P) X l cX4_lays 5 RX4 none) (hm : X.2.2.2.2.2.2.2.2.2 = none) {x1 : Int32} (k105 : Int32 → MS → Option MS) (hk105 : ∀ (z1 : Int32) (τ : MS), VF (OM P) X 5 1 22 S0 f_mv (k105 z1 τ) τ 105 [(0, .ref (mad P 0)), (1, .int z1)] []) (σ : MS) : VF (OM P) X 5 1 22 S0 f_mv (M_lays_213 F k105 x1 σ) σ 213 [(0, .ref (mad P 0)), (1, .int x1)] [] := by
  unfold M_lays_213
  refine v_iincN C (lv' := fun y15 => [(1, .int y15), (0, .ref (mad P 0))]) dX4_lays_213 1 rfl ci_1 (Nat.le_of_ble_eq_true rfl) (fun _ => rfl) (fun y15 hy15 => ?_)
  refine v_goto C (tgt := 105) dX4_lays_216 rfl ?_
  exact v_sub [1, 0] rfl (hk105 y15 σ)
theorem w_lays_115 {P : MP} {X : Ctx} {l : Launch} {S0 : MS} {F : Nat} (C : CX (OM P) X l cX4_lays 5 RX4 none) (hm : X.2.2.2.2.2.2.2.2.2 = none) {x1 : Int32} (k105 : Int32 → MS → Option MS) (hk105 : ∀ (z1 : Int32) (τ : MS), VF (OM P) X 5 1 22 S0 f_mv (k105 z1 τ) τ 105 [(0, .ref (mad P 0)), (1, .int z1)] []) : ∀ (n : Nat) (x2 : Int32) (σ : MS), VF (OM P) X 5 1 22 S0 f_mv (M_lays_115 F k105 x1 n x2 σ) σ 115 [(0, .ref (mad P 0)), (1, .int x1), (2, .int x2)] [] := by
  intro n
  induction n with
  | zero => intro x2 σ; exact VF.none
  | succ n ih =>
    intro x2 σ
    unfold M_lays_115
    refine v_iload_n C dX4_lays_115 2 rfl ?_
    refine v_aload_n C dX4_lays_116 0 rfl ?_
    refine v_callV_ri C (As := []) (st := [.int x2]) lkX4_65 dX4_lays_117 rfl (Nat.le_of_ble_eq_true rfl) (Nat.le_of_ble_eq_true rfl) (Nat.le_of_ble_eq_true rfl) (mRecv C) (fun _ z => met_X4_many σ z) (fun r14 hr14 => ?_)
    refine v_icmp_ge C (tgt := 213) dX4_lays_120 rfl (fun _ => ?_) (fun _ => ?_)
    · exact v_sub [0, 1] rfl (w_lays_213 C hm k105 hk105 σ)
    · refine v_iconst C dX4_lays_123 ci_0 ?_
      refine v_istore_n C (lv' := [(3, .int 0), (0, .ref (mad P 0)), (1, .int x1), (2, .int x2)]) dX4_lays_124 (Nat.le_of_ble_eq_true rfl) rfl ?_
      exact v_sub [1, 2, 3, 0] rfl (w_lays_125 C hm k105 hk105 (M_lays_115 F k105 x1 n) ih F 0 σ)
theorem w_lays_105 {P : MP} {X : Ctx} {l : Launch} {S0 : MS} {F : Nat} (C : CX (OM P) X l cX4_lays 5 RX4 none) (hm : X.2.2.2.2.2.2.2.2.2 = none)   : ∀ (n : Nat) (x1 : Int32) (σ : MS), VF (OM P) X 5 1 22 S0 f_mv (M_lays_105 F n x1 σ) σ 105 [(0, .ref (mad P 0)), (1, .int x1)] [] := by
  intro n
  induction n with
  | zero => intro x1 σ; exact VF.none
  | succ n ih =>
    intro x1 σ
    unfold M_lays_105
    refine v_iload_n C dX4_lays_105 1 rfl ?_
    refine v_aload_n C dX4_lays_106 0 rfl ?_
    refine v_callV_ri C (As := []) (st := [.int x1]) lkX4_65 dX4_lays_107 rfl (Nat.le_of_ble_eq_true rfl) (Nat.le_of_ble_eq_true rfl) (Nat.le_of_ble_eq_true rfl) (mRecv C) (fun _ z => met_X4_many σ z) (fun r13 hr13 => ?_)
    refine v_icmp_ge C (tgt := 219) dX4_lays_110 rfl (fun _ => ?_) (fun _ => ?_)
    · exact v_vreturn C hm dX4_lays_219 rfl
    · refine v_iconst C dX4_lays_113 ci_0 ?_
      refine v_istore_n C (lv' := [(2, .int 0), (0, .ref (mad P 0)), (1, .int x1)]) dX4_lays_114 (Nat.le_of_ble_eq_true rfl) rfl ?_
      exact v_sub [1, 2, 0] rfl (w_lays_115 C hm (M_lays_105 F n) ih F 0 σ)
theorem w_lays_103 {P : MP} {X : Ctx} {l : Launch} {S0 : MS} {F : Nat} (C : CX (OM P) X l cX4_lays 5 RX4 none) (hm : X.2.2.2.2.2.2.2.2.2 = none) (σ : MS) : VF (OM P) X 5 1 22 S0 f_mv (M_lays_103 F σ) σ 103 [(0, .ref (mad P 0))] [] := by
  unfold M_lays_103
  refine v_iconst C dX4_lays_103 ci_0 ?_
  refine v_istore_n C (lv' := [(1, .int 0), (0, .ref (mad P 0))]) dX4_lays_104 (Nat.le_of_ble_eq_true rfl) rfl ?_
  exact v_sub [1, 0] rfl (w_lays_105 C hm F 0 σ)
theorem w_lays_35 {P : MP} {X : Ctx} {l : Launch} {S0 : MS} {F : Nat} (C : CX (OM P) X l cX4_lays 5 RX4 none) (hm : X.2.2.2.2.2.2.2.2.2 = none)   : ∀ (n : Nat) (x1 : Int32) (σ : MS), VF (OM P) X 5 1 22 S0 f_mv (M_lays_35 F n x1 σ) σ 35 [(0, .ref (mad P 0)), (1, .int x1)] [] := by
  intro n
  induction n with
  | zero => intro x1 σ; exact VF.none
  | succ n ih =>
    intro x1 σ
    unfold M_lays_35
    refine v_iload_n C dX4_lays_35 1 rfl ?_
    refine v_aload_n C dX4_lays_36 0 rfl ?_
    refine v_callV_ri C (As := []) (st := [.int x1]) lkX4_73 dX4_lays_37 rfl (Nat.le_of_ble_eq_true rfl) (Nat.le_of_ble_eq_true rfl) (Nat.le_of_ble_eq_true rfl) (mRecv C) (fun _ z => met_X4_edgeMany σ z) (fun r3 hr3 => ?_)
    refine v_icmp_ge C (tgt := 103) dX4_lays_40 rfl (fun _ => ?_) (fun _ => ?_)
    · exact v_sub [0] rfl (w_lays_103 C hm σ)
    · refine v_aload_n C dX4_lays_43 0 rfl ?_
      refine mg_far C dX4_lays_44 ?_
      refine v_bipush C dX4_lays_47 cb_8 ?_
      refine v_aload_n C dX4_lays_49 0 rfl ?_
      refine v_iload_n C dX4_lays_50 1 rfl ?_
      refine v_iconst C dX4_lays_51 ci_0 ?_
      refine v_callV_ri C (As := [.int x1, .int 0]) (st := [.int 8, .ref (mad P 5)]) lkX4_79 dX4_lays_52 rfl (Nat.le_of_ble_eq_true rfl) (Nat.le_of_ble_eq_true rfl) (Nat.le_of_ble_eq_true rfl) (mRecv C) (fun _ z => met_X4_of σ x1 0 z) (fun r4 hr4 => ?_)
      refine v_imul C dX4_lays_55 ?_
      refine v_aload_n C dX4_lays_56 0 rfl ?_
      refine v_iload_n C dX4_lays_57 1 rfl ?_
      refine v_iconst C dX4_lays_58 ci_1 ?_
      refine v_callV_ri C (As := [.int x1, .int 1]) (st := [.int (8 * r4), .ref (mad P 5)]) lkX4_79 dX4_lays_59 rfl (Nat.le_of_ble_eq_true rfl) (Nat.le_of_ble_eq_true rfl) (Nat.le_of_ble_eq_true rfl) (mRecv C) (fun _ z => met_X4_of σ x1 1 z) (fun r5 hr5 => ?_)
      refine v_iadd C dX4_lays_62 ?_
      refine v_aload_n C dX4_lays_63 0 rfl ?_
      refine v_iload_n C dX4_lays_64 1 rfl ?_
      refine v_iconst C dX4_lays_65 ci_2 ?_
      refine v_callV_ri C (As := [.int x1, .int 2]) (st := [.int ((8 * r4) + r5), .ref (mad P 5)]) lkX4_79 dX4_lays_66 rfl (Nat.le_of_ble_eq_true rfl) (Nat.le_of_ble_eq_true rfl) (Nat.le_of_ble_eq_true rfl) (mRecv C) (fun _ z => met_X4_of σ x1 2 z) (fun r6 hr6 => ?_)
      refine ms_far C dX4_lays_69 (fun σ7 hσ7 => ?_)
      refine v_aload_n C dX4_lays_70 0 rfl ?_
      refine mg_far C dX4_lays_71 ?_
      refine v_bipush C dX4_lays_74 cb_8 ?_
      refine v_aload_n C dX4_lays_76 0 rfl ?_
      refine v_iload_n C dX4_lays_77 1 rfl ?_
      refine v_iconst C dX4_lays_78 ci_1 ?_
      refine v_callV_ri C (As := [.int x1, .int 1]) (st := [.int 8, .ref (mad P 5)]) lkX4_79 dX4_lays_79 rfl (Nat.le_of_ble_eq_true rfl) (Nat.le_of_ble_eq_true rfl) (Nat.le_of_ble_eq_true rfl) (mRecv C) (fun _ z => met_X4_of σ7 x1 1 z) (fun r8 hr8 => ?_)
      refine v_imul C dX4_lays_82 ?_
      refine v_aload_n C dX4_lays_83 0 rfl ?_
      refine v_iload_n C dX4_lays_84 1 rfl ?_
      refine v_iconst C dX4_lays_85 ci_0 ?_
      refine v_callV_ri C (As := [.int x1, .int 0]) (st := [.int (8 * r8), .ref (mad P 5)]) lkX4_79 dX4_lays_86 rfl (Nat.le_of_ble_eq_true rfl) (Nat.le_of_ble_eq_true rfl) (Nat.le_of_ble_eq_true rfl) (mRecv C) (fun _ z => met_X4_of σ7 x1 0 z) (fun r9 hr9 => ?_)
      refine v_iadd C dX4_lays_89 ?_
      refine v_aload_n C dX4_lays_90 0 rfl ?_
      refine v_iload_n C dX4_lays_91 1 rfl ?_
      refine v_iconst C dX4_lays_92 ci_2 ?_
      refine v_callV_ri C (As := [.int x1, .int 2]) (st := [.int ((8 * r8) + r9), .ref (mad P 5)]) lkX4_79 dX4_lays_93 rfl (Nat.le_of_ble_eq_true rfl) (Nat.le_of_ble_eq_true rfl) (Nat.le_of_ble_eq_true rfl) (mRecv C) (fun _ z => met_X4_of σ7 x1 2 z) (fun r10 hr10 => ?_)
      refine ms_far C dX4_lays_96 (fun σ11 hσ11 => ?_)
      refine v_iincN C (lv' := fun y12 => [(1, .int y12), (0, .ref (mad P 0))]) dX4_lays_97 1 rfl ci_1 (Nat.le_of_ble_eq_true rfl) (fun _ => rfl) (fun y12 hy12 => ?_)
      refine v_goto C (tgt := 35) dX4_lays_100 rfl ?_
      exact v_sub [1, 0] rfl (ih y12 σ11)
theorem w_lays_33 {P : MP} {X : Ctx} {l : Launch} {S0 : MS} {F : Nat} (C : CX (OM P) X l cX4_lays 5 RX4 none) (hm : X.2.2.2.2.2.2.2.2.2 = none) (σ : MS) : VF (OM P) X 5 1 22 S0 f_mv (M_lays_33 F σ) σ 33 [(0, .ref (mad P 0))] [] := by
  unfold M_lays_33
  refine v_iconst C dX4_lays_33 ci_0 ?_
  refine v_istore_n C (lv' := [(1, .int 0), (0, .ref (mad P 0))]) dX4_lays_34 (Nat.le_of_ble_eq_true rfl) rfl ?_
  exact v_sub [1, 0] rfl (w_lays_35 C hm F 0 σ)
theorem w_lays_2 {P : MP} {X : Ctx} {l : Launch} {S0 : MS} {F : Nat} (C : CX (OM P) X l cX4_lays 5 RX4 none) (hm : X.2.2.2.2.2.2.2.2.2 = none)   : ∀ (n : Nat) (x1 : Int32) (σ : MS), VF (OM P) X 5 1 22 S0 f_mv (M_lays_2 F n x1 σ) σ 2 [(0, .ref (mad P 0)), (1, .int x1)] [] := by
  intro n
  induction n with
  | zero => intro x1 σ; exact VF.none
  | succ n ih =>
    intro x1 σ
    unfold M_lays_2
    refine v_iload_n C dX4_lays_2 1 rfl ?_
    refine v_bipush C dX4_lays_3 cb_64 ?_
    refine v_icmp_ge C (tgt := 33) dX4_lays_5 rfl (fun _ => ?_) (fun _ => ?_)
    · exact v_sub [0] rfl (w_lays_33 C hm σ)
    · refine v_aload_n C dX4_lays_8 0 rfl ?_
      refine mg_far C dX4_lays_9 ?_
      refine v_iload_n C dX4_lays_12 1 rfl ?_
      refine v_iload_n C dX4_lays_13 1 rfl ?_
      refine v_bipush C dX4_lays_14 cb_9 ?_
      refine v_irem C dX4_lays_16 (fun _ => ?_)
      refine v_if_ne C (tgt := 24) dX4_lays_17 rfl (fun _ => ?_) (fun _ => ?_)
      · refine v_iconst C dX4_lays_20 ci_0 ?_
        refine v_goto C (tgt := 26) dX4_lays_21 rfl ?_
        exact v_sub [0, 1] rfl (w_lays_26 C hm (M_lays_2 F n) ih x1 0 σ)
      · refine v_ldc C dX4_lays_24 q2236 ?_
        exact v_sub [0, 1] rfl (w_lays_26 C hm (M_lays_2 F n) ih x1 100000 σ)
theorem met_X4_lays {P : MP} {l : Launch} (F : Nat) (σ : MS) {r : MS} (h : M_lays F σ = some r) : FM l (OM P) yX4_lays (ws_ yX4_lays cX4_lays 5 none) 1 22 [.ref (mad P 0)] σ (f_mv r) := by
  refine FM.of (own := RX4) (lv := [(0, .ref (mad P 0))]) (OM_ok P) pl_X4 rfl (Nat.le_of_ble_eq_true rfl) rfl h OM_le (fun X C hm => ?_)
  unfold M_lays
  refine v_iconst C dX4_lays_0 ci_0 ?_
  refine v_istore_n C (lv' := [(1, .int 0), (0, .ref (mad P 0))]) dX4_lays_1 (Nat.le_of_ble_eq_true rfl) rfl ?_
  exact v_sub [1, 0] rfl (w_lays_2 C hm F 0 σ)
theorem w_isConnected_36 {P : MP} {X : Ctx} {l : Launch} {S0 : MS} {F : Nat} (C : CX (OM P) X l cX4_isConnected 3 RX4 (some .boolean)) (hm : X.2.2.2.2.2.2.2.2.2 = none) {x2 : Int32} (k8 : Int32 → Int32 → MS → Option (Int32 × MS)) (hk8 : ∀ (z1 : Int32) (z2 : Int32) (τ : MS), VF (OM P) X 3 2 46 S0 f_mi (k8 z1 z2 τ) τ 8 [(0, .ref (mad P 0)), (1, .int z1), (2, .int z2)] []) (s0 : Int32) (σ : MS) : VF (OM P) X 3 2 46 S0 f_mi (M_isConnected_36 F k8 x2 s0 σ) σ 36 [(0, .ref (mad P 0)), (2, .int x2)] [.int s0] := by
  unfold M_isConnected_36
  refine v_istore_n C (lv' := [(1, .int s0), (0, .ref (mad P 0)), (2, .int x2)]) dX4_isConnected_36 (Nat.le_of_ble_eq_true rfl) rfl ?_
  refine v_iincN C (lv' := fun y5 => [(2, .int y5), (1, .int s0), (0, .ref (mad P 0))]) dX4_isConnected_37 2 rfl ci_1 (Nat.le_of_ble_eq_true rfl) (fun _ => rfl) (fun y5 hy5 => ?_)
  refine v_goto C (tgt := 8) dX4_isConnected_40 rfl ?_
  exact v_sub [2, 1, 0] rfl (hk8 s0 y5 σ)
theorem w_isConnected_35 {P : MP} {X : Ctx} {l : Launch} {S0 : MS} {F : Nat} (C : CX (OM P) X l cX4_isConnected 3 RX4 (some .boolean)) (hm : X.2.2.2.2.2.2.2.2.2 = none) {x2 : Int32} (k8 : Int32 → Int32 → MS → Option (Int32 × MS)) (hk8 : ∀ (z1 : Int32) (z2 : Int32) (τ : MS), VF (OM P) X 3 2 46 S0 f_mi (k8 z1 z2 τ) τ 8 [(0, .ref (mad P 0)), (1, .int z1), (2, .int z2)] []) (σ : MS) : VF (OM P) X 3 2 46 S0 f_mi (M_isConnected_35 F k8 x2 σ) σ 35 [(0, .ref (mad P 0)), (2, .int x2)] [] := by
  unfold M_isConnected_35
  refine v_iconst C dX4_isConnected_35 ci_0 ?_
  exact v_sub [0, 1] rfl (w_isConnected_36 C hm k8 hk8 0 σ)
theorem w_isConnected_8 {P : MP} {X : Ctx} {l : Launch} {S0 : MS} {F : Nat} (C : CX (OM P) X l cX4_isConnected 3 RX4 (some .boolean)) (hm : X.2.2.2.2.2.2.2.2.2 = none)   : ∀ (n : Nat) (x1 : Int32) (x2 : Int32) (σ : MS), VF (OM P) X 3 2 46 S0 f_mi (M_isConnected_8 F n x1 x2 σ) σ 8 [(0, .ref (mad P 0)), (1, .int x1), (2, .int x2)] [] := by
  intro n
  induction n with
  | zero => intro x1 x2 σ; exact VF.none
  | succ n ih =>
    intro x1 x2 σ
    unfold M_isConnected_8
    refine v_iload_n C dX4_isConnected_8 2 rfl ?_
    refine v_aload_n C dX4_isConnected_9 0 rfl ?_
    refine v_callV_ri C (As := []) (st := [.int x2]) lkX4_65 dX4_isConnected_10 rfl (Nat.le_of_ble_eq_true rfl) (Nat.le_of_ble_eq_true rfl) (Nat.le_of_ble_eq_true rfl) (mRecv C) (fun _ z => met_X4_many σ z) (fun r2 hr2 => ?_)
    refine v_icmp_ge C (tgt := 43) dX4_isConnected_13 rfl (fun _ => ?_) (fun _ => ?_)
    · refine v_iload_n C dX4_isConnected_43 1 rfl ?_
      refine v_zz (fun b3 hb3 => ?_)
      exact v_zreturn C hm dX4_isConnected_44 hb3 rfl
    · refine v_iload_n C dX4_isConnected_16 1 rfl ?_
      refine v_if_eq C (tgt := 35) dX4_isConnected_17 rfl (fun _ => ?_) (fun _ => ?_)
      · exact v_sub [0, 2] rfl (w_isConnected_35 C hm (M_isConnected_8 F n) ih σ)
      · refine v_aload_n C dX4_isConnected_20 0 rfl ?_
        refine mg_far C dX4_isConnected_21 ?_
        refine v_iload_n C dX4_isConnected_24 2 rfl ?_
        refine ml_far C dX4_isConnected_25 (fun y4 hy4 => ?_)
        refine v_ldc C dX4_isConnected_26 q2236 ?_
        refine v_icmp_ge C (tgt := 35) dX4_isConnected_28 rfl (fun _ => ?_) (fun _ => ?_)
        · exact v_sub [0, 2] rfl (w_isConnected_35 C hm (M_isConnected_8 F n) ih σ)
        · refine v_iconst C dX4_isConnected_31 ci_1 ?_
          refine v_goto C (tgt := 36) dX4_isConnected_32 rfl ?_
          exact v_sub [0, 2] rfl (w_isConnected_36 C hm (M_isConnected_8 F n) ih 1 σ)
theorem met_X4_isConnected {P : MP} {l : Launch} (F : Nat) (σ : MS) {r : Int32 × MS} (h : M_isConnected F σ = some r) : FM l (OM P) yX4_isConnected (ws_ yX4_isConnected cX4_isConnected 3 (some .boolean)) 2 46 [.ref (mad P 0)] σ (f_mi r) := by
  refine FM.of (own := RX4) (lv := [(0, .ref (mad P 0))]) (OM_ok P) pl_X4 rfl (Nat.le_of_ble_eq_true rfl) rfl h OM_le (fun X C hm => ?_)
  unfold M_isConnected
  refine v_aload_n C dX4_isConnected_0 0 rfl ?_
  refine v_callV_mv C (As := []) (st := []) lkX4_133 dX4_isConnected_1 rfl (Nat.le_of_ble_eq_true rfl) (Nat.le_of_ble_eq_true rfl) (Nat.le_of_ble_eq_true rfl) (mRecv C) (fun _ z => met_X4_lays F σ z) (fun r1 hr1 => ?_)
  refine v_iconst C dX4_isConnected_4 ci_1 ?_
  refine v_istore_n C (lv' := [(1, .int 1), (0, .ref (mad P 0))]) dX4_isConnected_5 (Nat.le_of_ble_eq_true rfl) rfl ?_
  refine v_iconst C dX4_isConnected_6 ci_0 ?_
  refine v_istore_n C (lv' := [(2, .int 0), (1, .int 1), (0, .ref (mad P 0))]) dX4_isConnected_7 (Nat.le_of_ble_eq_true rfl) rfl ?_
  exact v_sub [2, 1, 0] rfl (w_isConnected_8 C hm F 1 0 r1)
theorem met_X4_counted {P : MP} {l : Launch} (F : Nat) (σ : MS) (x1 : Int32) {r : Int32 × MS} (h : M_counted F σ x1 = some r) : FM l (OM P) yX4_counted (ws_ yX4_counted cX4_counted 2 (some .int)) 3 68 [.ref (mad P 0), .int x1] σ (f_mi r) := by
  refine FM.of (own := RX4) (lv := [(0, .ref (mad P 0)), (1, .int x1)]) (OM_ok P) pl_X4 rfl (Nat.le_of_ble_eq_true rfl) rfl h OM_le (fun X C hm => ?_)
  unfold M_counted
  refine v_iload_n C dX4_counted_0 1 rfl ?_
  refine v_if_ne C (tgt := 11) dX4_counted_1 rfl (fun _ => ?_) (fun _ => ?_)
  · refine v_aload_n C dX4_counted_4 0 rfl ?_
    refine v_callV_ri C (As := []) (st := []) lkX4_65 dX4_counted_5 rfl (Nat.le_of_ble_eq_true rfl) (Nat.le_of_ble_eq_true rfl) (Nat.le_of_ble_eq_true rfl) (mRecv C) (fun _ z => met_X4_many σ z) (fun r1 hr1 => ?_)
    refine v_goto C (tgt := 47) dX4_counted_8 rfl ?_
    exact v_ireturn C hm dX4_counted_47 rfl
  · refine v_iload_n C dX4_counted_11 1 rfl ?_
    refine v_iconst C dX4_counted_12 ci_1 ?_
    refine v_icmp_ne C (tgt := 23) dX4_counted_13 rfl (fun _ => ?_) (fun _ => ?_)
    · refine v_aload_n C dX4_counted_16 0 rfl ?_
      refine v_callV_ri C (As := []) (st := []) lkX4_73 dX4_counted_17 rfl (Nat.le_of_ble_eq_true rfl) (Nat.le_of_ble_eq_true rfl) (Nat.le_of_ble_eq_true rfl) (mRecv C) (fun _ z => met_X4_edgeMany σ z) (fun r2 hr2 => ?_)
      refine v_goto C (tgt := 47) dX4_counted_20 rfl ?_
      exact v_ireturn C hm dX4_counted_47 rfl
    · refine v_iload_n C dX4_counted_23 1 rfl ?_
      refine v_iconst C dX4_counted_24 ci_2 ?_
      refine v_icmp_ne C (tgt := 35) dX4_counted_25 rfl (fun _ => ?_) (fun _ => ?_)
      · refine v_aload_n C dX4_counted_28 0 rfl ?_
        refine v_callV_ri C (As := []) (st := []) lkX4_97 dX4_counted_29 rfl (Nat.le_of_ble_eq_true rfl) (Nat.le_of_ble_eq_true rfl) (Nat.le_of_ble_eq_true rfl) (mRecv C) (fun _ z => met_X4_stretchMany σ z) (fun r3 hr3 => ?_)
        refine v_goto C (tgt := 47) dX4_counted_32 rfl ?_
        exact v_ireturn C hm dX4_counted_47 rfl
      · refine v_aload_n C dX4_counted_35 0 rfl ?_
        refine v_callV_mi C (As := []) (st := []) lkX4_122 dX4_counted_36 rfl (Nat.le_of_ble_eq_true rfl) (Nat.le_of_ble_eq_true rfl) (Nat.le_of_ble_eq_true rfl) (mRecv C) (fun _ z => met_X4_isConnected F σ z) (fun r4 hr4 => ?_)
        refine v_if_eq C (tgt := 46) dX4_counted_39 rfl (fun _ => ?_) (fun _ => ?_)
        · refine v_iconst C dX4_counted_46 ci_0 ?_
          exact v_ireturn C hm dX4_counted_47 rfl
        · refine v_iconst C dX4_counted_42 ci_1 ?_
          refine v_goto C (tgt := 47) dX4_counted_43 rfl ?_
          exact v_ireturn C hm dX4_counted_47 rfl
theorem w_count_15 {P : MP} {X : Ctx} {l : Launch} {S0 : MS} {F : Nat} (C : CX (OM P) X l cX4_count 2 RX4 (some .int)) (hm : X.2.2.2.2.2.2.2.2.2 = none) {x1 : Int32} (s1 : Int32) (σ : MS) : VF (OM P) X 2 4 89 S0 f_mi (M_count_15 F x1 s1 σ) σ 15 [(0, .ref (mad P 0)), (1, .int x1)] [.int s1, .ref (mad P 0)] := by
  unfold M_count_15
  refine v_callV_mi C (As := [.int s1]) (st := []) lkX4_61 dX4_count_15 rfl (Nat.le_of_ble_eq_true rfl) (Nat.le_of_ble_eq_true rfl) (Nat.le_of_ble_eq_true rfl) (mRecv C) (fun _ z => met_X4_refused σ s1 z) (fun r2 hr2 => ?_)
  refine v_if_eq C (tgt := 25) dX4_count_18 rfl (fun _ => ?_) (fun _ => ?_)
  · refine v_aload_n C dX4_count_25 0 rfl ?_
    refine v_iload_n C dX4_count_26 1 rfl ?_
    refine v_callV_mi C (As := [.int x1]) (st := []) lkX4_126 dX4_count_27 rfl (Nat.le_of_ble_eq_true rfl) (Nat.le_of_ble_eq_true rfl) (Nat.le_of_ble_eq_true rfl) (mRecv C) (fun _ z => met_X4_counted F r2.2 x1 z) (fun r3 hr3 => ?_)
    exact v_ireturn C hm dX4_count_30 rfl
  · refine v_iconst C dX4_count_21 ci_0 ?_
    refine v_goto C (tgt := 30) dX4_count_22 rfl ?_
    exact v_ireturn C hm dX4_count_30 rfl
theorem met_X4_count {P : MP} {l : Launch} (F : Nat) (σ : MS) (x1 : Int32) {r : Int32 × MS} (h : M_count F σ x1 = some r) : FM l (OM P) yX4_count (ws_ yX4_count cX4_count 2 (some .int)) 4 89 [.ref (mad P 0), .int x1] σ (f_mi r) := by
  refine FM.of (own := RX4) (lv := [(0, .ref (mad P 0)), (1, .int x1)]) (OM_ok P) pl_X4 rfl (Nat.le_of_ble_eq_true rfl) rfl h OM_le (fun X C hm => ?_)
  unfold M_count
  refine v_aload_n C dX4_count_0 0 rfl ?_
  refine v_iload_n C dX4_count_1 1 rfl ?_
  refine v_iconst C dX4_count_2 ci_0 ?_
  refine v_iconst C dX4_count_3 ci_3 ?_
  refine v_callS_ri C (As := [.int x1, .int 0, .int 3]) (st := [.ref (mad P 0)]) lkX4_69 dX4_count_4 rfl (Nat.le_of_ble_eq_true rfl) (Nat.le_of_ble_eq_true rfl) (Nat.le_of_ble_eq_true rfl) (fun _ z => met_X4_within σ x1 0 3 z) (fun r1 hr1 => ?_)
  refine v_if_eq C (tgt := 14) dX4_count_7 rfl (fun _ => ?_) (fun _ => ?_)
  · refine v_iconst C dX4_count_14 ci_1 ?_
    exact v_sub [0, 1] rfl (w_count_15 C hm 1 σ)
  · refine v_iconst C dX4_count_10 ci_0 ?_
    refine v_goto C (tgt := 15) dX4_count_11 rfl ?_
    exact v_sub [0, 1] rfl (w_count_15 C hm 0 σ)
theorem w_edge_27 {P : MP} {X : Ctx} {l : Launch} {S0 : MS} (C : CX (OM P) X l cX4_edge 3 RX4 (some .int)) (hm : X.2.2.2.2.2.2.2.2.2 = none) {x1 : Int32} {x2 : Int32} (s1 : Int32) (σ : MS) : VF (OM P) X 3 2 43 S0 f_mi (M_edge_27 x1 x2 s1 σ) σ 27 [(0, .ref (mad P 0)), (1, .int x1), (2, .int x2)] [.int s1, .ref (mad P 0)] := by
  unfold M_edge_27
  refine v_callV_mi C (As := [.int s1]) (st := []) lkX4_61 dX4_edge_27 rfl (Nat.le_of_ble_eq_true rfl) (Nat.le_of_ble_eq_true rfl) (Nat.le_of_ble_eq_true rfl) (mRecv C) (fun _ z => met_X4_refused σ s1 z) (fun r3 hr3 => ?_)
  refine v_if_eq C (tgt := 37) dX4_edge_30 rfl (fun _ => ?_) (fun _ => ?_)
  · refine v_aload_n C dX4_edge_37 0 rfl ?_
    refine v_iload_n C dX4_edge_38 1 rfl ?_
    refine v_iload_n C dX4_edge_39 2 rfl ?_
    refine v_callV_ri C (As := [.int x1, .int x2]) (st := []) lkX4_79 dX4_edge_40 rfl (Nat.le_of_ble_eq_true rfl) (Nat.le_of_ble_eq_true rfl) (Nat.le_of_ble_eq_true rfl) (mRecv C) (fun _ z => met_X4_of r3.2 x1 x2 z) (fun r4 hr4 => ?_)
    exact v_ireturn C hm dX4_edge_43 rfl
  · refine v_iconst C dX4_edge_33 ci_0 ?_
    refine v_goto C (tgt := 43) dX4_edge_34 rfl ?_
    exact v_ireturn C hm dX4_edge_43 rfl
theorem met_X4_edge {P : MP} {l : Launch} (σ : MS) (x1 : Int32) (x2 : Int32) {r : Int32 × MS} (h : M_edge σ x1 x2 = some r) : FM l (OM P) yX4_edge (ws_ yX4_edge cX4_edge 3 (some .int)) 2 43 [.ref (mad P 0), .int x1, .int x2] σ (f_mi r) := by
  refine FM.of (own := RX4) (lv := [(0, .ref (mad P 0)), (1, .int x1), (2, .int x2)]) (OM_ok P) pl_X4 rfl (Nat.le_of_ble_eq_true rfl) rfl h OM_le (fun X C hm => ?_)
  unfold M_edge
  refine v_aload_n C dX4_edge_0 0 rfl ?_
  refine v_aload_n C dX4_edge_1 0 rfl ?_
  refine v_iload_n C dX4_edge_2 1 rfl ?_
  refine v_callV_ri C (As := [.int x1]) (st := [.ref (mad P 0)]) lkX4_106 dX4_edge_3 rfl (Nat.le_of_ble_eq_true rfl) (Nat.le_of_ble_eq_true rfl) (Nat.le_of_ble_eq_true rfl) (mRecv C) (fun _ z => met_X4_isEdge σ x1 z) (fun r1 hr1 => ?_)
  refine v_if_ne C (tgt := 13) dX4_edge_6 rfl (fun _ => ?_) (fun _ => ?_)
  · refine v_iconst C dX4_edge_9 ci_1 ?_
    refine v_goto C (tgt := 27) dX4_edge_10 rfl ?_
    exact v_sub [0, 1, 2] rfl (w_edge_27 C hm 1 σ)
  · refine v_iload_n C dX4_edge_13 2 rfl ?_
    refine v_iconst C dX4_edge_14 ci_0 ?_
    refine v_iconst C dX4_edge_15 ci_2 ?_
    refine v_callS_ri C (As := [.int x2, .int 0, .int 2]) (st := [.ref (mad P 0)]) lkX4_69 dX4_edge_16 rfl (Nat.le_of_ble_eq_true rfl) (Nat.le_of_ble_eq_true rfl) (Nat.le_of_ble_eq_true rfl) (fun _ z => met_X4_within σ x2 0 2 z) (fun r2 hr2 => ?_)
    refine v_if_ne C (tgt := 26) dX4_edge_19 rfl (fun _ => ?_) (fun _ => ?_)
    · refine v_iconst C dX4_edge_22 ci_2 ?_
      refine v_goto C (tgt := 27) dX4_edge_23 rfl ?_
      exact v_sub [0, 1, 2] rfl (w_edge_27 C hm 2 σ)
    · refine v_iconst C dX4_edge_26 ci_0 ?_
      exact v_sub [0, 1, 2] rfl (w_edge_27 C hm 0 σ)
theorem w_nodeTold_42 {P : MP} {X : Ctx} {l : Launch} {F : Nat} {σ : MS} (C : CX (OM P) X l cX4_nodeTold 5 RX4 (some .int)) (hm : X.2.2.2.2.2.2.2.2.2 = none) {x1 : Int32} {x2 : Int32} {x4 : Int32} (k5 : Int32 → Int32 → Option Int32) (hk5 : ∀ (z3 : Int32) (z4 : Int32), VF (OM P) X 5 1 22 σ (f_ri σ) (k5 z3 z4) σ 5 [(0, .ref (mad P 0)), (1, .int x1), (2, .int x2), (3, .int z3), (4, .int z4)] []) (s0 : Int32) (s1 : Int32) : VF (OM P) X 5 1 22 σ (f_ri σ) (M_nodeTold_42 F k5 σ x1 x2 x4 s0 s1) σ 42 [(0, .ref (mad P 0)), (1, .int x1), (2, .int x2), (4, .int x4)] [.int s1, .int s0] := by
  unfold M_nodeTold_42
  refine v_iadd C dX4_nodeTold_42 ?_
  refine v_leti (fun y6 hy6 => ?_)
  refine v_istore_n C (lv' := [(3, .int y6), (0, .ref (mad P 0)), (1, .int x1), (2, .int x2), (4, .int x4)]) dX4_nodeTold_43 (Nat.le_of_ble_eq_true rfl) rfl ?_
  refine v_iincN C (lv' := fun y7 => [(4, .int y7), (3, .int y6), (0, .ref (mad P 0)), (1, .int x1), (2, .int x2)]) dX4_nodeTold_44 4 rfl ci_1 (Nat.le_of_ble_eq_true rfl) (fun _ => rfl) (fun y7 hy7 => ?_)
  refine v_goto C (tgt := 5) dX4_nodeTold_47 rfl ?_
  exact v_sub [2, 3, 4, 1, 0] rfl (hk5 y6 y7)
theorem w_nodeTold_37 {P : MP} {X : Ctx} {l : Launch} {F : Nat} {σ : MS} (C : CX (OM P) X l cX4_nodeTold 5 RX4 (some .int)) (hm : X.2.2.2.2.2.2.2.2.2 = none) {x1 : Int32} {x2 : Int32} {x4 : Int32} (k5 : Int32 → Int32 → Option Int32) (hk5 : ∀ (z3 : Int32) (z4 : Int32), VF (OM P) X 5 1 22 σ (f_ri σ) (k5 z3 z4) σ 5 [(0, .ref (mad P 0)), (1, .int x1), (2, .int x2), (3, .int z3), (4, .int z4)] []) (s0 : Int32) : VF (OM P) X 5 1 22 σ (f_ri σ) (M_nodeTold_37 F k5 σ x1 x2 x4 s0) σ 37 [(0, .ref (mad P 0)), (1, .int x1), (2, .int x2), (4, .int x4)] [.int s0] := by
  unfold M_nodeTold_37
  refine v_iconst C dX4_nodeTold_37 ci_1 ?_
  refine v_goto C (tgt := 42) dX4_nodeTold_38 rfl ?_
  exact v_sub [0, 1, 2, 3] rfl (w_nodeTold_42 C hm k5 hk5 s0 1)
theorem w_nodeTold_50 {P : MP} {X : Ctx} {l : Launch} {F : Nat} {σ : MS} (C : CX (OM P) X l cX4_nodeTold 5 RX4 (some .int)) (hm : X.2.2.2.2.2.2.2.2.2 = none) {x1 : Int32} {x2 : Int32} {x3 : Int32}  : VF (OM P) X 5 1 22 σ (f_ri σ) (M_nodeTold_50 F σ x1 x2 x3) σ 50 [(0, .ref (mad P 0)), (1, .int x1), (2, .int x2), (3, .int x3)] [] := by
  unfold M_nodeTold_50
  refine v_iload_n C dX4_nodeTold_50 2 rfl ?_
  refine v_if_ne C (tgt := 65) dX4_nodeTold_51 rfl (fun _ => ?_) (fun _ => ?_)
  · refine v_aload_n C dX4_nodeTold_54 0 rfl ?_
    refine mg_now C dX4_nodeTold_55 ?_
    refine v_iconst C dX4_nodeTold_58 ci_1 ?_
    refine v_iload_n C dX4_nodeTold_59 1 rfl ?_
    refine v_iadd C dX4_nodeTold_60 ?_
    refine ml_now C dX4_nodeTold_61 (fun y4 hy4 => ?_)
    refine v_goto C (tgt := 83) dX4_nodeTold_62 rfl ?_
    exact v_ireturn C hm dX4_nodeTold_83 rfl
  · refine v_iload_n C dX4_nodeTold_65 2 rfl ?_
    refine v_iconst C dX4_nodeTold_66 ci_1 ?_
    refine v_icmp_ne C (tgt := 82) dX4_nodeTold_67 rfl (fun _ => ?_) (fun _ => ?_)
    · refine v_aload_n C dX4_nodeTold_70 0 rfl ?_
      refine mg_now C dX4_nodeTold_71 ?_
      refine v_bipush C dX4_nodeTold_74 cb_9 ?_
      refine v_iload_n C dX4_nodeTold_76 1 rfl ?_
      refine v_iadd C dX4_nodeTold_77 ?_
      refine ml_now C dX4_nodeTold_78 (fun y5 hy5 => ?_)
      refine v_goto C (tgt := 83) dX4_nodeTold_79 rfl ?_
      exact v_ireturn C hm dX4_nodeTold_83 rfl
    · refine v_iload_n C dX4_nodeTold_82 3 rfl ?_
      exact v_ireturn C hm dX4_nodeTold_83 rfl
theorem w_nodeTold_5 {P : MP} {X : Ctx} {l : Launch} {F : Nat} {σ : MS} (C : CX (OM P) X l cX4_nodeTold 5 RX4 (some .int)) (hm : X.2.2.2.2.2.2.2.2.2 = none) {x1 : Int32} {x2 : Int32}  : ∀ (n : Nat) (x3 : Int32) (x4 : Int32), VF (OM P) X 5 1 22 σ (f_ri σ) (M_nodeTold_5 F σ x1 x2 n x3 x4) σ 5 [(0, .ref (mad P 0)), (1, .int x1), (2, .int x2), (3, .int x3), (4, .int x4)] [] := by
  intro n
  induction n with
  | zero => intro x3 x4; exact VF.none
  | succ n ih =>
    intro x3 x4
    unfold M_nodeTold_5
    refine v_iload C dX4_nodeTold_5 4 rfl ?_
    refine v_aload_n C dX4_nodeTold_7 0 rfl ?_
    refine v_callV_ri C (As := []) (st := [.int x4]) lkX4_73 dX4_nodeTold_8 rfl (Nat.le_of_ble_eq_true rfl) (Nat.le_of_ble_eq_true rfl) (Nat.le_of_ble_eq_true rfl) (mRecv C) (fun _ z => met_X4_edgeMany σ z) (fun r1 hr1 => ?_)
    refine v_icmp_ge C (tgt := 50) dX4_nodeTold_11 rfl (fun _ => ?_) (fun _ => ?_)
    · exact v_sub [0, 1, 2, 3] rfl (w_nodeTold_50 C hm)
    · refine v_iload_n C dX4_nodeTold_14 3 rfl ?_
      refine v_aload_n C dX4_nodeTold_15 0 rfl ?_
      refine v_iload C dX4_nodeTold_16 4 rfl ?_
      refine v_iconst C dX4_nodeTold_18 ci_0 ?_
      refine v_callV_ri C (As := [.int x4, .int 0]) (st := [.int x3]) lkX4_79 dX4_nodeTold_19 rfl (Nat.le_of_ble_eq_true rfl) (Nat.le_of_ble_eq_true rfl) (Nat.le_of_ble_eq_true rfl) (mRecv C) (fun _ z => met_X4_of σ x4 0 z) (fun r2 hr2 => ?_)
      refine v_iload_n C dX4_nodeTold_22 1 rfl ?_
      refine v_icmp_eq C (tgt := 37) dX4_nodeTold_23 rfl (fun _ => ?_) (fun _ => ?_)
      · exact v_sub [0, 1, 2, 4] rfl (w_nodeTold_37 C hm (M_nodeTold_5 F σ x1 x2 n) ih x3)
      · refine v_aload_n C dX4_nodeTold_26 0 rfl ?_
        refine v_iload C dX4_nodeTold_27 4 rfl ?_
        refine v_iconst C dX4_nodeTold_29 ci_1 ?_
        refine v_callV_ri C (As := [.int x4, .int 1]) (st := [.int x3]) lkX4_79 dX4_nodeTold_30 rfl (Nat.le_of_ble_eq_true rfl) (Nat.le_of_ble_eq_true rfl) (Nat.le_of_ble_eq_true rfl) (mRecv C) (fun _ z => met_X4_of σ x4 1 z) (fun r3 hr3 => ?_)
        refine v_iload_n C dX4_nodeTold_33 1 rfl ?_
        refine v_icmp_ne C (tgt := 41) dX4_nodeTold_34 rfl (fun _ => ?_) (fun _ => ?_)
        · exact v_sub [0, 1, 2, 4] rfl (w_nodeTold_37 C hm (M_nodeTold_5 F σ x1 x2 n) ih x3)
        · refine v_iconst C dX4_nodeTold_41 ci_0 ?_
          exact v_sub [0, 1, 2, 4] rfl (w_nodeTold_42 C hm (M_nodeTold_5 F σ x1 x2 n) ih x3 0)
theorem met_X4_nodeTold {P : MP} {l : Launch} (F : Nat) (σ : MS) (x1 : Int32) (x2 : Int32) {r : Int32} (h : M_nodeTold F σ x1 x2 = some r) : FM l (OM P) yX4_nodeTold (ws_ yX4_nodeTold cX4_nodeTold 5 (some .int)) 1 22 [.ref (mad P 0), .int x1, .int x2] σ ((f_ri σ) r) := by
  refine FM.of (own := RX4) (lv := [(0, .ref (mad P 0)), (1, .int x1), (2, .int x2)]) (OM_ok P) pl_X4 rfl (Nat.le_of_ble_eq_true rfl) rfl h OM_le (fun X C hm => ?_)
  unfold M_nodeTold
  refine v_iconst C dX4_nodeTold_0 ci_0 ?_
  refine v_istore_n C (lv' := [(3, .int 0), (0, .ref (mad P 0)), (1, .int x1), (2, .int x2)]) dX4_nodeTold_1 (Nat.le_of_ble_eq_true rfl) rfl ?_
  refine v_iconst C dX4_nodeTold_2 ci_0 ?_
  refine v_istore C (lv' := [(4, .int 0), (3, .int 0), (0, .ref (mad P 0)), (1, .int x1), (2, .int x2)]) dX4_nodeTold_3 (Nat.le_of_ble_eq_true rfl) rfl ?_
  exact v_sub [2, 3, 4, 1, 0] rfl (w_nodeTold_5 C hm F 0 0)
theorem w_node_27 {P : MP} {X : Ctx} {l : Launch} {S0 : MS} {F : Nat} (C : CX (OM P) X l cX4_node 3 RX4 (some .int)) (hm : X.2.2.2.2.2.2.2.2.2 = none) {x1 : Int32} {x2 : Int32} (s1 : Int32) (σ : MS) : VF (OM P) X 3 2 46 S0 f_mi (M_node_27 F x1 x2 s1 σ) σ 27 [(0, .ref (mad P 0)), (1, .int x1), (2, .int x2)] [.int s1, .ref (mad P 0)] := by
  unfold M_node_27
  refine v_callV_mi C (As := [.int s1]) (st := []) lkX4_61 dX4_node_27 rfl (Nat.le_of_ble_eq_true rfl) (Nat.le_of_ble_eq_true rfl) (Nat.le_of_ble_eq_true rfl) (mRecv C) (fun _ z => met_X4_refused σ s1 z) (fun r3 hr3 => ?_)
  refine v_if_eq C (tgt := 37) dX4_node_30 rfl (fun _ => ?_) (fun _ => ?_)
  · refine v_aload_n C dX4_node_37 0 rfl ?_
    refine v_iload_n C dX4_node_38 1 rfl ?_
    refine v_iload_n C dX4_node_39 2 rfl ?_
    refine v_callV_ri C (As := [.int x1, .int x2]) (st := []) lkX4_129 dX4_node_40 rfl (Nat.le_of_ble_eq_true rfl) (Nat.le_of_ble_eq_true rfl) (Nat.le_of_ble_eq_true rfl) (mRecv C) (fun _ z => met_X4_nodeTold F r3.2 x1 x2 z) (fun r4 hr4 => ?_)
    exact v_ireturn C hm dX4_node_43 rfl
  · refine v_iconst C dX4_node_33 ci_0 ?_
    refine v_goto C (tgt := 43) dX4_node_34 rfl ?_
    exact v_ireturn C hm dX4_node_43 rfl
theorem met_X4_node {P : MP} {l : Launch} (F : Nat) (σ : MS) (x1 : Int32) (x2 : Int32) {r : Int32 × MS} (h : M_node F σ x1 x2 = some r) : FM l (OM P) yX4_node (ws_ yX4_node cX4_node 3 (some .int)) 2 46 [.ref (mad P 0), .int x1, .int x2] σ (f_mi r) := by
  refine FM.of (own := RX4) (lv := [(0, .ref (mad P 0)), (1, .int x1), (2, .int x2)]) (OM_ok P) pl_X4 rfl (Nat.le_of_ble_eq_true rfl) rfl h OM_le (fun X C hm => ?_)
  unfold M_node
  refine v_aload_n C dX4_node_0 0 rfl ?_
  refine v_aload_n C dX4_node_1 0 rfl ?_
  refine v_iload_n C dX4_node_2 1 rfl ?_
  refine v_callV_ri C (As := [.int x1]) (st := [.ref (mad P 0)]) lkX4_83 dX4_node_3 rfl (Nat.le_of_ble_eq_true rfl) (Nat.le_of_ble_eq_true rfl) (Nat.le_of_ble_eq_true rfl) (mRecv C) (fun _ z => met_X4_isNode σ x1 z) (fun r1 hr1 => ?_)
  refine v_if_ne C (tgt := 13) dX4_node_6 rfl (fun _ => ?_) (fun _ => ?_)
  · refine v_iconst C dX4_node_9 ci_1 ?_
    refine v_goto C (tgt := 27) dX4_node_10 rfl ?_
    exact v_sub [0, 1, 2] rfl (w_node_27 C hm 1 σ)
  · refine v_iload_n C dX4_node_13 2 rfl ?_
    refine v_iconst C dX4_node_14 ci_0 ?_
    refine v_iconst C dX4_node_15 ci_2 ?_
    refine v_callS_ri C (As := [.int x2, .int 0, .int 2]) (st := [.ref (mad P 0)]) lkX4_69 dX4_node_16 rfl (Nat.le_of_ble_eq_true rfl) (Nat.le_of_ble_eq_true rfl) (Nat.le_of_ble_eq_true rfl) (fun _ z => met_X4_within σ x2 0 2 z) (fun r2 hr2 => ?_)
    refine v_if_ne C (tgt := 26) dX4_node_19 rfl (fun _ => ?_) (fun _ => ?_)
    · refine v_iconst C dX4_node_22 ci_2 ?_
      refine v_goto C (tgt := 27) dX4_node_23 rfl ?_
      exact v_sub [0, 1, 2] rfl (w_node_27 C hm 2 σ)
    · refine v_iconst C dX4_node_26 ci_0 ?_
      exact v_sub [0, 1, 2] rfl (w_node_27 C hm 0 σ)
theorem w_stretch_33 {P : MP} {X : Ctx} {l : Launch} {S0 : MS} (C : CX (OM P) X l cX4_stretch 3 RX4 (some .int)) (hm : X.2.2.2.2.2.2.2.2.2 = none) {x1 : Int32} {x2 : Int32} (s1 : Int32) (σ : MS) : VF (OM P) X 3 1 22 S0 f_mi (M_stretch_33 x1 x2 s1 σ) σ 33 [(0, .ref (mad P 0)), (1, .int x1), (2, .int x2)] [.int s1, .ref (mad P 0)] := by
  unfold M_stretch_33
  refine v_callV_mi C (As := [.int s1]) (st := []) lkX4_61 dX4_stretch_33 rfl (Nat.le_of_ble_eq_true rfl) (Nat.le_of_ble_eq_true rfl) (Nat.le_of_ble_eq_true rfl) (mRecv C) (fun _ z => met_X4_refused σ s1 z) (fun r4 hr4 => ?_)
  refine v_if_eq C (tgt := 43) dX4_stretch_36 rfl (fun _ => ?_) (fun _ => ?_)
  · refine v_aload_n C dX4_stretch_43 0 rfl ?_
    refine v_iload_n C dX4_stretch_44 1 rfl ?_
    refine v_iload_n C dX4_stretch_45 2 rfl ?_
    refine v_callV_ri C (As := [.int x1, .int x2]) (st := []) lkX4_100 dX4_stretch_46 rfl (Nat.le_of_ble_eq_true rfl) (Nat.le_of_ble_eq_true rfl) (Nat.le_of_ble_eq_true rfl) (mRecv C) (fun _ z => met_X4_at r4.2 x1 x2 z) (fun r5 hr5 => ?_)
    exact v_ireturn C hm dX4_stretch_49 rfl
  · refine v_iconst C dX4_stretch_39 ci_0 ?_
    refine v_goto C (tgt := 49) dX4_stretch_40 rfl ?_
    exact v_ireturn C hm dX4_stretch_49 rfl
theorem met_X4_stretch {P : MP} {l : Launch} (σ : MS) (x1 : Int32) (x2 : Int32) {r : Int32 × MS} (h : M_stretch σ x1 x2 = some r) : FM l (OM P) yX4_stretch (ws_ yX4_stretch cX4_stretch 3 (some .int)) 1 22 [.ref (mad P 0), .int x1, .int x2] σ (f_mi r) := by
  refine FM.of (own := RX4) (lv := [(0, .ref (mad P 0)), (1, .int x1), (2, .int x2)]) (OM_ok P) pl_X4 rfl (Nat.le_of_ble_eq_true rfl) rfl h OM_le (fun X C hm => ?_)
  unfold M_stretch
  refine v_aload_n C dX4_stretch_0 0 rfl ?_
  refine v_iload_n C dX4_stretch_1 1 rfl ?_
  refine v_iconst C dX4_stretch_2 ci_0 ?_
  refine v_aload_n C dX4_stretch_3 0 rfl ?_
  refine v_callV_ri C (As := []) (st := [.int 0, .int x1, .ref (mad P 0)]) lkX4_97 dX4_stretch_4 rfl (Nat.le_of_ble_eq_true rfl) (Nat.le_of_ble_eq_true rfl) (Nat.le_of_ble_eq_true rfl) (mRecv C) (fun _ z => met_X4_stretchMany σ z) (fun r1 hr1 => ?_)
  refine v_iconst C dX4_stretch_7 ci_1 ?_
  refine v_isub C dX4_stretch_8 ?_
  refine v_callS_ri C (As := [.int x1, .int 0, .int (r1 - 1)]) (st := [.ref (mad P 0)]) lkX4_69 dX4_stretch_9 rfl (Nat.le_of_ble_eq_true rfl) (Nat.le_of_ble_eq_true rfl) (Nat.le_of_ble_eq_true rfl) (fun _ z => met_X4_within σ x1 0 (r1 - 1) z) (fun r2 hr2 => ?_)
  refine v_if_ne C (tgt := 19) dX4_stretch_12 rfl (fun _ => ?_) (fun _ => ?_)
  · refine v_iconst C dX4_stretch_15 ci_1 ?_
    refine v_goto C (tgt := 33) dX4_stretch_16 rfl ?_
    exact v_sub [0, 1, 2] rfl (w_stretch_33 C hm 1 σ)
  · refine v_iload_n C dX4_stretch_19 2 rfl ?_
    refine v_iconst C dX4_stretch_20 ci_0 ?_
    refine v_iconst C dX4_stretch_21 ci_2 ?_
    refine v_callS_ri C (As := [.int x2, .int 0, .int 2]) (st := [.ref (mad P 0)]) lkX4_69 dX4_stretch_22 rfl (Nat.le_of_ble_eq_true rfl) (Nat.le_of_ble_eq_true rfl) (Nat.le_of_ble_eq_true rfl) (fun _ z => met_X4_within σ x2 0 2 z) (fun r3 hr3 => ?_)
    refine v_if_ne C (tgt := 32) dX4_stretch_25 rfl (fun _ => ?_) (fun _ => ?_)
    · refine v_iconst C dX4_stretch_28 ci_2 ?_
      refine v_goto C (tgt := 33) dX4_stretch_29 rfl ?_
      exact v_sub [0, 1, 2] rfl (w_stretch_33 C hm 2 σ)
    · refine v_iconst C dX4_stretch_32 ci_0 ?_
      exact v_sub [0, 1, 2] rfl (w_stretch_33 C hm 0 σ)
theorem met_X4_areNodes {P : MP} {l : Launch} (σ : MS) (x1 : Int32) (x2 : Int32) {r : Int32} (h : M_areNodes σ x1 x2 = some r) : FM l (OM P) yX4_areNodes (ws_ yX4_areNodes cX4_areNodes 3 (some .boolean)) 2 43 [.ref (mad P 0), .int x1, .int x2] σ ((f_ri σ) r) := by
  refine FM.of (own := RX4) (lv := [(0, .ref (mad P 0)), (1, .int x1), (2, .int x2)]) (OM_ok P) pl_X4 rfl (Nat.le_of_ble_eq_true rfl) rfl h OM_le (fun X C hm => ?_)
  unfold M_areNodes
  refine v_aload_n C dX4_areNodes_0 0 rfl ?_
  refine v_iload_n C dX4_areNodes_1 1 rfl ?_
  refine v_callV_ri C (As := [.int x1]) (st := []) lkX4_83 dX4_areNodes_2 rfl (Nat.le_of_ble_eq_true rfl) (Nat.le_of_ble_eq_true rfl) (Nat.le_of_ble_eq_true rfl) (mRecv C) (fun _ z => met_X4_isNode σ x1 z) (fun r1 hr1 => ?_)
  refine v_if_eq C (tgt := 20) dX4_areNodes_5 rfl (fun _ => ?_) (fun _ => ?_)
  · refine v_iconst C dX4_areNodes_20 ci_0 ?_
    exact v_zreturn C hm dX4_areNodes_21 (Or.inl rfl) rfl
  · refine v_aload_n C dX4_areNodes_8 0 rfl ?_
    refine v_iload_n C dX4_areNodes_9 2 rfl ?_
    refine v_callV_ri C (As := [.int x2]) (st := []) lkX4_83 dX4_areNodes_10 rfl (Nat.le_of_ble_eq_true rfl) (Nat.le_of_ble_eq_true rfl) (Nat.le_of_ble_eq_true rfl) (mRecv C) (fun _ z => met_X4_isNode σ x2 z) (fun r2 hr2 => ?_)
    refine v_if_eq C (tgt := 20) dX4_areNodes_13 rfl (fun _ => ?_) (fun _ => ?_)
    · refine v_iconst C dX4_areNodes_20 ci_0 ?_
      exact v_zreturn C hm dX4_areNodes_21 (Or.inl rfl) rfl
    · refine v_iconst C dX4_areNodes_16 ci_1 ?_
      refine v_goto C (tgt := 21) dX4_areNodes_17 rfl ?_
      exact v_zreturn C hm dX4_areNodes_21 (Or.inr rfl) rfl
theorem w_distance_15 {P : MP} {X : Ctx} {l : Launch} {S0 : MS} {F : Nat} (C : CX (OM P) X l cX4_distance 3 RX4 (some .int)) (hm : X.2.2.2.2.2.2.2.2.2 = none) {x1 : Int32} {x2 : Int32} (s1 : Int32) (σ : MS) : VF (OM P) X 3 3 65 S0 f_mi (M_distance_15 F x1 x2 s1 σ) σ 15 [(0, .ref (mad P 0)), (1, .int x1), (2, .int x2)] [.int s1, .ref (mad P 0)] := by
  unfold M_distance_15
  refine v_callV_mi C (As := [.int s1]) (st := []) lkX4_61 dX4_distance_15 rfl (Nat.le_of_ble_eq_true rfl) (Nat.le_of_ble_eq_true rfl) (Nat.le_of_ble_eq_true rfl) (mRecv C) (fun _ z => met_X4_refused σ s1 z) (fun r2 hr2 => ?_)
  refine v_if_eq C (tgt := 23) dX4_distance_18 rfl (fun _ => ?_) (fun _ => ?_)
  · refine v_aload_n C dX4_distance_23 0 rfl ?_
    refine v_callV_mv C (As := []) (st := []) lkX4_133 dX4_distance_24 rfl (Nat.le_of_ble_eq_true rfl) (Nat.le_of_ble_eq_true rfl) (Nat.le_of_ble_eq_true rfl) (mRecv C) (fun _ z => met_X4_lays F r2.2 z) (fun r3 hr3 => ?_)
    refine v_aload_n C dX4_distance_27 0 rfl ?_
    refine mg_far C dX4_distance_28 ?_
    refine v_bipush C dX4_distance_31 cb_8 ?_
    refine v_iload_n C dX4_distance_33 1 rfl ?_
    refine v_imul C dX4_distance_34 ?_
    refine v_iload_n C dX4_distance_35 2 rfl ?_
    refine v_iadd C dX4_distance_36 ?_
    refine ml_far C dX4_distance_37 (fun y4 hy4 => ?_)
    refine v_ldc C dX4_distance_38 q2236 ?_
    refine v_icmp_ge C (tgt := 57) dX4_distance_40 rfl (fun _ => ?_) (fun _ => ?_)
    · refine v_iconst C dX4_distance_57 ci_m1 ?_
      exact v_ireturn C hm dX4_distance_58 rfl
    · refine v_aload_n C dX4_distance_43 0 rfl ?_
      refine mg_far C dX4_distance_44 ?_
      refine v_bipush C dX4_distance_47 cb_8 ?_
      refine v_iload_n C dX4_distance_49 1 rfl ?_
      refine v_imul C dX4_distance_50 ?_
      refine v_iload_n C dX4_distance_51 2 rfl ?_
      refine v_iadd C dX4_distance_52 ?_
      refine ml_far C dX4_distance_53 (fun y5 hy5 => ?_)
      refine v_goto C (tgt := 58) dX4_distance_54 rfl ?_
      exact v_ireturn C hm dX4_distance_58 rfl
  · refine v_iconst C dX4_distance_21 ci_0 ?_
    exact v_ireturn C hm dX4_distance_22 rfl
theorem met_X4_distance {P : MP} {l : Launch} (F : Nat) (σ : MS) (x1 : Int32) (x2 : Int32) {r : Int32 × MS} (h : M_distance F σ x1 x2 = some r) : FM l (OM P) yX4_distance (ws_ yX4_distance cX4_distance 3 (some .int)) 3 65 [.ref (mad P 0), .int x1, .int x2] σ (f_mi r) := by
  refine FM.of (own := RX4) (lv := [(0, .ref (mad P 0)), (1, .int x1), (2, .int x2)]) (OM_ok P) pl_X4 rfl (Nat.le_of_ble_eq_true rfl) rfl h OM_le (fun X C hm => ?_)
  unfold M_distance
  refine v_aload_n C dX4_distance_0 0 rfl ?_
  refine v_aload_n C dX4_distance_1 0 rfl ?_
  refine v_iload_n C dX4_distance_2 1 rfl ?_
  refine v_iload_n C dX4_distance_3 2 rfl ?_
  refine v_callV_ri C (As := [.int x1, .int x2]) (st := [.ref (mad P 0)]) lkX4_136 dX4_distance_4 rfl (Nat.le_of_ble_eq_true rfl) (Nat.le_of_ble_eq_true rfl) (Nat.le_of_ble_eq_true rfl) (mRecv C) (fun _ z => met_X4_areNodes σ x1 x2 z) (fun r1 hr1 => ?_)
  refine v_if_eq C (tgt := 14) dX4_distance_7 rfl (fun _ => ?_) (fun _ => ?_)
  · refine v_iconst C dX4_distance_14 ci_1 ?_
    exact v_sub [0, 1, 2] rfl (w_distance_15 C hm 1 σ)
  · refine v_iconst C dX4_distance_10 ci_0 ?_
    refine v_goto C (tgt := 15) dX4_distance_11 rfl ?_
    exact v_sub [0, 1, 2] rfl (w_distance_15 C hm 0 σ)
theorem w_next_161 {P : MP} {X : Ctx} {l : Launch} {S0 : MS} {F : Nat} (C : CX (OM P) X l cX4_next 6 RX4 (some .int)) (hm : X.2.2.2.2.2.2.2.2.2 = none) {x1 : Int32} {x2 : Int32} {x3 : Int32} {x4 : Int32} (k32 : Int32 → Int32 → MS → Option (Int32 × MS)) (hk32 : ∀ (z3 : Int32) (z4 : Int32) (τ : MS), VF (OM P) X 6 3 65 S0 f_mi (k32 z3 z4 τ) τ 32 [(0, .ref (mad P 0)), (1, .int x1), (2, .int x2), (3, .int z3), (4, .int z4)] []) (σ : MS) : VF (OM P) X 6 3 65 S0 f_mi (M_next_161 F k32 x1 x2 x3 x4 σ) σ 161 [(0, .ref (mad P 0)), (1, .int x1), (2, .int x2), (3, .int x3), (4, .int x4)] [] := by
  unfold M_next_161
  refine v_iincN C (lv' := fun y13 => [(4, .int y13), (0, .ref (mad P 0)), (1, .int x1), (2, .int x2), (3, .int x3)]) dX4_next_161 4 rfl ci_1 (Nat.le_of_ble_eq_true rfl) (fun _ => rfl) (fun y13 hy13 => ?_)
  refine v_goto C (tgt := 32) dX4_next_164 rfl ?_
  exact v_sub [1, 2, 3, 4, 0] rfl (hk32 x3 y13 σ)
theorem w_next_158 {P : MP} {X : Ctx} {l : Launch} {S0 : MS} {F : Nat} (C : CX (OM P) X l cX4_next 6 RX4 (some .int)) (hm : X.2.2.2.2.2.2.2.2.2 = none) {x1 : Int32} {x2 : Int32} {x4 : Int32} {x5 : Int32} (k32 : Int32 → Int32 → MS → Option (Int32 × MS)) (hk32 : ∀ (z3 : Int32) (z4 : Int32) (τ : MS), VF (OM P) X 6 3 65 S0 f_mi (k32 z3 z4 τ) τ 32 [(0, .ref (mad P 0)), (1, .int x1), (2, .int x2), (3, .int z3), (4, .int z4)] []) (σ : MS) : VF (OM P) X 6 3 65 S0 f_mi (M_next_158 F k32 x1 x2 x4 x5 σ) σ 158 [(0, .ref (mad P 0)), (1, .int x1), (2, .int x2), (4, .int x4), (5, .int x5)] [] := by
  unfold M_next_158
  refine v_iload C dX4_next_158 4 rfl ?_
  refine v_istore_n C (lv' := [(3, .int x5), (0, .ref (mad P 0)), (1, .int x1), (2, .int x2), (4, .int x4), (5, .int x5)]) dX4_next_160 (Nat.le_of_ble_eq_true rfl) rfl ?_
  exact v_sub [1, 2, 3, 0, 4] rfl (w_next_161 C hm k32 hk32 σ)
theorem w_next_105 {P : MP} {X : Ctx} {l : Launch} {S0 : MS} {F : Nat} (C : CX (OM P) X l cX4_next 6 RX4 (some .int)) (hm : X.2.2.2.2.2.2.2.2.2 = none) {x1 : Int32} {x2 : Int32} {x3 : Int32} {x4 : Int32} (k32 : Int32 → Int32 → MS → Option (Int32 × MS)) (hk32 : ∀ (z3 : Int32) (z4 : Int32) (τ : MS), VF (OM P) X 6 3 65 S0 f_mi (k32 z3 z4 τ) τ 32 [(0, .ref (mad P 0)), (1, .int x1), (2, .int x2), (3, .int z3), (4, .int z4)] []) (s0 : Int32) (σ : MS) : VF (OM P) X 6 3 65 S0 f_mi (M_next_105 F k32 x1 x2 x3 x4 s0 σ) σ 105 [(0, .ref (mad P 0)), (1, .int x1), (2, .int x2), (3, .int x3), (4, .int x4)] [.int s0] := by
  unfold M_next_105
  refine v_istore C (lv' := [(5, .int s0), (0, .ref (mad P 0)), (1, .int x1), (2, .int x2), (3, .int x3), (4, .int x4)]) dX4_next_105 (Nat.le_of_ble_eq_true rfl) rfl ?_
  refine v_iload C dX4_next_107 0 rfl ?_
  refine v_iconst C dX4_next_109 ci_m1 ?_
  refine v_icmp_eq C (tgt := 161) dX4_next_110 rfl (fun _ => ?_) (fun _ => ?_)
  · exact v_sub [1, 2, 3, 4, 5] rfl (w_next_161 C hm k32 hk32 σ)
  · refine v_aload_n C dX4_next_113 1 rfl ?_
    refine v_iload C dX4_next_114 5 rfl ?_
    refine v_iconst C dX4_next_116 ci_2 ?_
    refine v_callV_ri C (As := [.int x4, .int 2]) (st := []) lkX4_79 dX4_next_117 rfl (Nat.le_of_ble_eq_true rfl) (Nat.le_of_ble_eq_true rfl) (Nat.le_of_ble_eq_true rfl) (mRecv C) (fun _ z => met_X4_of σ x4 2 z) (fun r10 hr10 => ?_)
    refine v_aload_n C dX4_next_120 1 rfl ?_
    refine mg_far C dX4_next_121 ?_
    refine v_bipush C dX4_next_124 cb_8 ?_
    refine v_iload C dX4_next_126 0 rfl ?_
    refine v_imul C dX4_next_128 ?_
    refine v_iload_n C dX4_next_129 3 rfl ?_
    refine v_iadd C dX4_next_130 ?_
    refine ml_far C dX4_next_131 (fun y11 hy11 => ?_)
    refine v_iadd C dX4_next_132 ?_
    refine v_aload_n C dX4_next_133 1 rfl ?_
    refine mg_far C dX4_next_134 ?_
    refine v_bipush C dX4_next_137 cb_8 ?_
    refine v_iload_n C dX4_next_139 2 rfl ?_
    refine v_imul C dX4_next_140 ?_
    refine v_iload_n C dX4_next_141 3 rfl ?_
    refine v_iadd C dX4_next_142 ?_
    refine ml_far C dX4_next_143 (fun y12 hy12 => ?_)
    refine v_icmp_ne C (tgt := 161) dX4_next_144 rfl (fun _ => ?_) (fun _ => ?_)
    · refine v_iload_n C dX4_next_147 4 rfl ?_
      refine v_iconst C dX4_next_148 ci_m1 ?_
      refine v_icmp_eq C (tgt := 158) dX4_next_149 rfl (fun _ => ?_) (fun _ => ?_)
      · exact v_sub [1, 2, 3, 5, 0] rfl (w_next_158 C hm k32 hk32 σ)
      · refine v_iload C dX4_next_152 0 rfl ?_
        refine v_iload_n C dX4_next_154 4 rfl ?_
        refine v_icmp_ge C (tgt := 161) dX4_next_155 rfl (fun _ => ?_) (fun _ => ?_)
        · exact v_sub [1, 2, 3, 4, 5] rfl (w_next_161 C hm k32 hk32 σ)
        · exact v_sub [1, 2, 3, 5, 0] rfl (w_next_158 C hm k32 hk32 σ)
    · exact v_sub [1, 2, 3, 4, 5] rfl (w_next_161 C hm k32 hk32 σ)
theorem w_next_32 {P : MP} {X : Ctx} {l : Launch} {S0 : MS} {F : Nat} (C : CX (OM P) X l cX4_next 6 RX4 (some .int)) (hm : X.2.2.2.2.2.2.2.2.2 = none) {x1 : Int32} {x2 : Int32}  : ∀ (n : Nat) (x3 : Int32) (x4 : Int32) (σ : MS), VF (OM P) X 6 3 65 S0 f_mi (M_next_32 F x1 x2 n x3 x4 σ) σ 32 [(0, .ref (mad P 0)), (1, .int x1), (2, .int x2), (3, .int x3), (4, .int x4)] [] := by
  intro n
  induction n with
  | zero => intro x3 x4 σ; exact VF.none
  | succ n ih =>
    intro x3 x4 σ
    unfold M_next_32
    refine v_iload C dX4_next_32 4 rfl ?_
    refine v_aload_n C dX4_next_34 0 rfl ?_
    refine v_callV_ri C (As := []) (st := [.int x4]) lkX4_73 dX4_next_35 rfl (Nat.le_of_ble_eq_true rfl) (Nat.le_of_ble_eq_true rfl) (Nat.le_of_ble_eq_true rfl) (mRecv C) (fun _ z => met_X4_edgeMany σ z) (fun r4 hr4 => ?_)
    refine v_icmp_ge C (tgt := 167) dX4_next_38 rfl (fun _ => ?_) (fun _ => ?_)
    · refine v_iload_n C dX4_next_167 3 rfl ?_
      exact v_ireturn C hm dX4_next_168 rfl
    · refine v_iload_n C dX4_next_41 1 rfl ?_
      refine v_iload_n C dX4_next_42 2 rfl ?_
      refine v_icmp_eq C (tgt := 167) dX4_next_43 rfl (fun _ => ?_) (fun _ => ?_)
      · refine v_iload_n C dX4_next_167 3 rfl ?_
        exact v_ireturn C hm dX4_next_168 rfl
      · refine v_aload_n C dX4_next_46 0 rfl ?_
        refine mg_far C dX4_next_47 ?_
        refine v_bipush C dX4_next_50 cb_8 ?_
        refine v_iload_n C dX4_next_52 1 rfl ?_
        refine v_imul C dX4_next_53 ?_
        refine v_iload_n C dX4_next_54 2 rfl ?_
        refine v_iadd C dX4_next_55 ?_
        refine ml_far C dX4_next_56 (fun y5 hy5 => ?_)
        refine v_ldc C dX4_next_57 q2236 ?_
        refine v_icmp_ge C (tgt := 167) dX4_next_59 rfl (fun _ => ?_) (fun _ => ?_)
        · refine v_iload_n C dX4_next_167 3 rfl ?_
          exact v_ireturn C hm dX4_next_168 rfl
        · refine v_aload_n C dX4_next_62 0 rfl ?_
          refine v_iload C dX4_next_63 4 rfl ?_
          refine v_iconst C dX4_next_65 ci_0 ?_
          refine v_callV_ri C (As := [.int x4, .int 0]) (st := []) lkX4_79 dX4_next_66 rfl (Nat.le_of_ble_eq_true rfl) (Nat.le_of_ble_eq_true rfl) (Nat.le_of_ble_eq_true rfl) (mRecv C) (fun _ z => met_X4_of σ x4 0 z) (fun r6 hr6 => ?_)
          refine v_iload_n C dX4_next_69 1 rfl ?_
          refine v_icmp_ne C (tgt := 83) dX4_next_70 rfl (fun _ => ?_) (fun _ => ?_)
          · refine v_aload_n C dX4_next_73 0 rfl ?_
            refine v_iload C dX4_next_74 4 rfl ?_
            refine v_iconst C dX4_next_76 ci_1 ?_
            refine v_callV_ri C (As := [.int x4, .int 1]) (st := []) lkX4_79 dX4_next_77 rfl (Nat.le_of_ble_eq_true rfl) (Nat.le_of_ble_eq_true rfl) (Nat.le_of_ble_eq_true rfl) (mRecv C) (fun _ z => met_X4_of σ x4 1 z) (fun r7 hr7 => ?_)
            refine v_goto C (tgt := 105) dX4_next_80 rfl ?_
            exact v_sub [0, 1, 2, 3, 4] rfl (w_next_105 C hm (M_next_32 F x1 x2 n) ih r7 σ)
          · refine v_aload_n C dX4_next_83 0 rfl ?_
            refine v_iload C dX4_next_84 4 rfl ?_
            refine v_iconst C dX4_next_86 ci_1 ?_
            refine v_callV_ri C (As := [.int x4, .int 1]) (st := []) lkX4_79 dX4_next_87 rfl (Nat.le_of_ble_eq_true rfl) (Nat.le_of_ble_eq_true rfl) (Nat.le_of_ble_eq_true rfl) (mRecv C) (fun _ z => met_X4_of σ x4 1 z) (fun r8 hr8 => ?_)
            refine v_iload_n C dX4_next_90 1 rfl ?_
            refine v_icmp_ne C (tgt := 104) dX4_next_91 rfl (fun _ => ?_) (fun _ => ?_)
            · refine v_aload_n C dX4_next_94 0 rfl ?_
              refine v_iload C dX4_next_95 4 rfl ?_
              refine v_iconst C dX4_next_97 ci_0 ?_
              refine v_callV_ri C (As := [.int x4, .int 0]) (st := []) lkX4_79 dX4_next_98 rfl (Nat.le_of_ble_eq_true rfl) (Nat.le_of_ble_eq_true rfl) (Nat.le_of_ble_eq_true rfl) (mRecv C) (fun _ z => met_X4_of σ x4 0 z) (fun r9 hr9 => ?_)
              refine v_goto C (tgt := 105) dX4_next_101 rfl ?_
              exact v_sub [0, 1, 2, 3, 4] rfl (w_next_105 C hm (M_next_32 F x1 x2 n) ih r9 σ)
            · refine v_iconst C dX4_next_104 ci_m1 ?_
              exact v_sub [0, 1, 2, 3, 4] rfl (w_next_105 C hm (M_next_32 F x1 x2 n) ih (-1) σ)
theorem w_next_15 {P : MP} {X : Ctx} {l : Launch} {S0 : MS} {F : Nat} (C : CX (OM P) X l cX4_next 6 RX4 (some .int)) (hm : X.2.2.2.2.2.2.2.2.2 = none) {x1 : Int32} {x2 : Int32} (s1 : Int32) (σ : MS) : VF (OM P) X 6 3 65 S0 f_mi (M_next_15 F x1 x2 s1 σ) σ 15 [(0, .ref (mad P 0)), (1, .int x1), (2, .int x2)] [.int s1, .ref (mad P 0)] := by
  unfold M_next_15
  refine v_callV_mi C (As := [.int s1]) (st := []) lkX4_61 dX4_next_15 rfl (Nat.le_of_ble_eq_true rfl) (Nat.le_of_ble_eq_true rfl) (Nat.le_of_ble_eq_true rfl) (mRecv C) (fun _ z => met_X4_refused σ s1 z) (fun r2 hr2 => ?_)
  refine v_if_eq C (tgt := 23) dX4_next_18 rfl (fun _ => ?_) (fun _ => ?_)
  · refine v_aload_n C dX4_next_23 0 rfl ?_
    refine v_callV_mv C (As := []) (st := []) lkX4_133 dX4_next_24 rfl (Nat.le_of_ble_eq_true rfl) (Nat.le_of_ble_eq_true rfl) (Nat.le_of_ble_eq_true rfl) (mRecv C) (fun _ z => met_X4_lays F r2.2 z) (fun r3 hr3 => ?_)
    refine v_iconst C dX4_next_27 ci_m1 ?_
    refine v_istore_n C (lv' := [(3, .int (-1)), (0, .ref (mad P 0)), (1, .int x1), (2, .int x2)]) dX4_next_28 (Nat.le_of_ble_eq_true rfl) rfl ?_
    refine v_iconst C dX4_next_29 ci_0 ?_
    refine v_istore C (lv' := [(4, .int 0), (3, .int (-1)), (0, .ref (mad P 0)), (1, .int x1), (2, .int x2)]) dX4_next_30 (Nat.le_of_ble_eq_true rfl) rfl ?_
    exact v_sub [2, 3, 4, 1, 0] rfl (w_next_32 C hm F (-1) 0 r3)
  · refine v_iconst C dX4_next_21 ci_0 ?_
    exact v_ireturn C hm dX4_next_22 rfl
theorem met_X4_next {P : MP} {l : Launch} (F : Nat) (σ : MS) (x1 : Int32) (x2 : Int32) {r : Int32 × MS} (h : M_next F σ x1 x2 = some r) : FM l (OM P) yX4_next (ws_ yX4_next cX4_next 6 (some .int)) 3 65 [.ref (mad P 0), .int x1, .int x2] σ (f_mi r) := by
  refine FM.of (own := RX4) (lv := [(0, .ref (mad P 0)), (1, .int x1), (2, .int x2)]) (OM_ok P) pl_X4 rfl (Nat.le_of_ble_eq_true rfl) rfl h OM_le (fun X C hm => ?_)
  unfold M_next
  refine v_aload_n C dX4_next_0 0 rfl ?_
  refine v_aload_n C dX4_next_1 0 rfl ?_
  refine v_iload_n C dX4_next_2 1 rfl ?_
  refine v_iload_n C dX4_next_3 2 rfl ?_
  refine v_callV_ri C (As := [.int x1, .int x2]) (st := [.ref (mad P 0)]) lkX4_136 dX4_next_4 rfl (Nat.le_of_ble_eq_true rfl) (Nat.le_of_ble_eq_true rfl) (Nat.le_of_ble_eq_true rfl) (mRecv C) (fun _ z => met_X4_areNodes σ x1 x2 z) (fun r1 hr1 => ?_)
  refine v_if_eq C (tgt := 14) dX4_next_7 rfl (fun _ => ?_) (fun _ => ?_)
  · refine v_iconst C dX4_next_14 ci_1 ?_
    exact v_sub [0, 1, 2] rfl (w_next_15 C hm 1 σ)
  · refine v_iconst C dX4_next_10 ci_0 ?_
    refine v_goto C (tgt := 15) dX4_next_11 rfl ?_
    exact v_sub [0, 1, 2] rfl (w_next_15 C hm 0 σ)
theorem w_diameter_66 {P : MP} {X : Ctx} {l : Launch} {S0 : MS} {F : Nat} (C : CX (OM P) X l cX4_diameter 4 RX4 (some .int)) (hm : X.2.2.2.2.2.2.2.2.2 = none) {x2 : Int32} {x3 : Int32} (k18 : Int32 → Int32 → MS → Option (Int32 × MS)) (hk18 : ∀ (z1 : Int32) (z2 : Int32) (τ : MS), VF (OM P) X 4 3 68 S0 f_mi (k18 z1 z2 τ) τ 18 [(0, .ref (mad P 0)), (1, .int z1), (2, .int z2)] []) (k28 : Int32 → Int32 → MS → Option (Int32 × MS)) (hk28 : ∀ (z1 : Int32) (z3 : Int32) (τ : MS), VF (OM P) X 4 3 68 S0 f_mi (k28 z1 z3 τ) τ 28 [(0, .ref (mad P 0)), (1, .int z1), (2, .int x2), (3, .int z3)] []) (s0 : Int32) (σ : MS) : VF (OM P) X 4 3 68 S0 f_mi (M_diameter_66 F k18 k28 x2 x3 s0 σ) σ 66 [(0, .ref (mad P 0)), (2, .int x2), (3, .int x3)] [.int s0] := by
  unfold M_diameter_66
  refine v_istore_n C (lv' := [(1, .int s0), (0, .ref (mad P 0)), (2, .int x2), (3, .int x3)]) dX4_diameter_66 (Nat.le_of_ble_eq_true rfl) rfl ?_
  refine v_iincN C (lv' := fun y8 => [(3, .int y8), (1, .int s0), (0, .ref (mad P 0)), (2, .int x2)]) dX4_diameter_67 3 rfl ci_1 (Nat.le_of_ble_eq_true rfl) (fun _ => rfl) (fun y8 hy8 => ?_)
  refine v_goto C (tgt := 28) dX4_diameter_70 rfl ?_
  exact v_sub [2, 1, 3, 0] rfl (hk28 s0 y8 σ)
theorem w_diameter_73 {P : MP} {X : Ctx} {l : Launch} {S0 : MS} {F : Nat} (C : CX (OM P) X l cX4_diameter 4 RX4 (some .int)) (hm : X.2.2.2.2.2.2.2.2.2 = none) {x1 : Int32} {x2 : Int32} (k18 : Int32 → Int32 → MS → Option (Int32 × MS)) (hk18 : ∀ (z1 : Int32) (z2 : Int32) (τ : MS), VF (OM P) X 4 3 68 S0 f_mi (k18 z1 z2 τ) τ 18 [(0, .ref (mad P 0)), (1, .int z1), (2, .int z2)] []) (σ : MS) : VF (OM P) X 4 3 68 S0 f_mi (M_diameter_73 F k18 x1 x2 σ) σ 73 [(0, .ref (mad P 0)), (1, .int x1), (2, .int x2)] [] := by
  unfold M_diameter_73
  refine v_iincN C (lv' := fun y7 => [(2, .int y7), (0, .ref (mad P 0)), (1, .int x1)]) dX4_diameter_73 2 rfl ci_1 (Nat.le_of_ble_eq_true rfl) (fun _ => rfl) (fun y7 hy7 => ?_)
  refine v_goto C (tgt := 18) dX4_diameter_76 rfl ?_
  exact v_sub [1, 2, 0] rfl (hk18 x1 y7 σ)
theorem w_diameter_28 {P : MP} {X : Ctx} {l : Launch} {S0 : MS} {F : Nat} (C : CX (OM P) X l cX4_diameter 4 RX4 (some .int)) (hm : X.2.2.2.2.2.2.2.2.2 = none) {x2 : Int32} (k18 : Int32 → Int32 → MS → Option (Int32 × MS)) (hk18 : ∀ (z1 : Int32) (z2 : Int32) (τ : MS), VF (OM P) X 4 3 68 S0 f_mi (k18 z1 z2 τ) τ 18 [(0, .ref (mad P 0)), (1, .int z1), (2, .int z2)] []) : ∀ (n : Nat) (x1 : Int32) (x3 : Int32) (σ : MS), VF (OM P) X 4 3 68 S0 f_mi (M_diameter_28 F k18 x2 n x1 x3 σ) σ 28 [(0, .ref (mad P 0)), (1, .int x1), (2, .int x2), (3, .int x3)] [] := by
  intro n
  induction n with
  | zero => intro x1 x3 σ; exact VF.none
  | succ n ih =>
    intro x1 x3 σ
    unfold M_diameter_28
    refine v_iload_n C dX4_diameter_28 3 rfl ?_
    refine v_aload_n C dX4_diameter_29 0 rfl ?_
    refine v_callV_ri C (As := []) (st := [.int x3]) lkX4_65 dX4_diameter_30 rfl (Nat.le_of_ble_eq_true rfl) (Nat.le_of_ble_eq_true rfl) (Nat.le_of_ble_eq_true rfl) (mRecv C) (fun _ z => met_X4_many σ z) (fun r4 hr4 => ?_)
    refine v_icmp_ge C (tgt := 73) dX4_diameter_33 rfl (fun _ => ?_) (fun _ => ?_)
    · exact v_sub [0, 1, 2] rfl (w_diameter_73 C hm k18 hk18 σ)
    · refine v_aload_n C dX4_diameter_36 0 rfl ?_
      refine mg_far C dX4_diameter_37 ?_
      refine v_bipush C dX4_diameter_40 cb_8 ?_
      refine v_iload_n C dX4_diameter_42 2 rfl ?_
      refine v_imul C dX4_diameter_43 ?_
      refine v_iload_n C dX4_diameter_44 3 rfl ?_
      refine v_iadd C dX4_diameter_45 ?_
      refine ml_far C dX4_diameter_46 (fun y5 hy5 => ?_)
      refine v_iload_n C dX4_diameter_47 1 rfl ?_
      refine v_icmp_le C (tgt := 65) dX4_diameter_48 rfl (fun _ => ?_) (fun _ => ?_)
      · refine v_iload_n C dX4_diameter_65 1 rfl ?_
        exact v_sub [0, 2, 3] rfl (w_diameter_66 C hm k18 hk18 (M_diameter_28 F k18 x2 n) ih x1 σ)
      · refine v_aload_n C dX4_diameter_51 0 rfl ?_
        refine mg_far C dX4_diameter_52 ?_
        refine v_bipush C dX4_diameter_55 cb_8 ?_
        refine v_iload_n C dX4_diameter_57 2 rfl ?_
        refine v_imul C dX4_diameter_58 ?_
        refine v_iload_n C dX4_diameter_59 3 rfl ?_
        refine v_iadd C dX4_diameter_60 ?_
        refine ml_far C dX4_diameter_61 (fun y6 hy6 => ?_)
        refine v_goto C (tgt := 66) dX4_diameter_62 rfl ?_
        exact v_sub [0, 2, 3] rfl (w_diameter_66 C hm k18 hk18 (M_diameter_28 F k18 x2 n) ih y6 σ)
theorem w_diameter_18 {P : MP} {X : Ctx} {l : Launch} {S0 : MS} {F : Nat} (C : CX (OM P) X l cX4_diameter 4 RX4 (some .int)) (hm : X.2.2.2.2.2.2.2.2.2 = none)   : ∀ (n : Nat) (x1 : Int32) (x2 : Int32) (σ : MS), VF (OM P) X 4 3 68 S0 f_mi (M_diameter_18 F n x1 x2 σ) σ 18 [(0, .ref (mad P 0)), (1, .int x1), (2, .int x2)] [] := by
  intro n
  induction n with
  | zero => intro x1 x2 σ; exact VF.none
  | succ n ih =>
    intro x1 x2 σ
    unfold M_diameter_18
    refine v_iload_n C dX4_diameter_18 2 rfl ?_
    refine v_aload_n C dX4_diameter_19 0 rfl ?_
    refine v_callV_ri C (As := []) (st := [.int x2]) lkX4_65 dX4_diameter_20 rfl (Nat.le_of_ble_eq_true rfl) (Nat.le_of_ble_eq_true rfl) (Nat.le_of_ble_eq_true rfl) (mRecv C) (fun _ z => met_X4_many σ z) (fun r3 hr3 => ?_)
    refine v_icmp_ge C (tgt := 79) dX4_diameter_23 rfl (fun _ => ?_) (fun _ => ?_)
    · refine v_iload_n C dX4_diameter_79 1 rfl ?_
      exact v_ireturn C hm dX4_diameter_80 rfl
    · refine v_iconst C dX4_diameter_26 ci_0 ?_
      refine v_istore_n C (lv' := [(3, .int 0), (0, .ref (mad P 0)), (1, .int x1), (2, .int x2)]) dX4_diameter_27 (Nat.le_of_ble_eq_true rfl) rfl ?_
      exact v_sub [1, 2, 3, 0] rfl (w_diameter_28 C hm (M_diameter_18 F n) ih F x1 0 σ)
theorem met_X4_diameter {P : MP} {l : Launch} (F : Nat) (σ : MS) {r : Int32 × MS} (h : M_diameter F σ = some r) : FM l (OM P) yX4_diameter (ws_ yX4_diameter cX4_diameter 4 (some .int)) 3 68 [.ref (mad P 0)] σ (f_mi r) := by
  refine FM.of (own := RX4) (lv := [(0, .ref (mad P 0))]) (OM_ok P) pl_X4 rfl (Nat.le_of_ble_eq_true rfl) rfl h OM_le (fun X C hm => ?_)
  unfold M_diameter
  refine v_aload_n C dX4_diameter_0 0 rfl ?_
  refine v_iconst C dX4_diameter_1 ci_0 ?_
  refine mp_refusal C dX4_diameter_2 (fun σ1 hσ1 => ?_)
  refine v_aload_n C dX4_diameter_5 0 rfl ?_
  refine v_callV_mi C (As := []) (st := []) lkX4_122 dX4_diameter_6 rfl (Nat.le_of_ble_eq_true rfl) (Nat.le_of_ble_eq_true rfl) (Nat.le_of_ble_eq_true rfl) (mRecv C) (fun _ z => met_X4_isConnected F σ1 z) (fun r2 hr2 => ?_)
  refine v_if_ne C (tgt := 14) dX4_diameter_9 rfl (fun _ => ?_) (fun _ => ?_)
  · refine v_iconst C dX4_diameter_12 ci_m1 ?_
    exact v_ireturn C hm dX4_diameter_13 rfl
  · refine v_iconst C dX4_diameter_14 ci_0 ?_
    refine v_istore_n C (lv' := [(1, .int 0), (0, .ref (mad P 0))]) dX4_diameter_15 (Nat.le_of_ble_eq_true rfl) rfl ?_
    refine v_iconst C dX4_diameter_16 ci_0 ?_
    refine v_istore_n C (lv' := [(2, .int 0), (1, .int 0), (0, .ref (mad P 0))]) dX4_diameter_17 (Nat.le_of_ble_eq_true rfl) rfl ?_
    exact v_sub [2, 1, 0] rfl (w_diameter_18 C hm F 0 0 r2.2)
theorem met_X4_falling {P : MP} {l : Launch} (σ : MS) (x1 : Int32) (x2 : Int32) (x3 : Int64) (x5 : Int64) {r : Int64} (h : M_falling σ x1 x2 x3 x5 = some r) : FM l (OM P) yX4_falling (ws_ yX4_falling cX4_falling 7 (some .long)) 1 22 [.ref (mad P 0), .int x1, .int x2, .long x3, .long x5] σ ((f_rl σ) r) := by
  refine FM.of (own := RX4) (lv := [(0, .ref (mad P 0)), (1, .int x1), (2, .int x2), (3, .long x3), (5, .long x5)]) (OM_ok P) pl_X4 rfl (Nat.le_of_ble_eq_true rfl) rfl h OM_le (fun X C hm => ?_)
  unfold M_falling
  refine v_lload C dX4_falling_0 4 rfl ?_
  refine v_aload_n C dX4_falling_2 0 rfl ?_
  refine mg_far C dX4_falling_3 ?_
  refine v_bipush C dX4_falling_6 cb_8 ?_
  refine v_iload_n C dX4_falling_8 1 rfl ?_
  refine v_imul C dX4_falling_9 ?_
  refine v_aload_n C dX4_falling_10 0 rfl ?_
  refine v_iload_n C dX4_falling_11 2 rfl ?_
  refine v_iconst C dX4_falling_12 ci_1 ?_
  refine v_callV_ri C (As := [.int x2, .int 1]) (st := [.int (8 * x1), .ref (mad P 5), .long x5]) lkX4_79 dX4_falling_13 rfl (Nat.le_of_ble_eq_true rfl) (Nat.le_of_ble_eq_true rfl) (Nat.le_of_ble_eq_true rfl) (mRecv C) (fun _ z => met_X4_of σ x2 1 z) (fun r1 hr1 => ?_)
  refine v_iadd C dX4_falling_16 ?_
  refine ml_far C dX4_falling_17 (fun y2 hy2 => ?_)
  refine v_aload_n C dX4_falling_18 0 rfl ?_
  refine v_iload_n C dX4_falling_19 2 rfl ?_
  refine v_iconst C dX4_falling_20 ci_2 ?_
  refine v_callV_ri C (As := [.int x2, .int 2]) (st := [.int y2, .long x5]) lkX4_79 dX4_falling_21 rfl (Nat.le_of_ble_eq_true rfl) (Nat.le_of_ble_eq_true rfl) (Nat.le_of_ble_eq_true rfl) (mRecv C) (fun _ z => met_X4_of σ x2 2 z) (fun r3 hr3 => ?_)
  refine v_iadd C dX4_falling_24 ?_
  refine v_i2l C dX4_falling_25 ?_
  refine v_lmul C dX4_falling_26 ?_
  refine v_lload_n C dX4_falling_27 3 rfl ?_
  refine v_lsub C dX4_falling_28 ?_
  exact v_lreturn C hm dX4_falling_29 rfl
theorem met_X4_rising {P : MP} {l : Launch} (σ : MS) (x1 : Int32) (x2 : Int32) (x3 : Int64) (x5 : Int64) {r : Int64} (h : M_rising σ x1 x2 x3 x5 = some r) : FM l (OM P) yX4_rising (ws_ yX4_rising cX4_rising 7 (some .long)) 1 22 [.ref (mad P 0), .int x1, .int x2, .long x3, .long x5] σ ((f_rl σ) r) := by
  refine FM.of (own := RX4) (lv := [(0, .ref (mad P 0)), (1, .int x1), (2, .int x2), (3, .long x3), (5, .long x5)]) (OM_ok P) pl_X4 rfl (Nat.le_of_ble_eq_true rfl) rfl h OM_le (fun X C hm => ?_)
  unfold M_rising
  refine v_lload C dX4_rising_0 4 rfl ?_
  refine v_aload_n C dX4_rising_2 0 rfl ?_
  refine mg_far C dX4_rising_3 ?_
  refine v_bipush C dX4_rising_6 cb_8 ?_
  refine v_iload_n C dX4_rising_8 1 rfl ?_
  refine v_imul C dX4_rising_9 ?_
  refine v_aload_n C dX4_rising_10 0 rfl ?_
  refine v_iload_n C dX4_rising_11 2 rfl ?_
  refine v_iconst C dX4_rising_12 ci_0 ?_
  refine v_callV_ri C (As := [.int x2, .int 0]) (st := [.int (8 * x1), .ref (mad P 5), .long x5]) lkX4_79 dX4_rising_13 rfl (Nat.le_of_ble_eq_true rfl) (Nat.le_of_ble_eq_true rfl) (Nat.le_of_ble_eq_true rfl) (mRecv C) (fun _ z => met_X4_of σ x2 0 z) (fun r1 hr1 => ?_)
  refine v_iadd C dX4_rising_16 ?_
  refine ml_far C dX4_rising_17 (fun y2 hy2 => ?_)
  refine v_i2l C dX4_rising_18 ?_
  refine v_lmul C dX4_rising_19 ?_
  refine v_lload_n C dX4_rising_20 3 rfl ?_
  refine v_ladd C dX4_rising_21 ?_
  exact v_lreturn C hm dX4_rising_22 rfl
theorem met_X4_away {P : MP} {l : Launch} (σ : MS) (x1 : Int32) (x2 : Int32) (x3 : Int64) (x5 : Int64) {r : Int64} (h : M_away σ x1 x2 x3 x5 = some r) : FM l (OM P) yX4_away (ws_ yX4_away cX4_away 11 (some .long)) 2 48 [.ref (mad P 0), .int x1, .int x2, .long x3, .long x5] σ ((f_rl σ) r) := by
  refine FM.of (own := RX4) (lv := [(0, .ref (mad P 0)), (1, .int x1), (2, .int x2), (3, .long x3), (5, .long x5)]) (OM_ok P) pl_X4 rfl (Nat.le_of_ble_eq_true rfl) rfl h OM_le (fun X C hm => ?_)
  unfold M_away
  refine v_aload_n C dX4_away_0 0 rfl ?_
  refine v_iload_n C dX4_away_1 1 rfl ?_
  refine v_iload_n C dX4_away_2 2 rfl ?_
  refine v_lload_n C dX4_away_3 3 rfl ?_
  refine v_lload C dX4_away_4 4 rfl ?_
  refine v_callV_rl C (As := [.int x1, .int x2, .long x3, .long x5]) (st := []) lkX4_143 dX4_away_6 rfl (Nat.le_of_ble_eq_true rfl) (Nat.le_of_ble_eq_true rfl) (Nat.le_of_ble_eq_true rfl) (mRecv C) (fun _ z => met_X4_rising σ x1 x2 x3 x5 z) (fun r1 hr1 => ?_)
  refine v_lstore C (lv' := [(7, .long r1), (0, .ref (mad P 0)), (1, .int x1), (2, .int x2), (3, .long x3), (5, .long x5)]) dX4_away_9 (Nat.le_of_ble_eq_true rfl) rfl ?_
  refine v_aload_n C dX4_away_11 1 rfl ?_
  refine v_iload_n C dX4_away_12 2 rfl ?_
  refine v_iload_n C dX4_away_13 3 rfl ?_
  refine v_lload_n C dX4_away_14 4 rfl ?_
  refine v_lload C dX4_away_15 5 rfl ?_
  refine v_callV_rl C (As := [.int x1, .int x2, .long x3, .long x5]) (st := []) lkX4_147 dX4_away_17 rfl (Nat.le_of_ble_eq_true rfl) (Nat.le_of_ble_eq_true rfl) (Nat.le_of_ble_eq_true rfl) (mRecv C) (fun _ z => met_X4_falling σ x1 x2 x3 x5 z) (fun r2 hr2 => ?_)
  refine v_lstore C (lv' := [(9, .long r2), (7, .long r1), (0, .ref (mad P 0)), (1, .int x1), (2, .int x2), (3, .long x3), (5, .long x5)]) dX4_away_20 (Nat.le_of_ble_eq_true rfl) rfl ?_
  refine v_lload C dX4_away_22 1 rfl ?_
  refine v_lload C dX4_away_24 0 rfl ?_
  refine v_lcmp_ge C (tgt := 35) dX4_away_26 dX4_away_27 rfl (fun _ => ?_) (fun _ => ?_)
  · refine v_lload C dX4_away_35 0 rfl ?_
    exact v_lreturn C hm dX4_away_37 rfl
  · refine v_lload C dX4_away_30 1 rfl ?_
    refine v_goto C (tgt := 37) dX4_away_32 rfl ?_
    exact v_lreturn C hm dX4_away_37 rfl
theorem met_X4_isPoint {P : MP} {l : Launch} (σ : MS) (x1 : Int32) (x2 : Int32) (x3 : Int32) {r : Int32} (h : M_isPoint σ x1 x2 x3 = some r) : FM l (OM P) yX4_isPoint (ws_ yX4_isPoint cX4_isPoint 4 (some .boolean)) 1 22 [.ref (mad P 0), .int x1, .int x2, .int x3] σ ((f_ri σ) r) := by
  refine FM.of (own := RX4) (lv := [(0, .ref (mad P 0)), (1, .int x1), (2, .int x2), (3, .int x3)]) (OM_ok P) pl_X4 rfl (Nat.le_of_ble_eq_true rfl) rfl h OM_le (fun X C hm => ?_)
  unfold M_isPoint
  refine v_iload_n C dX4_isPoint_0 3 rfl ?_
  refine v_iconst C dX4_isPoint_1 ci_1 ?_
  refine v_sipush C dX4_isPoint_2 cs_1000 ?_
  refine v_callS_ri C (As := [.int x3, .int 1, .int 1000]) (st := []) lkX4_69 dX4_isPoint_5 rfl (Nat.le_of_ble_eq_true rfl) (Nat.le_of_ble_eq_true rfl) (Nat.le_of_ble_eq_true rfl) (fun _ z => met_X4_within σ x3 1 1000 z) (fun r1 hr1 => ?_)
  refine v_if_eq C (tgt := 35) dX4_isPoint_8 rfl (fun _ => ?_) (fun _ => ?_)
  · refine v_iconst C dX4_isPoint_35 ci_0 ?_
    exact v_zreturn C hm dX4_isPoint_36 (Or.inl rfl) rfl
  · refine v_iload_n C dX4_isPoint_11 2 rfl ?_
    refine v_if_lt C (tgt := 35) dX4_isPoint_12 rfl (fun _ => ?_) (fun _ => ?_)
    · refine v_iconst C dX4_isPoint_35 ci_0 ?_
      exact v_zreturn C hm dX4_isPoint_36 (Or.inl rfl) rfl
    · refine v_iload_n C dX4_isPoint_15 2 rfl ?_
      refine v_i2l C dX4_isPoint_16 ?_
      refine v_iload_n C dX4_isPoint_17 3 rfl ?_
      refine v_i2l C dX4_isPoint_18 ?_
      refine v_aload_n C dX4_isPoint_19 0 rfl ?_
      refine v_iload_n C dX4_isPoint_20 1 rfl ?_
      refine v_iconst C dX4_isPoint_21 ci_2 ?_
      refine v_callV_ri C (As := [.int x1, .int 2]) (st := [.long (x3.toInt64), .long (x2.toInt64)]) lkX4_79 dX4_isPoint_22 rfl (Nat.le_of_ble_eq_true rfl) (Nat.le_of_ble_eq_true rfl) (Nat.le_of_ble_eq_true rfl) (mRecv C) (fun _ z => met_X4_of σ x1 2 z) (fun r2 hr2 => ?_)
      refine v_i2l C dX4_isPoint_25 ?_
      refine v_lmul C dX4_isPoint_26 ?_
      refine v_lcmp_gt C (tgt := 35) dX4_isPoint_27 dX4_isPoint_28 rfl (fun _ => ?_) (fun _ => ?_)
      · refine v_iconst C dX4_isPoint_35 ci_0 ?_
        exact v_zreturn C hm dX4_isPoint_36 (Or.inl rfl) rfl
      · refine v_iconst C dX4_isPoint_31 ci_1 ?_
        refine v_goto C (tgt := 36) dX4_isPoint_32 rfl ?_
        exact v_zreturn C hm dX4_isPoint_36 (Or.inr rfl) rfl
theorem w_divisor_6 {P : MP} {X : Ctx} {l : Launch} {F : Nat} {σ : MS} (C : CX (OM P) X l cX4_divisor 10 RX4 (some .long)) (hm : X.2.2.2.2.2.2.2.2.2 = none)   : ∀ (n : Nat) (x4 : Int64) (x6 : Int64), VF (OM P) X 10 0 0 σ (f_rl σ) (M_divisor_6 F n x4 x6) σ 6 [(4, .long x4), (6, .long x6)] [] := by
  intro n
  induction n with
  | zero => intro x4 x6; exact VF.none
  | succ n ih =>
    intro x4 x6
    unfold M_divisor_6
    refine v_lload C dX4_divisor_6 1 rfl ?_
    refine v_lconst C dX4_divisor_8 cl_0 ?_
    refine v_lcmp_eq C (tgt := 31) dX4_divisor_9 dX4_divisor_10 rfl (fun _ => ?_) (fun _ => ?_)
    · refine v_lload C dX4_divisor_31 0 rfl ?_
      exact v_lreturn C hm dX4_divisor_33 rfl
    · refine v_lload C dX4_divisor_13 0 rfl ?_
      refine v_lload C dX4_divisor_15 1 rfl ?_
      refine v_lrem C dX4_divisor_17 (fun _ => ?_)
      refine v_letl (fun y1 hy1 => ?_)
      refine v_lstore C (lv' := [(8, .long y1), (4, .long x4), (6, .long x6)]) dX4_divisor_18 (Nat.le_of_ble_eq_true rfl) rfl ?_
      refine v_lload C dX4_divisor_20 2 rfl ?_
      refine v_lstore C (lv' := [(4, .long x6), (8, .long y1), (6, .long x6)]) dX4_divisor_22 (Nat.le_of_ble_eq_true rfl) rfl ?_
      refine v_lload C dX4_divisor_24 1 rfl ?_
      refine v_lstore C (lv' := [(6, .long y1), (4, .long x6), (8, .long y1)]) dX4_divisor_26 (Nat.le_of_ble_eq_true rfl) rfl ?_
      refine v_goto C (tgt := 6) dX4_divisor_28 rfl ?_
      exact v_sub [1, 0] rfl (ih x6 y1)
theorem met_X4_divisor {P : MP} {l : Launch} (F : Nat) (σ : MS) (x0 : Int64) (x2 : Int64) {r : Int64} (h : M_divisor F x0 x2 = some r) : FM l (OM P) yX4_divisor (ws_ yX4_divisor cX4_divisor 10 (some .long)) 0 0 [.long x0, .long x2] σ ((f_rl σ) r) := by
  refine FM.of (own := RX4) (lv := [(0, .long x0), (2, .long x2)]) (OM_ok P) pl_X4 rfl (Nat.le_of_ble_eq_true rfl) rfl h OM_le (fun X C hm => ?_)
  unfold M_divisor
  refine v_lload_n C dX4_divisor_0 0 rfl ?_
  refine v_lstore C (lv' := [(4, .long x0), (0, .long x0), (2, .long x2)]) dX4_divisor_1 (Nat.le_of_ble_eq_true rfl) rfl ?_
  refine v_lload_n C dX4_divisor_3 2 rfl ?_
  refine v_lstore C (lv' := [(6, .long x2), (4, .long x0), (0, .long x0), (2, .long x2)]) dX4_divisor_4 (Nat.le_of_ble_eq_true rfl) rfl ?_
  exact v_sub [1, 0] rfl (w_divisor_6 C hm F x0 x2)
theorem w_reduced_17 {P : MP} {X : Ctx} {l : Launch} {F : Nat} {σ : MS} (C : CX (OM P) X l cX4_reduced 7 RX4 (some .int)) (hm : X.2.2.2.2.2.2.2.2.2 = none) {x5 : Int64} (s0 : Int64) : VF (OM P) X 7 1 29 σ (f_ri σ) (M_reduced_17 F x5 s0) σ 17 [(5, .long x5)] [.long s0] := by
  unfold M_reduced_17
  refine v_lload C dX4_reduced_17 0 rfl ?_
  refine v_ldiv C dX4_reduced_19 (fun _ => ?_)
  refine v_l2i C dX4_reduced_20 ?_
  exact v_ireturn C hm dX4_reduced_21 rfl
theorem met_X4_reduced {P : MP} {l : Launch} (F : Nat) (σ : MS) (x0 : Int64) (x2 : Int64) (x4 : Int32) {r : Int32} (h : M_reduced F x0 x2 x4 = some r) : FM l (OM P) yX4_reduced (ws_ yX4_reduced cX4_reduced 7 (some .int)) 1 29 [.long x0, .long x2, .int x4] σ ((f_ri σ) r) := by
  refine FM.of (own := RX4) (lv := [(0, .long x0), (2, .long x2), (4, .int x4)]) (OM_ok P) pl_X4 rfl (Nat.le_of_ble_eq_true rfl) rfl h OM_le (fun X C hm => ?_)
  unfold M_reduced
  refine v_lload_n C dX4_reduced_0 0 rfl ?_
  refine v_lload_n C dX4_reduced_1 1 rfl ?_
  refine v_callS_rl C (As := [.long x0, .long x2]) (st := []) lkX4_139 dX4_reduced_2 rfl (Nat.le_of_ble_eq_true rfl) (Nat.le_of_ble_eq_true rfl) (Nat.le_of_ble_eq_true rfl) (fun _ z => met_X4_divisor F σ x0 x2 z) (fun r1 hr1 => ?_)
  refine v_lstore C (lv' := [(5, .long r1), (0, .long x0), (2, .long x2), (4, .int x4)]) dX4_reduced_5 (Nat.le_of_ble_eq_true rfl) rfl ?_
  refine v_iload C dX4_reduced_7 3 rfl ?_
  refine v_if_ne C (tgt := 16) dX4_reduced_9 rfl (fun _ => ?_) (fun _ => ?_)
  · refine v_lload_n C dX4_reduced_12 1 rfl ?_
    refine v_goto C (tgt := 17) dX4_reduced_13 rfl ?_
    exact v_sub [0] rfl (w_reduced_17 C hm x0)
  · refine v_lload_n C dX4_reduced_16 2 rfl ?_
    exact v_sub [0] rfl (w_reduced_17 C hm x2)
theorem w_distanceTo_105 {P : MP} {X : Ctx} {l : Launch} {S0 : MS} {F : Nat} (C : CX (OM P) X l cX4_distanceTo 8 RX4 (some .int)) (hm : X.2.2.2.2.2.2.2.2.2 = none) {x1 : Int32} {x2 : Int32} {x3 : Int32} {x4 : Int32} {x5 : Int32} (s1 : Int32) (σ : MS) : VF (OM P) X 8 3 78 S0 f_mi (M_distanceTo_105 F x1 x2 x3 x4 x5 s1 σ) σ 105 [(0, .ref (mad P 0)), (1, .int x1), (2, .int x2), (3, .int x3), (4, .int x4), (5, .int x5)] [.int s1, .ref (mad P 0)] := by
  unfold M_distanceTo_105
  refine v_callV_mi C (As := [.int s1]) (st := []) lkX4_61 dX4_distanceTo_105 rfl (Nat.le_of_ble_eq_true rfl) (Nat.le_of_ble_eq_true rfl) (Nat.le_of_ble_eq_true rfl) (mRecv C) (fun _ z => met_X4_refused σ s1 z) (fun r8 hr8 => ?_)
  refine v_if_eq C (tgt := 113) dX4_distanceTo_108 rfl (fun _ => ?_) (fun _ => ?_)
  · refine v_aload_n C dX4_distanceTo_113 0 rfl ?_
    refine v_iload_n C dX4_distanceTo_114 1 rfl ?_
    refine v_iload_n C dX4_distanceTo_115 2 rfl ?_
    refine v_iload_n C dX4_distanceTo_116 3 rfl ?_
    refine v_i2l C dX4_distanceTo_117 ?_
    refine v_iload C dX4_distanceTo_118 4 rfl ?_
    refine v_i2l C dX4_distanceTo_120 ?_
    refine v_callV_rl C (As := [.int x1, .int x2, .long (x3.toInt64), .long (x4.toInt64)]) (st := []) lkX4_153 dX4_distanceTo_121 rfl (Nat.le_of_ble_eq_true rfl) (Nat.le_of_ble_eq_true rfl) (Nat.le_of_ble_eq_true rfl) (mRecv C) (fun _ z => met_X4_away r8.2 x1 x2 (x3.toInt64) (x4.toInt64) z) (fun r9 hr9 => ?_)
    refine v_iload C dX4_distanceTo_124 4 rfl ?_
    refine v_i2l C dX4_distanceTo_126 ?_
    refine v_iload C dX4_distanceTo_127 5 rfl ?_
    refine v_callS_ri C (As := [.long r9, .long (x4.toInt64), .int x5]) (st := []) lkX4_156 dX4_distanceTo_129 rfl (Nat.le_of_ble_eq_true rfl) (Nat.le_of_ble_eq_true rfl) (Nat.le_of_ble_eq_true rfl) (fun _ z => met_X4_reduced F r8.2 r9 (x4.toInt64) x5 z) (fun r10 hr10 => ?_)
    exact v_ireturn C hm dX4_distanceTo_132 rfl
  · refine v_iconst C dX4_distanceTo_111 ci_0 ?_
    exact v_ireturn C hm dX4_distanceTo_112 rfl
theorem w_distanceTo_54 {P : MP} {X : Ctx} {l : Launch} {S0 : MS} {F : Nat} (C : CX (OM P) X l cX4_distanceTo 8 RX4 (some .int)) (hm : X.2.2.2.2.2.2.2.2.2 = none) {x1 : Int32} {x2 : Int32} {x3 : Int32} {x4 : Int32} {x5 : Int32} {x6 : Int32} (s0 : Int32) (σ : MS) : VF (OM P) X 8 3 78 S0 f_mi (M_distanceTo_54 F x1 x2 x3 x4 x5 x6 s0 σ) σ 54 [(0, .ref (mad P 0)), (1, .int x1), (2, .int x2), (3, .int x3), (4, .int x4), (5, .int x5), (6, .int x6)] [.int s0] := by
  unfold M_distanceTo_54
  refine v_istore C (lv' := [(7, .int s0), (0, .ref (mad P 0)), (1, .int x1), (2, .int x2), (3, .int x3), (4, .int x4), (5, .int x5), (6, .int x6)]) dX4_distanceTo_54 (Nat.le_of_ble_eq_true rfl) rfl ?_
  refine v_aload_n C dX4_distanceTo_56 1 rfl ?_
  refine v_callV_mv C (As := []) (st := []) lkX4_133 dX4_distanceTo_57 rfl (Nat.le_of_ble_eq_true rfl) (Nat.le_of_ble_eq_true rfl) (Nat.le_of_ble_eq_true rfl) (mRecv C) (fun _ z => met_X4_lays F σ z) (fun r5 hr5 => ?_)
  refine v_aload_n C dX4_distanceTo_60 1 rfl ?_
  refine v_iload C dX4_distanceTo_61 7 rfl ?_
  refine v_if_ne C (tgt := 70) dX4_distanceTo_63 rfl (fun _ => ?_) (fun _ => ?_)
  · refine v_iconst C dX4_distanceTo_66 ci_1 ?_
    refine v_goto C (tgt := 105) dX4_distanceTo_67 rfl ?_
    exact v_sub [1, 2, 3, 4, 5, 6] rfl (w_distanceTo_105 C hm 1 r5)
  · refine v_iload C dX4_distanceTo_70 0 rfl ?_
    refine v_if_ne C (tgt := 79) dX4_distanceTo_72 rfl (fun _ => ?_) (fun _ => ?_)
    · refine v_iconst C dX4_distanceTo_75 ci_2 ?_
      refine v_goto C (tgt := 105) dX4_distanceTo_76 rfl ?_
      exact v_sub [1, 2, 3, 4, 5, 6] rfl (w_distanceTo_105 C hm 2 r5)
    · refine v_aload_n C dX4_distanceTo_79 1 rfl ?_
      refine mg_far C dX4_distanceTo_80 ?_
      refine v_bipush C dX4_distanceTo_83 cb_8 ?_
      refine v_iload_n C dX4_distanceTo_85 2 rfl ?_
      refine v_imul C dX4_distanceTo_86 ?_
      refine v_aload_n C dX4_distanceTo_87 1 rfl ?_
      refine v_iload_n C dX4_distanceTo_88 3 rfl ?_
      refine v_iconst C dX4_distanceTo_89 ci_0 ?_
      refine v_callV_ri C (As := [.int x2, .int 0]) (st := [.int (8 * x1), .ref (mad P 5), .ref (mad P 0)]) lkX4_79 dX4_distanceTo_90 rfl (Nat.le_of_ble_eq_true rfl) (Nat.le_of_ble_eq_true rfl) (Nat.le_of_ble_eq_true rfl) (mRecv C) (fun _ z => met_X4_of r5 x2 0 z) (fun r6 hr6 => ?_)
      refine v_iadd C dX4_distanceTo_93 ?_
      refine ml_far C dX4_distanceTo_94 (fun y7 hy7 => ?_)
      refine v_ldc C dX4_distanceTo_95 q2236 ?_
      refine v_icmp_lt C (tgt := 104) dX4_distanceTo_97 rfl (fun _ => ?_) (fun _ => ?_)
      · refine v_iconst C dX4_distanceTo_104 ci_0 ?_
        exact v_sub [1, 2, 3, 4, 5, 6] rfl (w_distanceTo_105 C hm 0 r5)
      · refine v_iconst C dX4_distanceTo_100 ci_3 ?_
        refine v_goto C (tgt := 105) dX4_distanceTo_101 rfl ?_
        exact v_sub [1, 2, 3, 4, 5, 6] rfl (w_distanceTo_105 C hm 3 r5)
theorem w_distanceTo_53 {P : MP} {X : Ctx} {l : Launch} {S0 : MS} {F : Nat} (C : CX (OM P) X l cX4_distanceTo 8 RX4 (some .int)) (hm : X.2.2.2.2.2.2.2.2.2 = none) {x1 : Int32} {x2 : Int32} {x3 : Int32} {x4 : Int32} {x5 : Int32} {x6 : Int32} (σ : MS) : VF (OM P) X 8 3 78 S0 f_mi (M_distanceTo_53 F x1 x2 x3 x4 x5 x6 σ) σ 53 [(0, .ref (mad P 0)), (1, .int x1), (2, .int x2), (3, .int x3), (4, .int x4), (5, .int x5), (6, .int x6)] [] := by
  unfold M_distanceTo_53
  refine v_iconst C dX4_distanceTo_53 ci_0 ?_
  exact v_sub [0, 1, 2, 3, 4, 5, 6] rfl (w_distanceTo_54 C hm 0 σ)
theorem w_distanceTo_21 {P : MP} {X : Ctx} {l : Launch} {S0 : MS} {F : Nat} (C : CX (OM P) X l cX4_distanceTo 8 RX4 (some .int)) (hm : X.2.2.2.2.2.2.2.2.2 = none) {x1 : Int32} {x2 : Int32} {x3 : Int32} {x4 : Int32} {x5 : Int32} (s0 : Int32) (σ : MS) : VF (OM P) X 8 3 78 S0 f_mi (M_distanceTo_21 F x1 x2 x3 x4 x5 s0 σ) σ 21 [(0, .ref (mad P 0)), (1, .int x1), (2, .int x2), (3, .int x3), (4, .int x4), (5, .int x5)] [.int s0] := by
  unfold M_distanceTo_21
  refine v_istore C (lv' := [(6, .int s0), (0, .ref (mad P 0)), (1, .int x1), (2, .int x2), (3, .int x3), (4, .int x4), (5, .int x5)]) dX4_distanceTo_21 (Nat.le_of_ble_eq_true rfl) rfl ?_
  refine v_iload C dX4_distanceTo_23 0 rfl ?_
  refine v_if_eq C (tgt := 53) dX4_distanceTo_25 rfl (fun _ => ?_) (fun _ => ?_)
  · exact v_sub [1, 2, 3, 4, 5, 6, 0] rfl (w_distanceTo_53 C hm σ)
  · refine v_aload_n C dX4_distanceTo_28 1 rfl ?_
    refine v_iload_n C dX4_distanceTo_29 3 rfl ?_
    refine v_iload_n C dX4_distanceTo_30 4 rfl ?_
    refine v_iload C dX4_distanceTo_31 5 rfl ?_
    refine v_callV_ri C (As := [.int x2, .int x3, .int x4]) (st := []) lkX4_150 dX4_distanceTo_33 rfl (Nat.le_of_ble_eq_true rfl) (Nat.le_of_ble_eq_true rfl) (Nat.le_of_ble_eq_true rfl) (mRecv C) (fun _ z => met_X4_isPoint σ x2 x3 x4 z) (fun r3 hr3 => ?_)
    refine v_if_eq C (tgt := 53) dX4_distanceTo_36 rfl (fun _ => ?_) (fun _ => ?_)
    · exact v_sub [1, 2, 3, 4, 5, 6, 0] rfl (w_distanceTo_53 C hm σ)
    · refine v_iload C dX4_distanceTo_39 6 rfl ?_
      refine v_iconst C dX4_distanceTo_41 ci_0 ?_
      refine v_iconst C dX4_distanceTo_42 ci_1 ?_
      refine v_callS_ri C (As := [.int x5, .int 0, .int 1]) (st := []) lkX4_69 dX4_distanceTo_43 rfl (Nat.le_of_ble_eq_true rfl) (Nat.le_of_ble_eq_true rfl) (Nat.le_of_ble_eq_true rfl) (fun _ z => met_X4_within σ x5 0 1 z) (fun r4 hr4 => ?_)
      refine v_if_eq C (tgt := 53) dX4_distanceTo_46 rfl (fun _ => ?_) (fun _ => ?_)
      · exact v_sub [1, 2, 3, 4, 5, 6, 0] rfl (w_distanceTo_53 C hm σ)
      · refine v_iconst C dX4_distanceTo_49 ci_1 ?_
        refine v_goto C (tgt := 54) dX4_distanceTo_50 rfl ?_
        exact v_sub [1, 2, 3, 4, 5, 6, 0] rfl (w_distanceTo_54 C hm 1 σ)
theorem w_distanceTo_20 {P : MP} {X : Ctx} {l : Launch} {S0 : MS} {F : Nat} (C : CX (OM P) X l cX4_distanceTo 8 RX4 (some .int)) (hm : X.2.2.2.2.2.2.2.2.2 = none) {x1 : Int32} {x2 : Int32} {x3 : Int32} {x4 : Int32} {x5 : Int32} (σ : MS) : VF (OM P) X 8 3 78 S0 f_mi (M_distanceTo_20 F x1 x2 x3 x4 x5 σ) σ 20 [(0, .ref (mad P 0)), (1, .int x1), (2, .int x2), (3, .int x3), (4, .int x4), (5, .int x5)] [] := by
  unfold M_distanceTo_20
  refine v_iconst C dX4_distanceTo_20 ci_0 ?_
  exact v_sub [0, 1, 2, 3, 4, 5] rfl (w_distanceTo_21 C hm 0 σ)
theorem met_X4_distanceTo {P : MP} {l : Launch} (F : Nat) (σ : MS) (x1 : Int32) (x2 : Int32) (x3 : Int32) (x4 : Int32) (x5 : Int32) {r : Int32 × MS} (h : M_distanceTo F σ x1 x2 x3 x4 x5 = some r) : FM l (OM P) yX4_distanceTo (ws_ yX4_distanceTo cX4_distanceTo 8 (some .int)) 3 78 [.ref (mad P 0), .int x1, .int x2, .int x3, .int x4, .int x5] σ (f_mi r) := by
  refine FM.of (own := RX4) (lv := [(0, .ref (mad P 0)), (1, .int x1), (2, .int x2), (3, .int x3), (4, .int x4), (5, .int x5)]) (OM_ok P) pl_X4 rfl (Nat.le_of_ble_eq_true rfl) rfl h OM_le (fun X C hm => ?_)
  unfold M_distanceTo
  refine v_aload_n C dX4_distanceTo_0 0 rfl ?_
  refine v_iload_n C dX4_distanceTo_1 1 rfl ?_
  refine v_callV_ri C (As := [.int x1]) (st := []) lkX4_83 dX4_distanceTo_2 rfl (Nat.le_of_ble_eq_true rfl) (Nat.le_of_ble_eq_true rfl) (Nat.le_of_ble_eq_true rfl) (mRecv C) (fun _ z => met_X4_isNode σ x1 z) (fun r1 hr1 => ?_)
  refine v_if_eq C (tgt := 20) dX4_distanceTo_5 rfl (fun _ => ?_) (fun _ => ?_)
  · exact v_sub [0, 1, 2, 3, 4, 5] rfl (w_distanceTo_20 C hm σ)
  · refine v_aload_n C dX4_distanceTo_8 0 rfl ?_
    refine v_iload_n C dX4_distanceTo_9 2 rfl ?_
    refine v_callV_ri C (As := [.int x2]) (st := []) lkX4_106 dX4_distanceTo_10 rfl (Nat.le_of_ble_eq_true rfl) (Nat.le_of_ble_eq_true rfl) (Nat.le_of_ble_eq_true rfl) (mRecv C) (fun _ z => met_X4_isEdge σ x2 z) (fun r2 hr2 => ?_)
    refine v_if_eq C (tgt := 20) dX4_distanceTo_13 rfl (fun _ => ?_) (fun _ => ?_)
    · exact v_sub [0, 1, 2, 3, 4, 5] rfl (w_distanceTo_20 C hm σ)
    · refine v_iconst C dX4_distanceTo_16 ci_1 ?_
      refine v_goto C (tgt := 21) dX4_distanceTo_17 rfl ?_
      exact v_sub [0, 1, 2, 3, 4, 5] rfl (w_distanceTo_21 C hm 1 σ)
theorem w_mayLie_68 {P : MP} {X : Ctx} {l : Launch} {F : Nat} {σ : MS} (C : CX (OM P) X l cX4_mayLie 8 RX4 (some .boolean)) (hm : X.2.2.2.2.2.2.2.2.2 = none) {x1 : Int32} {x2 : Int64} {x4 : Int64} {x7 : Int32} (k6 : Int32 → Int32 → Option Int32) (hk6 : ∀ (z6 : Int32) (z7 : Int32), VF (OM P) X 8 1 22 σ (f_ri σ) (k6 z6 z7) σ 6 [(0, .ref (mad P 0)), (1, .int x1), (2, .long x2), (4, .long x4), (6, .int z6), (7, .int z7)] []) (s0 : Int32) : VF (OM P) X 8 1 22 σ (f_ri σ) (M_mayLie_68 F k6 σ x1 x2 x4 x7 s0) σ 68 [(0, .ref (mad P 0)), (1, .int x1), (2, .long x2), (4, .long x4), (7, .int x7)] [.int s0] := by
  unfold M_mayLie_68
  refine v_istore C (lv' := [(6, .int s0), (0, .ref (mad P 0)), (1, .int x1), (2, .long x2), (4, .long x4), (7, .int x7)]) dX4_mayLie_68 (Nat.le_of_ble_eq_true rfl) rfl ?_
  refine v_iincN C (lv' := fun y6 => [(7, .int y6), (6, .int s0), (0, .ref (mad P 0)), (1, .int x1), (2, .long x2), (4, .long x4)]) dX4_mayLie_70 5 rfl ci_1 (Nat.le_of_ble_eq_true rfl) (fun _ => rfl) (fun y6 hy6 => ?_)
  refine v_goto C (tgt := 6) dX4_mayLie_73 rfl ?_
  exact v_sub [2, 3, 4, 5, 1, 0] rfl (hk6 s0 y6)
theorem w_mayLie_63 {P : MP} {X : Ctx} {l : Launch} {F : Nat} {σ : MS} (C : CX (OM P) X l cX4_mayLie 8 RX4 (some .boolean)) (hm : X.2.2.2.2.2.2.2.2.2 = none) {x1 : Int32} {x2 : Int64} {x4 : Int64} {x7 : Int32} (k6 : Int32 → Int32 → Option Int32) (hk6 : ∀ (z6 : Int32) (z7 : Int32), VF (OM P) X 8 1 22 σ (f_ri σ) (k6 z6 z7) σ 6 [(0, .ref (mad P 0)), (1, .int x1), (2, .long x2), (4, .long x4), (6, .int z6), (7, .int z7)] []) : VF (OM P) X 8 1 22 σ (f_ri σ) (M_mayLie_63 F k6 σ x1 x2 x4 x7) σ 63 [(0, .ref (mad P 0)), (1, .int x1), (2, .long x2), (4, .long x4), (7, .int x7)] [] := by
  unfold M_mayLie_63
  refine v_iconst C dX4_mayLie_63 ci_1 ?_
  refine v_goto C (tgt := 68) dX4_mayLie_64 rfl ?_
  exact v_sub [0, 1, 2, 3, 4] rfl (w_mayLie_68 C hm k6 hk6 1)
theorem w_mayLie_67 {P : MP} {X : Ctx} {l : Launch} {F : Nat} {σ : MS} (C : CX (OM P) X l cX4_mayLie 8 RX4 (some .boolean)) (hm : X.2.2.2.2.2.2.2.2.2 = none) {x1 : Int32} {x2 : Int64} {x4 : Int64} {x7 : Int32} (k6 : Int32 → Int32 → Option Int32) (hk6 : ∀ (z6 : Int32) (z7 : Int32), VF (OM P) X 8 1 22 σ (f_ri σ) (k6 z6 z7) σ 6 [(0, .ref (mad P 0)), (1, .int x1), (2, .long x2), (4, .long x4), (6, .int z6), (7, .int z7)] []) : VF (OM P) X 8 1 22 σ (f_ri σ) (M_mayLie_67 F k6 σ x1 x2 x4 x7) σ 67 [(0, .ref (mad P 0)), (1, .int x1), (2, .long x2), (4, .long x4), (7, .int x7)] [] := by
  unfold M_mayLie_67
  refine v_iconst C dX4_mayLie_67 ci_0 ?_
  exact v_sub [0, 1, 2, 3, 4] rfl (w_mayLie_68 C hm k6 hk6 0)
theorem w_mayLie_6 {P : MP} {X : Ctx} {l : Launch} {F : Nat} {σ : MS} (C : CX (OM P) X l cX4_mayLie 8 RX4 (some .boolean)) (hm : X.2.2.2.2.2.2.2.2.2 = none) {x1 : Int32} {x2 : Int64} {x4 : Int64}  : ∀ (n : Nat) (x6 : Int32) (x7 : Int32), VF (OM P) X 8 1 22 σ (f_ri σ) (M_mayLie_6 F σ x1 x2 x4 n x6 x7) σ 6 [(0, .ref (mad P 0)), (1, .int x1), (2, .long x2), (4, .long x4), (6, .int x6), (7, .int x7)] [] := by
  intro n
  induction n with
  | zero => intro x6 x7; exact VF.none
  | succ n ih =>
    intro x6 x7
    unfold M_mayLie_6
    refine v_iload C dX4_mayLie_6 5 rfl ?_
    refine v_aload_n C dX4_mayLie_8 0 rfl ?_
    refine v_callV_ri C (As := []) (st := [.int x7]) lkX4_97 dX4_mayLie_9 rfl (Nat.le_of_ble_eq_true rfl) (Nat.le_of_ble_eq_true rfl) (Nat.le_of_ble_eq_true rfl) (mRecv C) (fun _ z => met_X4_stretchMany σ z) (fun r1 hr1 => ?_)
    refine v_icmp_ge C (tgt := 76) dX4_mayLie_12 rfl (fun _ => ?_) (fun _ => ?_)
    · refine v_iload C dX4_mayLie_76 4 rfl ?_
      refine v_zz (fun b2 hb2 => ?_)
      exact v_zreturn C hm dX4_mayLie_78 hb2 rfl
    · refine v_iload C dX4_mayLie_15 4 rfl ?_
      refine v_if_eq C (tgt := 67) dX4_mayLie_17 rfl (fun _ => ?_) (fun _ => ?_)
      · exact v_sub [0, 1, 2, 3, 5] rfl (w_mayLie_67 C hm (M_mayLie_6 F σ x1 x2 x4 n) ih)
      · refine v_aload_n C dX4_mayLie_20 0 rfl ?_
        refine v_iload C dX4_mayLie_21 5 rfl ?_
        refine v_iconst C dX4_mayLie_23 ci_0 ?_
        refine v_callV_ri C (As := [.int x7, .int 0]) (st := []) lkX4_100 dX4_mayLie_24 rfl (Nat.le_of_ble_eq_true rfl) (Nat.le_of_ble_eq_true rfl) (Nat.le_of_ble_eq_true rfl) (mRecv C) (fun _ z => met_X4_at σ x7 0 z) (fun r3 hr3 => ?_)
        refine v_iload_n C dX4_mayLie_27 1 rfl ?_
        refine v_icmp_ne C (tgt := 63) dX4_mayLie_28 rfl (fun _ => ?_) (fun _ => ?_)
        · refine v_lload_n C dX4_mayLie_31 2 rfl ?_
          refine v_lload C dX4_mayLie_32 3 rfl ?_
          refine v_aload_n C dX4_mayLie_34 0 rfl ?_
          refine v_iload C dX4_mayLie_35 5 rfl ?_
          refine v_iconst C dX4_mayLie_37 ci_1 ?_
          refine v_callV_ri C (As := [.int x7, .int 1]) (st := [.long x4, .long x2]) lkX4_100 dX4_mayLie_38 rfl (Nat.le_of_ble_eq_true rfl) (Nat.le_of_ble_eq_true rfl) (Nat.le_of_ble_eq_true rfl) (mRecv C) (fun _ z => met_X4_at σ x7 1 z) (fun r4 hr4 => ?_)
          refine v_i2l C dX4_mayLie_41 ?_
          refine v_lmul C dX4_mayLie_42 ?_
          refine v_lcmp_le C (tgt := 63) dX4_mayLie_43 dX4_mayLie_44 rfl (fun _ => ?_) (fun _ => ?_)
          · exact v_sub [0, 1, 2, 3, 5] rfl (w_mayLie_63 C hm (M_mayLie_6 F σ x1 x2 x4 n) ih)
          · refine v_lload_n C dX4_mayLie_47 2 rfl ?_
            refine v_lload C dX4_mayLie_48 3 rfl ?_
            refine v_aload_n C dX4_mayLie_50 0 rfl ?_
            refine v_iload C dX4_mayLie_51 5 rfl ?_
            refine v_iconst C dX4_mayLie_53 ci_2 ?_
            refine v_callV_ri C (As := [.int x7, .int 2]) (st := [.long x4, .long x2]) lkX4_100 dX4_mayLie_54 rfl (Nat.le_of_ble_eq_true rfl) (Nat.le_of_ble_eq_true rfl) (Nat.le_of_ble_eq_true rfl) (mRecv C) (fun _ z => met_X4_at σ x7 2 z) (fun r5 hr5 => ?_)
            refine v_i2l C dX4_mayLie_57 ?_
            refine v_lmul C dX4_mayLie_58 ?_
            refine v_lcmp_lt C (tgt := 67) dX4_mayLie_59 dX4_mayLie_60 rfl (fun _ => ?_) (fun _ => ?_)
            · exact v_sub [0, 1, 2, 3, 5] rfl (w_mayLie_67 C hm (M_mayLie_6 F σ x1 x2 x4 n) ih)
            · exact v_sub [0, 1, 2, 3, 5] rfl (w_mayLie_63 C hm (M_mayLie_6 F σ x1 x2 x4 n) ih)
        · exact v_sub [0, 1, 2, 3, 5] rfl (w_mayLie_63 C hm (M_mayLie_6 F σ x1 x2 x4 n) ih)
theorem met_X4_mayLie {P : MP} {l : Launch} (F : Nat) (σ : MS) (x1 : Int32) (x2 : Int64) (x4 : Int64) {r : Int32} (h : M_mayLie F σ x1 x2 x4 = some r) : FM l (OM P) yX4_mayLie (ws_ yX4_mayLie cX4_mayLie 8 (some .boolean)) 1 22 [.ref (mad P 0), .int x1, .long x2, .long x4] σ ((f_ri σ) r) := by
  refine FM.of (own := RX4) (lv := [(0, .ref (mad P 0)), (1, .int x1), (2, .long x2), (4, .long x4)]) (OM_ok P) pl_X4 rfl (Nat.le_of_ble_eq_true rfl) rfl h OM_le (fun X C hm => ?_)
  unfold M_mayLie
  refine v_iconst C dX4_mayLie_0 ci_1 ?_
  refine v_istore C (lv' := [(6, .int 1), (0, .ref (mad P 0)), (1, .int x1), (2, .long x2), (4, .long x4)]) dX4_mayLie_1 (Nat.le_of_ble_eq_true rfl) rfl ?_
  refine v_iconst C dX4_mayLie_3 ci_0 ?_
  refine v_istore C (lv' := [(7, .int 0), (6, .int 1), (0, .ref (mad P 0)), (1, .int x1), (2, .long x2), (4, .long x4)]) dX4_mayLie_4 (Nat.le_of_ble_eq_true rfl) rfl ?_
  exact v_sub [2, 3, 4, 5, 1, 0] rfl (w_mayLie_6 C hm F 1 0)
theorem w_isAllowed_28 {P : MP} {X : Ctx} {l : Launch} {S0 : MS} {F : Nat} (C : CX (OM P) X l cX4_isAllowed 4 RX4 (some .boolean)) (hm : X.2.2.2.2.2.2.2.2.2 = none) {x1 : Int32} {x2 : Int32} {x3 : Int32} (s1 : Int32) (σ : MS) : VF (OM P) X 4 2 49 S0 f_mi (M_isAllowed_28 F x1 x2 x3 s1 σ) σ 28 [(0, .ref (mad P 0)), (1, .int x1), (2, .int x2), (3, .int x3)] [.int s1, .ref (mad P 0)] := by
  unfold M_isAllowed_28
  refine v_callV_mi C (As := [.int s1]) (st := []) lkX4_61 dX4_isAllowed_28 rfl (Nat.le_of_ble_eq_true rfl) (Nat.le_of_ble_eq_true rfl) (Nat.le_of_ble_eq_true rfl) (mRecv C) (fun _ z => met_X4_refused σ s1 z) (fun r3 hr3 => ?_)
  refine v_if_ne C (tgt := 50) dX4_isAllowed_31 rfl (fun _ => ?_) (fun _ => ?_)
  · refine v_aload_n C dX4_isAllowed_34 0 rfl ?_
    refine v_iload_n C dX4_isAllowed_35 1 rfl ?_
    refine v_iload_n C dX4_isAllowed_36 2 rfl ?_
    refine v_i2l C dX4_isAllowed_37 ?_
    refine v_iload_n C dX4_isAllowed_38 3 rfl ?_
    refine v_i2l C dX4_isAllowed_39 ?_
    refine v_callV_ri C (As := [.int x1, .long (x2.toInt64), .long (x3.toInt64)]) (st := []) lkX4_160 dX4_isAllowed_40 rfl (Nat.le_of_ble_eq_true rfl) (Nat.le_of_ble_eq_true rfl) (Nat.le_of_ble_eq_true rfl) (mRecv C) (fun _ z => met_X4_mayLie F r3.2 x1 (x2.toInt64) (x3.toInt64) z) (fun r4 hr4 => ?_)
    refine v_if_eq C (tgt := 50) dX4_isAllowed_43 rfl (fun _ => ?_) (fun _ => ?_)
    · refine v_iconst C dX4_isAllowed_50 ci_0 ?_
      exact v_zreturn C hm dX4_isAllowed_51 (Or.inl rfl) rfl
    · refine v_iconst C dX4_isAllowed_46 ci_1 ?_
      refine v_goto C (tgt := 51) dX4_isAllowed_47 rfl ?_
      exact v_zreturn C hm dX4_isAllowed_51 (Or.inr rfl) rfl
  · refine v_iconst C dX4_isAllowed_50 ci_0 ?_
    exact v_zreturn C hm dX4_isAllowed_51 (Or.inl rfl) rfl
theorem met_X4_isAllowed {P : MP} {l : Launch} (F : Nat) (σ : MS) (x1 : Int32) (x2 : Int32) (x3 : Int32) {r : Int32 × MS} (h : M_isAllowed F σ x1 x2 x3 = some r) : FM l (OM P) yX4_isAllowed (ws_ yX4_isAllowed cX4_isAllowed 4 (some .boolean)) 2 49 [.ref (mad P 0), .int x1, .int x2, .int x3] σ (f_mi r) := by
  refine FM.of (own := RX4) (lv := [(0, .ref (mad P 0)), (1, .int x1), (2, .int x2), (3, .int x3)]) (OM_ok P) pl_X4 rfl (Nat.le_of_ble_eq_true rfl) rfl h OM_le (fun X C hm => ?_)
  unfold M_isAllowed
  refine v_aload_n C dX4_isAllowed_0 0 rfl ?_
  refine v_aload_n C dX4_isAllowed_1 0 rfl ?_
  refine v_iload_n C dX4_isAllowed_2 1 rfl ?_
  refine v_callV_ri C (As := [.int x1]) (st := [.ref (mad P 0)]) lkX4_106 dX4_isAllowed_3 rfl (Nat.le_of_ble_eq_true rfl) (Nat.le_of_ble_eq_true rfl) (Nat.le_of_ble_eq_true rfl) (mRecv C) (fun _ z => met_X4_isEdge σ x1 z) (fun r1 hr1 => ?_)
  refine v_if_ne C (tgt := 13) dX4_isAllowed_6 rfl (fun _ => ?_) (fun _ => ?_)
  · refine v_iconst C dX4_isAllowed_9 ci_1 ?_
    refine v_goto C (tgt := 28) dX4_isAllowed_10 rfl ?_
    exact v_sub [0, 1, 2, 3] rfl (w_isAllowed_28 C hm 1 σ)
  · refine v_aload_n C dX4_isAllowed_13 0 rfl ?_
    refine v_iload_n C dX4_isAllowed_14 1 rfl ?_
    refine v_iload_n C dX4_isAllowed_15 2 rfl ?_
    refine v_iload_n C dX4_isAllowed_16 3 rfl ?_
    refine v_callV_ri C (As := [.int x1, .int x2, .int x3]) (st := [.ref (mad P 0)]) lkX4_150 dX4_isAllowed_17 rfl (Nat.le_of_ble_eq_true rfl) (Nat.le_of_ble_eq_true rfl) (Nat.le_of_ble_eq_true rfl) (mRecv C) (fun _ z => met_X4_isPoint σ x1 x2 x3 z) (fun r2 hr2 => ?_)
    refine v_if_ne C (tgt := 27) dX4_isAllowed_20 rfl (fun _ => ?_) (fun _ => ?_)
    · refine v_iconst C dX4_isAllowed_23 ci_2 ?_
      refine v_goto C (tgt := 28) dX4_isAllowed_24 rfl ?_
      exact v_sub [0, 1, 2, 3] rfl (w_isAllowed_28 C hm 2 σ)
    · refine v_iconst C dX4_isAllowed_27 ci_0 ?_
      exact v_sub [0, 1, 2, 3] rfl (w_isAllowed_28 C hm 0 σ)
theorem met_X4_has {P : MP} {l : Launch} (σ : MS) (x0 : Int32) (x1 : Int32) {r : Int32} (h : M_has x0 x1 = some r) : FM l (OM P) yX4_has (ws_ yX4_has cX4_has 2 (some .boolean)) 0 0 [.int x0, .int x1] σ ((f_ri σ) r) := by
  refine FM.of (own := RX4) (lv := [(0, .int x0), (1, .int x1)]) (OM_ok P) pl_X4 rfl (Nat.le_of_ble_eq_true rfl) rfl h OM_le (fun X C hm => ?_)
  unfold M_has
  refine v_iload_n C dX4_has_0 0 rfl ?_
  refine v_iload_n C dX4_has_1 1 rfl ?_
  refine v_ishr C dX4_has_2 ?_
  refine v_iconst C dX4_has_3 ci_1 ?_
  refine v_iand C dX4_has_4 ?_
  refine v_iconst C dX4_has_5 ci_1 ?_
  refine v_icmp_ne C (tgt := 13) dX4_has_6 rfl (fun _ => ?_) (fun _ => ?_)
  · refine v_iconst C dX4_has_9 ci_1 ?_
    refine v_goto C (tgt := 14) dX4_has_10 rfl ?_
    exact v_zreturn C hm dX4_has_14 (Or.inr rfl) rfl
  · refine v_iconst C dX4_has_13 ci_0 ?_
    exact v_zreturn C hm dX4_has_14 (Or.inl rfl) rfl
theorem w_heightAt_64 {P : MP} {X : Ctx} {l : Launch} {F : Nat} {σ : MS} (C : CX (OM P) X l cX4_heightAt 12 RX4 (some .long)) (hm : X.2.2.2.2.2.2.2.2.2 = none) {x1 : Int32} {x2 : Int32} {x3 : Int64} {x5 : Int64} {x9 : Int32} (k6 : Int64 → Int32 → Option Int64) (hk6 : ∀ (z7 : Int64) (z9 : Int32), VF (OM P) X 12 3 78 σ (f_rl σ) (k6 z7 z9) σ 6 [(0, .ref (mad P 0)), (1, .int x1), (2, .int x2), (3, .long x3), (5, .long x5), (7, .long z7), (9, .int z9)] []) (s0 : Int64) : VF (OM P) X 12 3 78 σ (f_rl σ) (M_heightAt_64 F k6 σ x1 x2 x3 x5 x9 s0) σ 64 [(0, .ref (mad P 0)), (1, .int x1), (2, .int x2), (3, .long x3), (5, .long x5), (9, .int x9)] [.long s0] := by
  unfold M_heightAt_64
  refine v_lstore C (lv' := [(7, .long s0), (0, .ref (mad P 0)), (1, .int x1), (2, .int x2), (3, .long x3), (5, .long x5), (9, .int x9)]) dX4_heightAt_64 (Nat.le_of_ble_eq_true rfl) rfl ?_
  refine v_iincN C (lv' := fun y5 => [(9, .int y5), (7, .long s0), (0, .ref (mad P 0)), (1, .int x1), (2, .int x2), (3, .long x3), (5, .long x5)]) dX4_heightAt_66 6 rfl ci_1 (Nat.le_of_ble_eq_true rfl) (fun _ => rfl) (fun y5 hy5 => ?_)
  refine v_goto C (tgt := 6) dX4_heightAt_69 rfl ?_
  exact v_sub [2, 3, 4, 5, 6, 1, 0] rfl (hk6 s0 y5)
theorem w_heightAt_47 {P : MP} {X : Ctx} {l : Launch} {F : Nat} {σ : MS} (C : CX (OM P) X l cX4_heightAt 12 RX4 (some .long)) (hm : X.2.2.2.2.2.2.2.2.2 = none) {x1 : Int32} {x2 : Int32} {x3 : Int64} {x5 : Int64} {x7 : Int64} {x9 : Int32} (k6 : Int64 → Int32 → Option Int64) (hk6 : ∀ (z7 : Int64) (z9 : Int32), VF (OM P) X 12 3 78 σ (f_rl σ) (k6 z7 z9) σ 6 [(0, .ref (mad P 0)), (1, .int x1), (2, .int x2), (3, .long x3), (5, .long x5), (7, .long z7), (9, .int z9)] []) (s0 : Int64) : VF (OM P) X 12 3 78 σ (f_rl σ) (M_heightAt_47 F k6 σ x1 x2 x3 x5 x7 x9 s0) σ 47 [(0, .ref (mad P 0)), (1, .int x1), (2, .int x2), (3, .long x3), (5, .long x5), (7, .long x7), (9, .int x9)] [.long s0] := by
  unfold M_heightAt_47
  refine v_lstore C (lv' := [(10, .long s0), (0, .ref (mad P 0)), (1, .int x1), (2, .int x2), (3, .long x3), (5, .long x5), (7, .long x7), (9, .int x9)]) dX4_heightAt_47 (Nat.le_of_ble_eq_true rfl) rfl ?_
  refine v_lload C dX4_heightAt_49 0 rfl ?_
  refine v_lload C dX4_heightAt_51 6 rfl ?_
  refine v_lcmp_le C (tgt := 62) dX4_heightAt_53 dX4_heightAt_54 rfl (fun _ => ?_) (fun _ => ?_)
  · refine v_lload C dX4_heightAt_62 6 rfl ?_
    exact v_sub [1, 2, 3, 4, 5, 7] rfl (w_heightAt_64 C hm k6 hk6 x7)
  · refine v_lload C dX4_heightAt_57 0 rfl ?_
    refine v_goto C (tgt := 64) dX4_heightAt_59 rfl ?_
    exact v_sub [1, 2, 3, 4, 5, 7] rfl (w_heightAt_64 C hm k6 hk6 s0)
theorem w_heightAt_6 {P : MP} {X : Ctx} {l : Launch} {F : Nat} {σ : MS} (C : CX (OM P) X l cX4_heightAt 12 RX4 (some .long)) (hm : X.2.2.2.2.2.2.2.2.2 = none) {x1 : Int32} {x2 : Int32} {x3 : Int64} {x5 : Int64}  : ∀ (n : Nat) (x7 : Int64) (x9 : Int32), VF (OM P) X 12 3 78 σ (f_rl σ) (M_heightAt_6 F σ x1 x2 x3 x5 n x7 x9) σ 6 [(0, .ref (mad P 0)), (1, .int x1), (2, .int x2), (3, .long x3), (5, .long x5), (7, .long x7), (9, .int x9)] [] := by
  intro n
  induction n with
  | zero => intro x7 x9; exact VF.none
  | succ n ih =>
    intro x7 x9
    unfold M_heightAt_6
    refine v_iload C dX4_heightAt_6 6 rfl ?_
    refine v_aload_n C dX4_heightAt_8 0 rfl ?_
    refine v_callV_ri C (As := []) (st := [.int x9]) lkX4_65 dX4_heightAt_9 rfl (Nat.le_of_ble_eq_true rfl) (Nat.le_of_ble_eq_true rfl) (Nat.le_of_ble_eq_true rfl) (mRecv C) (fun _ z => met_X4_many σ z) (fun r1 hr1 => ?_)
    refine v_icmp_ge C (tgt := 72) dX4_heightAt_12 rfl (fun _ => ?_) (fun _ => ?_)
    · refine v_lload C dX4_heightAt_72 5 rfl ?_
      exact v_lreturn C hm dX4_heightAt_74 rfl
    · refine v_iload_n C dX4_heightAt_15 1 rfl ?_
      refine v_iload C dX4_heightAt_16 6 rfl ?_
      refine v_callS_ri C (As := [.int x1, .int x9]) (st := []) lkX4_164 dX4_heightAt_18 rfl (Nat.le_of_ble_eq_true rfl) (Nat.le_of_ble_eq_true rfl) (Nat.le_of_ble_eq_true rfl) (fun _ z => met_X4_has σ x1 x9 z) (fun r2 hr2 => ?_)
      refine v_if_eq C (tgt := 46) dX4_heightAt_21 rfl (fun _ => ?_) (fun _ => ?_)
      · refine v_lconst C dX4_heightAt_46 cl_0 ?_
        exact v_sub [0, 1, 2, 3, 4, 5, 6] rfl (w_heightAt_47 C hm (M_heightAt_6 F σ x1 x2 x3 x5 n) ih 0)
      · refine v_aload_n C dX4_heightAt_24 0 rfl ?_
        refine mg_weights C dX4_heightAt_25 ?_
        refine v_iload C dX4_heightAt_28 6 rfl ?_
        refine ml_weights C dX4_heightAt_30 (fun y3 hy3 => ?_)
        refine v_i2l C dX4_heightAt_31 ?_
        refine v_aload_n C dX4_heightAt_32 0 rfl ?_
        refine v_iload C dX4_heightAt_33 6 rfl ?_
        refine v_iload_n C dX4_heightAt_35 2 rfl ?_
        refine v_lload_n C dX4_heightAt_36 3 rfl ?_
        refine v_lload C dX4_heightAt_37 4 rfl ?_
        refine v_callV_rl C (As := [.int x9, .int x2, .long x3, .long x5]) (st := [.long (y3.toInt64)]) lkX4_153 dX4_heightAt_39 rfl (Nat.le_of_ble_eq_true rfl) (Nat.le_of_ble_eq_true rfl) (Nat.le_of_ble_eq_true rfl) (mRecv C) (fun _ z => met_X4_away σ x9 x2 x3 x5 z) (fun r4 hr4 => ?_)
        refine v_lmul C dX4_heightAt_42 ?_
        refine v_goto C (tgt := 47) dX4_heightAt_43 rfl ?_
        exact v_sub [0, 1, 2, 3, 4, 5, 6] rfl (w_heightAt_47 C hm (M_heightAt_6 F σ x1 x2 x3 x5 n) ih ((y3.toInt64) * r4))
theorem met_X4_heightAt {P : MP} {l : Launch} (F : Nat) (σ : MS) (x1 : Int32) (x2 : Int32) (x3 : Int64) (x5 : Int64) {r : Int64} (h : M_heightAt F σ x1 x2 x3 x5 = some r) : FM l (OM P) yX4_heightAt (ws_ yX4_heightAt cX4_heightAt 12 (some .long)) 3 78 [.ref (mad P 0), .int x1, .int x2, .long x3, .long x5] σ ((f_rl σ) r) := by
  refine FM.of (own := RX4) (lv := [(0, .ref (mad P 0)), (1, .int x1), (2, .int x2), (3, .long x3), (5, .long x5)]) (OM_ok P) pl_X4 rfl (Nat.le_of_ble_eq_true rfl) rfl h OM_le (fun X C hm => ?_)
  unfold M_heightAt
  refine v_lconst C dX4_heightAt_0 cl_0 ?_
  refine v_lstore C (lv' := [(7, .long 0), (0, .ref (mad P 0)), (1, .int x1), (2, .int x2), (3, .long x3), (5, .long x5)]) dX4_heightAt_1 (Nat.le_of_ble_eq_true rfl) rfl ?_
  refine v_iconst C dX4_heightAt_3 ci_0 ?_
  refine v_istore C (lv' := [(9, .int 0), (7, .long 0), (0, .ref (mad P 0)), (1, .int x1), (2, .int x2), (3, .long x3), (5, .long x5)]) dX4_heightAt_4 (Nat.le_of_ble_eq_true rfl) rfl ?_
  exact v_sub [2, 3, 4, 5, 6, 1, 0] rfl (w_heightAt_6 C hm F 0 0)
theorem met_X4_isSet {P : MP} {l : Launch} (σ : MS) (x1 : Int32) {r : Int32} (h : M_isSet σ x1 = some r) : FM l (OM P) yX4_isSet (ws_ yX4_isSet cX4_isSet 2 (some .boolean)) 1 20 [.ref (mad P 0), .int x1] σ ((f_ri σ) r) := by
  refine FM.of (own := RX4) (lv := [(0, .ref (mad P 0)), (1, .int x1)]) (OM_ok P) pl_X4 rfl (Nat.le_of_ble_eq_true rfl) rfl h OM_le (fun X C hm => ?_)
  unfold M_isSet
  refine v_iload_n C dX4_isSet_0 1 rfl ?_
  refine v_if_lt C (tgt := 17) dX4_isSet_1 rfl (fun _ => ?_) (fun _ => ?_)
  · refine v_iconst C dX4_isSet_17 ci_0 ?_
    exact v_zreturn C hm dX4_isSet_18 (Or.inl rfl) rfl
  · refine v_iload_n C dX4_isSet_4 1 rfl ?_
    refine v_aload_n C dX4_isSet_5 0 rfl ?_
    refine v_callV_ri C (As := []) (st := [.int x1]) lkX4_65 dX4_isSet_6 rfl (Nat.le_of_ble_eq_true rfl) (Nat.le_of_ble_eq_true rfl) (Nat.le_of_ble_eq_true rfl) (mRecv C) (fun _ z => met_X4_many σ z) (fun r1 hr1 => ?_)
    refine v_ishr C dX4_isSet_9 ?_
    refine v_if_ne C (tgt := 17) dX4_isSet_10 rfl (fun _ => ?_) (fun _ => ?_)
    · refine v_iconst C dX4_isSet_13 ci_1 ?_
      refine v_goto C (tgt := 18) dX4_isSet_14 rfl ?_
      exact v_zreturn C hm dX4_isSet_18 (Or.inr rfl) rfl
    · refine v_iconst C dX4_isSet_17 ci_0 ?_
      exact v_zreturn C hm dX4_isSet_18 (Or.inl rfl) rfl
theorem w_weighs_2 {P : MP} {X : Ctx} {l : Launch} {S0 : MS} {F : Nat} (C : CX (OM P) X l cX4_weighs 3 RX4 none) (hm : X.2.2.2.2.2.2.2.2.2 = none) {x1 : Int32}  : ∀ (n : Nat) (x2 : Int32) (σ : MS), VF (OM P) X 3 0 0 S0 f_mv (M_weighs_2 F x1 n x2 σ) σ 2 [(0, .ref (mad P 0)), (1, .int x1), (2, .int x2)] [] := by
  intro n
  induction n with
  | zero => intro x2 σ; exact VF.none
  | succ n ih =>
    intro x2 σ
    unfold M_weighs_2
    refine v_iload_n C dX4_weighs_2 2 rfl ?_
    refine v_bipush C dX4_weighs_3 cb_8 ?_
    refine v_icmp_ge C (tgt := 40) dX4_weighs_5 rfl (fun _ => ?_) (fun _ => ?_)
    · exact v_vreturn C hm dX4_weighs_40 rfl
    · refine v_aload_n C dX4_weighs_8 0 rfl ?_
      refine mg_weights C dX4_weighs_9 ?_
      refine v_iload_n C dX4_weighs_12 2 rfl ?_
      refine v_aload_n C dX4_weighs_13 0 rfl ?_
      refine mg_now C dX4_weighs_14 ?_
      refine v_iconst C dX4_weighs_17 ci_1 ?_
      refine v_iload_n C dX4_weighs_18 2 rfl ?_
      refine v_iadd C dX4_weighs_19 ?_
      refine ml_now C dX4_weighs_20 (fun y1 hy1 => ?_)
      refine v_iload_n C dX4_weighs_21 1 rfl ?_
      refine v_aload_n C dX4_weighs_22 0 rfl ?_
      refine mg_now C dX4_weighs_23 ?_
      refine v_bipush C dX4_weighs_26 cb_9 ?_
      refine v_iload_n C dX4_weighs_28 2 rfl ?_
      refine v_iadd C dX4_weighs_29 ?_
      refine ml_now C dX4_weighs_30 (fun y2 hy2 => ?_)
      refine v_imul C dX4_weighs_31 ?_
      refine v_iadd C dX4_weighs_32 ?_
      refine ms_weights C dX4_weighs_33 (fun σ3 hσ3 => ?_)
      refine v_iincN C (lv' := fun y4 => [(2, .int y4), (0, .ref (mad P 0)), (1, .int x1)]) dX4_weighs_34 2 rfl ci_1 (Nat.le_of_ble_eq_true rfl) (fun _ => rfl) (fun y4 hy4 => ?_)
      refine v_goto C (tgt := 2) dX4_weighs_37 rfl ?_
      exact v_sub [1, 2, 0] rfl (ih y4 σ3)
theorem met_X4_weighs {P : MP} {l : Launch} (F : Nat) (σ : MS) (x1 : Int32) {r : MS} (h : M_weighs F σ x1 = some r) : FM l (OM P) yX4_weighs (ws_ yX4_weighs cX4_weighs 3 none) 0 0 [.ref (mad P 0), .int x1] σ (f_mv r) := by
  refine FM.of (own := RX4) (lv := [(0, .ref (mad P 0)), (1, .int x1)]) (OM_ok P) pl_X4 rfl (Nat.le_of_ble_eq_true rfl) rfl h OM_le (fun X C hm => ?_)
  unfold M_weighs
  refine v_iconst C dX4_weighs_0 ci_0 ?_
  refine v_istore_n C (lv' := [(2, .int 0), (0, .ref (mad P 0)), (1, .int x1)]) dX4_weighs_1 (Nat.le_of_ble_eq_true rfl) rfl ?_
  exact v_sub [1, 2, 0] rfl (w_weighs_2 C hm F 0 σ)
theorem w_height_78 {P : MP} {X : Ctx} {l : Launch} {S0 : MS} {F : Nat} (C : CX (OM P) X l cX4_height 7 RX4 (some .int)) (hm : X.2.2.2.2.2.2.2.2.2 = none) {x1 : Int32} {x2 : Int32} {x3 : Int32} {x4 : Int32} {x5 : Int32} (s1 : Int32) (σ : MS) : VF (OM P) X 7 4 109 S0 f_mi (M_height_78 F x1 x2 x3 x4 x5 s1 σ) σ 78 [(0, .ref (mad P 0)), (1, .int x1), (2, .int x2), (3, .int x3), (4, .int x4), (5, .int x5)] [.int s1, .ref (mad P 0)] := by
  unfold M_height_78
  refine v_callV_mi C (As := [.int s1]) (st := []) lkX4_61 dX4_height_78 rfl (Nat.le_of_ble_eq_true rfl) (Nat.le_of_ble_eq_true rfl) (Nat.le_of_ble_eq_true rfl) (mRecv C) (fun _ z => met_X4_refused σ s1 z) (fun r7 hr7 => ?_)
  refine v_if_eq C (tgt := 86) dX4_height_81 rfl (fun _ => ?_) (fun _ => ?_)
  · refine v_aload_n C dX4_height_86 0 rfl ?_
    refine v_iconst C dX4_height_87 ci_0 ?_
    refine v_callV_mv C (As := [.int 0]) (st := []) lkX4_170 dX4_height_88 rfl (Nat.le_of_ble_eq_true rfl) (Nat.le_of_ble_eq_true rfl) (Nat.le_of_ble_eq_true rfl) (mRecv C) (fun _ z => met_X4_weighs F r7.2 0 z) (fun r8 hr8 => ?_)
    refine v_aload_n C dX4_height_91 0 rfl ?_
    refine v_iload_n C dX4_height_92 1 rfl ?_
    refine v_iload_n C dX4_height_93 2 rfl ?_
    refine v_iload_n C dX4_height_94 3 rfl ?_
    refine v_i2l C dX4_height_95 ?_
    refine v_iload C dX4_height_96 4 rfl ?_
    refine v_i2l C dX4_height_98 ?_
    refine v_callV_rl C (As := [.int x1, .int x2, .long (x3.toInt64), .long (x4.toInt64)]) (st := []) lkX4_173 dX4_height_99 rfl (Nat.le_of_ble_eq_true rfl) (Nat.le_of_ble_eq_true rfl) (Nat.le_of_ble_eq_true rfl) (mRecv C) (fun _ z => met_X4_heightAt F r8 x1 x2 (x3.toInt64) (x4.toInt64) z) (fun r9 hr9 => ?_)
    refine v_iload C dX4_height_102 4 rfl ?_
    refine v_i2l C dX4_height_104 ?_
    refine v_iload C dX4_height_105 5 rfl ?_
    refine v_callS_ri C (As := [.long r9, .long (x4.toInt64), .int x5]) (st := []) lkX4_156 dX4_height_107 rfl (Nat.le_of_ble_eq_true rfl) (Nat.le_of_ble_eq_true rfl) (Nat.le_of_ble_eq_true rfl) (fun _ z => met_X4_reduced F r8 r9 (x4.toInt64) x5 z) (fun r10 hr10 => ?_)
    exact v_ireturn C hm dX4_height_110 rfl
  · refine v_iconst C dX4_height_84 ci_0 ?_
    exact v_ireturn C hm dX4_height_85 rfl
theorem w_height_42 {P : MP} {X : Ctx} {l : Launch} {S0 : MS} {F : Nat} (C : CX (OM P) X l cX4_height 7 RX4 (some .int)) (hm : X.2.2.2.2.2.2.2.2.2 = none) {x1 : Int32} {x2 : Int32} {x3 : Int32} {x4 : Int32} {x5 : Int32} (s0 : Int32) (σ : MS) : VF (OM P) X 7 4 109 S0 f_mi (M_height_42 F x1 x2 x3 x4 x5 s0 σ) σ 42 [(0, .ref (mad P 0)), (1, .int x1), (2, .int x2), (3, .int x3), (4, .int x4), (5, .int x5)] [.int s0] := by
  unfold M_height_42
  refine v_istore C (lv' := [(6, .int s0), (0, .ref (mad P 0)), (1, .int x1), (2, .int x2), (3, .int x3), (4, .int x4), (5, .int x5)]) dX4_height_42 (Nat.le_of_ble_eq_true rfl) rfl ?_
  refine v_aload_n C dX4_height_44 1 rfl ?_
  refine v_aload_n C dX4_height_45 1 rfl ?_
  refine v_iload_n C dX4_height_46 3 rfl ?_
  refine v_callV_ri C (As := [.int x2]) (st := [.ref (mad P 0)]) lkX4_106 dX4_height_47 rfl (Nat.le_of_ble_eq_true rfl) (Nat.le_of_ble_eq_true rfl) (Nat.le_of_ble_eq_true rfl) (mRecv C) (fun _ z => met_X4_isEdge σ x2 z) (fun r5 hr5 => ?_)
  refine v_if_ne C (tgt := 57) dX4_height_50 rfl (fun _ => ?_) (fun _ => ?_)
  · refine v_iconst C dX4_height_53 ci_1 ?_
    refine v_goto C (tgt := 78) dX4_height_54 rfl ?_
    exact v_sub [1, 2, 3, 4, 5, 6] rfl (w_height_78 C hm 1 σ)
  · refine v_iload C dX4_height_57 0 rfl ?_
    refine v_if_ne C (tgt := 66) dX4_height_59 rfl (fun _ => ?_) (fun _ => ?_)
    · refine v_iconst C dX4_height_62 ci_2 ?_
      refine v_goto C (tgt := 78) dX4_height_63 rfl ?_
      exact v_sub [1, 2, 3, 4, 5, 6] rfl (w_height_78 C hm 2 σ)
    · refine v_aload_n C dX4_height_66 1 rfl ?_
      refine v_callV_mi C (As := []) (st := [.ref (mad P 0)]) lkX4_122 dX4_height_67 rfl (Nat.le_of_ble_eq_true rfl) (Nat.le_of_ble_eq_true rfl) (Nat.le_of_ble_eq_true rfl) (mRecv C) (fun _ z => met_X4_isConnected F σ z) (fun r6 hr6 => ?_)
      refine v_if_ne C (tgt := 77) dX4_height_70 rfl (fun _ => ?_) (fun _ => ?_)
      · refine v_iconst C dX4_height_73 ci_3 ?_
        refine v_goto C (tgt := 78) dX4_height_74 rfl ?_
        exact v_sub [1, 2, 3, 4, 5, 6] rfl (w_height_78 C hm 3 r6.2)
      · refine v_iconst C dX4_height_77 ci_0 ?_
        exact v_sub [1, 2, 3, 4, 5, 6] rfl (w_height_78 C hm 0 r6.2)
theorem w_height_41 {P : MP} {X : Ctx} {l : Launch} {S0 : MS} {F : Nat} (C : CX (OM P) X l cX4_height 7 RX4 (some .int)) (hm : X.2.2.2.2.2.2.2.2.2 = none) {x1 : Int32} {x2 : Int32} {x3 : Int32} {x4 : Int32} {x5 : Int32} (σ : MS) : VF (OM P) X 7 4 109 S0 f_mi (M_height_41 F x1 x2 x3 x4 x5 σ) σ 41 [(0, .ref (mad P 0)), (1, .int x1), (2, .int x2), (3, .int x3), (4, .int x4), (5, .int x5)] [] := by
  unfold M_height_41
  refine v_iconst C dX4_height_41 ci_0 ?_
  exact v_sub [0, 1, 2, 3, 4, 5] rfl (w_height_42 C hm 0 σ)
theorem met_X4_height {P : MP} {l : Launch} (F : Nat) (σ : MS) (x1 : Int32) (x2 : Int32) (x3 : Int32) (x4 : Int32) (x5 : Int32) {r : Int32 × MS} (h : M_height F σ x1 x2 x3 x4 x5 = some r) : FM l (OM P) yX4_height (ws_ yX4_height cX4_height 7 (some .int)) 4 109 [.ref (mad P 0), .int x1, .int x2, .int x3, .int x4, .int x5] σ (f_mi r) := by
  refine FM.of (own := RX4) (lv := [(0, .ref (mad P 0)), (1, .int x1), (2, .int x2), (3, .int x3), (4, .int x4), (5, .int x5)]) (OM_ok P) pl_X4 rfl (Nat.le_of_ble_eq_true rfl) rfl h OM_le (fun X C hm => ?_)
  unfold M_height
  refine v_aload_n C dX4_height_0 0 rfl ?_
  refine v_iload_n C dX4_height_1 2 rfl ?_
  refine v_callV_ri C (As := [.int x2]) (st := []) lkX4_106 dX4_height_2 rfl (Nat.le_of_ble_eq_true rfl) (Nat.le_of_ble_eq_true rfl) (Nat.le_of_ble_eq_true rfl) (mRecv C) (fun _ z => met_X4_isEdge σ x2 z) (fun r1 hr1 => ?_)
  refine v_if_eq C (tgt := 41) dX4_height_5 rfl (fun _ => ?_) (fun _ => ?_)
  · exact v_sub [0, 1, 2, 3, 4, 5] rfl (w_height_41 C hm σ)
  · refine v_aload_n C dX4_height_8 0 rfl ?_
    refine v_iload_n C dX4_height_9 1 rfl ?_
    refine v_callV_ri C (As := [.int x1]) (st := []) lkX4_167 dX4_height_10 rfl (Nat.le_of_ble_eq_true rfl) (Nat.le_of_ble_eq_true rfl) (Nat.le_of_ble_eq_true rfl) (mRecv C) (fun _ z => met_X4_isSet σ x1 z) (fun r2 hr2 => ?_)
    refine v_if_eq C (tgt := 41) dX4_height_13 rfl (fun _ => ?_) (fun _ => ?_)
    · exact v_sub [0, 1, 2, 3, 4, 5] rfl (w_height_41 C hm σ)
    · refine v_aload_n C dX4_height_16 0 rfl ?_
      refine v_iload_n C dX4_height_17 2 rfl ?_
      refine v_iload_n C dX4_height_18 3 rfl ?_
      refine v_iload C dX4_height_19 4 rfl ?_
      refine v_callV_ri C (As := [.int x2, .int x3, .int x4]) (st := []) lkX4_150 dX4_height_21 rfl (Nat.le_of_ble_eq_true rfl) (Nat.le_of_ble_eq_true rfl) (Nat.le_of_ble_eq_true rfl) (mRecv C) (fun _ z => met_X4_isPoint σ x2 x3 x4 z) (fun r3 hr3 => ?_)
      refine v_if_eq C (tgt := 41) dX4_height_24 rfl (fun _ => ?_) (fun _ => ?_)
      · exact v_sub [0, 1, 2, 3, 4, 5] rfl (w_height_41 C hm σ)
      · refine v_iload C dX4_height_27 5 rfl ?_
        refine v_iconst C dX4_height_29 ci_0 ?_
        refine v_iconst C dX4_height_30 ci_1 ?_
        refine v_callS_ri C (As := [.int x5, .int 0, .int 1]) (st := []) lkX4_69 dX4_height_31 rfl (Nat.le_of_ble_eq_true rfl) (Nat.le_of_ble_eq_true rfl) (Nat.le_of_ble_eq_true rfl) (fun _ z => met_X4_within σ x5 0 1 z) (fun r4 hr4 => ?_)
        refine v_if_eq C (tgt := 41) dX4_height_34 rfl (fun _ => ?_) (fun _ => ?_)
        · exact v_sub [0, 1, 2, 3, 4, 5] rfl (w_height_41 C hm σ)
        · refine v_iconst C dX4_height_37 ci_1 ?_
          refine v_goto C (tgt := 42) dX4_height_38 rfl ?_
          exact v_sub [0, 1, 2, 3, 4, 5] rfl (w_height_42 C hm 1 σ)
theorem w_costAt_6 {P : MP} {X : Ctx} {l : Launch} {F : Nat} {σ : MS} (C : CX (OM P) X l cX4_costAt 9 RX4 (some .long)) (hm : X.2.2.2.2.2.2.2.2.2 = none) {x1 : Int32} {x2 : Int64} {x4 : Int64}  : ∀ (n : Nat) (x6 : Int64) (x8 : Int32), VF (OM P) X 9 3 78 σ (f_rl σ) (M_costAt_6 F σ x1 x2 x4 n x6 x8) σ 6 [(0, .ref (mad P 0)), (1, .int x1), (2, .long x2), (4, .long x4), (6, .long x6), (8, .int x8)] [] := by
  intro n
  induction n with
  | zero => intro x6 x8; exact VF.none
  | succ n ih =>
    intro x6 x8
    unfold M_costAt_6
    refine v_iload C dX4_costAt_6 5 rfl ?_
    refine v_aload_n C dX4_costAt_8 0 rfl ?_
    refine v_callV_ri C (As := []) (st := [.int x8]) lkX4_65 dX4_costAt_9 rfl (Nat.le_of_ble_eq_true rfl) (Nat.le_of_ble_eq_true rfl) (Nat.le_of_ble_eq_true rfl) (mRecv C) (fun _ z => met_X4_many σ z) (fun r1 hr1 => ?_)
    refine v_icmp_ge C (tgt := 45) dX4_costAt_12 rfl (fun _ => ?_) (fun _ => ?_)
    · refine v_lload C dX4_costAt_45 4 rfl ?_
      exact v_lreturn C hm dX4_costAt_47 rfl
    · refine v_lload C dX4_costAt_15 4 rfl ?_
      refine v_aload_n C dX4_costAt_17 0 rfl ?_
      refine mg_weights C dX4_costAt_18 ?_
      refine v_iload C dX4_costAt_21 5 rfl ?_
      refine ml_weights C dX4_costAt_23 (fun y2 hy2 => ?_)
      refine v_i2l C dX4_costAt_24 ?_
      refine v_aload_n C dX4_costAt_25 0 rfl ?_
      refine v_iload C dX4_costAt_26 5 rfl ?_
      refine v_iload_n C dX4_costAt_28 1 rfl ?_
      refine v_lload_n C dX4_costAt_29 2 rfl ?_
      refine v_lload C dX4_costAt_30 3 rfl ?_
      refine v_callV_rl C (As := [.int x8, .int x1, .long x2, .long x4]) (st := [.long (y2.toInt64), .long x6]) lkX4_153 dX4_costAt_32 rfl (Nat.le_of_ble_eq_true rfl) (Nat.le_of_ble_eq_true rfl) (Nat.le_of_ble_eq_true rfl) (mRecv C) (fun _ z => met_X4_away σ x8 x1 x2 x4 z) (fun r3 hr3 => ?_)
      refine v_lmul C dX4_costAt_35 ?_
      refine v_ladd C dX4_costAt_36 ?_
      refine v_letl (fun y4 hy4 => ?_)
      refine v_lstore C (lv' := [(6, .long y4), (0, .ref (mad P 0)), (1, .int x1), (2, .long x2), (4, .long x4), (8, .int x8)]) dX4_costAt_37 (Nat.le_of_ble_eq_true rfl) rfl ?_
      refine v_iincN C (lv' := fun y5 => [(8, .int y5), (6, .long y4), (0, .ref (mad P 0)), (1, .int x1), (2, .long x2), (4, .long x4)]) dX4_costAt_39 5 rfl ci_1 (Nat.le_of_ble_eq_true rfl) (fun _ => rfl) (fun y5 hy5 => ?_)
      refine v_goto C (tgt := 6) dX4_costAt_42 rfl ?_
      exact v_sub [2, 3, 4, 5, 1, 0] rfl (ih y4 y5)
theorem met_X4_costAt {P : MP} {l : Launch} (F : Nat) (σ : MS) (x1 : Int32) (x2 : Int64) (x4 : Int64) {r : Int64} (h : M_costAt F σ x1 x2 x4 = some r) : FM l (OM P) yX4_costAt (ws_ yX4_costAt cX4_costAt 9 (some .long)) 3 78 [.ref (mad P 0), .int x1, .long x2, .long x4] σ ((f_rl σ) r) := by
  refine FM.of (own := RX4) (lv := [(0, .ref (mad P 0)), (1, .int x1), (2, .long x2), (4, .long x4)]) (OM_ok P) pl_X4 rfl (Nat.le_of_ble_eq_true rfl) rfl h OM_le (fun X C hm => ?_)
  unfold M_costAt
  refine v_lconst C dX4_costAt_0 cl_0 ?_
  refine v_lstore C (lv' := [(6, .long 0), (0, .ref (mad P 0)), (1, .int x1), (2, .long x2), (4, .long x4)]) dX4_costAt_1 (Nat.le_of_ble_eq_true rfl) rfl ?_
  refine v_iconst C dX4_costAt_3 ci_0 ?_
  refine v_istore C (lv' := [(8, .int 0), (6, .long 0), (0, .ref (mad P 0)), (1, .int x1), (2, .long x2), (4, .long x4)]) dX4_costAt_4 (Nat.le_of_ble_eq_true rfl) rfl ?_
  exact v_sub [2, 3, 4, 5, 1, 0] rfl (w_costAt_6 C hm F 0 0)
theorem w_cost_69 {P : MP} {X : Ctx} {l : Launch} {S0 : MS} {F : Nat} (C : CX (OM P) X l cX4_cost 6 RX4 (some .int)) (hm : X.2.2.2.2.2.2.2.2.2 = none) {x1 : Int32} {x2 : Int32} {x3 : Int32} {x4 : Int32} (s1 : Int32) (σ : MS) : VF (OM P) X 6 4 106 S0 f_mi (M_cost_69 F x1 x2 x3 x4 s1 σ) σ 69 [(0, .ref (mad P 0)), (1, .int x1), (2, .int x2), (3, .int x3), (4, .int x4)] [.int s1, .ref (mad P 0)] := by
  unfold M_cost_69
  refine v_callV_mi C (As := [.int s1]) (st := []) lkX4_61 dX4_cost_69 rfl (Nat.le_of_ble_eq_true rfl) (Nat.le_of_ble_eq_true rfl) (Nat.le_of_ble_eq_true rfl) (mRecv C) (fun _ z => met_X4_refused σ s1 z) (fun r6 hr6 => ?_)
  refine v_if_eq C (tgt := 77) dX4_cost_72 rfl (fun _ => ?_) (fun _ => ?_)
  · refine v_aload_n C dX4_cost_77 0 rfl ?_
    refine v_iconst C dX4_cost_78 ci_0 ?_
    refine v_callV_mv C (As := [.int 0]) (st := []) lkX4_170 dX4_cost_79 rfl (Nat.le_of_ble_eq_true rfl) (Nat.le_of_ble_eq_true rfl) (Nat.le_of_ble_eq_true rfl) (mRecv C) (fun _ z => met_X4_weighs F r6.2 0 z) (fun r7 hr7 => ?_)
    refine v_aload_n C dX4_cost_82 0 rfl ?_
    refine v_iload_n C dX4_cost_83 1 rfl ?_
    refine v_iload_n C dX4_cost_84 2 rfl ?_
    refine v_i2l C dX4_cost_85 ?_
    refine v_iload_n C dX4_cost_86 3 rfl ?_
    refine v_i2l C dX4_cost_87 ?_
    refine v_callV_rl C (As := [.int x1, .long (x2.toInt64), .long (x3.toInt64)]) (st := []) lkX4_176 dX4_cost_88 rfl (Nat.le_of_ble_eq_true rfl) (Nat.le_of_ble_eq_true rfl) (Nat.le_of_ble_eq_true rfl) (mRecv C) (fun _ z => met_X4_costAt F r7 x1 (x2.toInt64) (x3.toInt64) z) (fun r8 hr8 => ?_)
    refine v_iload_n C dX4_cost_91 3 rfl ?_
    refine v_i2l C dX4_cost_92 ?_
    refine v_iload C dX4_cost_93 4 rfl ?_
    refine v_callS_ri C (As := [.long r8, .long (x3.toInt64), .int x4]) (st := []) lkX4_156 dX4_cost_95 rfl (Nat.le_of_ble_eq_true rfl) (Nat.le_of_ble_eq_true rfl) (Nat.le_of_ble_eq_true rfl) (fun _ z => met_X4_reduced F r7 r8 (x3.toInt64) x4 z) (fun r9 hr9 => ?_)
    exact v_ireturn C hm dX4_cost_98 rfl
  · refine v_iconst C dX4_cost_75 ci_0 ?_
    exact v_ireturn C hm dX4_cost_76 rfl
theorem w_cost_33 {P : MP} {X : Ctx} {l : Launch} {S0 : MS} {F : Nat} (C : CX (OM P) X l cX4_cost 6 RX4 (some .int)) (hm : X.2.2.2.2.2.2.2.2.2 = none) {x1 : Int32} {x2 : Int32} {x3 : Int32} {x4 : Int32} (s0 : Int32) (σ : MS) : VF (OM P) X 6 4 106 S0 f_mi (M_cost_33 F x1 x2 x3 x4 s0 σ) σ 33 [(0, .ref (mad P 0)), (1, .int x1), (2, .int x2), (3, .int x3), (4, .int x4)] [.int s0] := by
  unfold M_cost_33
  refine v_istore C (lv' := [(5, .int s0), (0, .ref (mad P 0)), (1, .int x1), (2, .int x2), (3, .int x3), (4, .int x4)]) dX4_cost_33 (Nat.le_of_ble_eq_true rfl) rfl ?_
  refine v_aload_n C dX4_cost_35 1 rfl ?_
  refine v_aload_n C dX4_cost_36 1 rfl ?_
  refine v_iload_n C dX4_cost_37 2 rfl ?_
  refine v_callV_ri C (As := [.int x1]) (st := [.ref (mad P 0)]) lkX4_106 dX4_cost_38 rfl (Nat.le_of_ble_eq_true rfl) (Nat.le_of_ble_eq_true rfl) (Nat.le_of_ble_eq_true rfl) (mRecv C) (fun _ z => met_X4_isEdge σ x1 z) (fun r4 hr4 => ?_)
  refine v_if_ne C (tgt := 48) dX4_cost_41 rfl (fun _ => ?_) (fun _ => ?_)
  · refine v_iconst C dX4_cost_44 ci_1 ?_
    refine v_goto C (tgt := 69) dX4_cost_45 rfl ?_
    exact v_sub [1, 2, 3, 4, 5] rfl (w_cost_69 C hm 1 σ)
  · refine v_iload C dX4_cost_48 0 rfl ?_
    refine v_if_ne C (tgt := 57) dX4_cost_50 rfl (fun _ => ?_) (fun _ => ?_)
    · refine v_iconst C dX4_cost_53 ci_2 ?_
      refine v_goto C (tgt := 69) dX4_cost_54 rfl ?_
      exact v_sub [1, 2, 3, 4, 5] rfl (w_cost_69 C hm 2 σ)
    · refine v_aload_n C dX4_cost_57 1 rfl ?_
      refine v_callV_mi C (As := []) (st := [.ref (mad P 0)]) lkX4_122 dX4_cost_58 rfl (Nat.le_of_ble_eq_true rfl) (Nat.le_of_ble_eq_true rfl) (Nat.le_of_ble_eq_true rfl) (mRecv C) (fun _ z => met_X4_isConnected F σ z) (fun r5 hr5 => ?_)
      refine v_if_ne C (tgt := 68) dX4_cost_61 rfl (fun _ => ?_) (fun _ => ?_)
      · refine v_iconst C dX4_cost_64 ci_3 ?_
        refine v_goto C (tgt := 69) dX4_cost_65 rfl ?_
        exact v_sub [1, 2, 3, 4, 5] rfl (w_cost_69 C hm 3 r5.2)
      · refine v_iconst C dX4_cost_68 ci_0 ?_
        exact v_sub [1, 2, 3, 4, 5] rfl (w_cost_69 C hm 0 r5.2)
theorem w_cost_32 {P : MP} {X : Ctx} {l : Launch} {S0 : MS} {F : Nat} (C : CX (OM P) X l cX4_cost 6 RX4 (some .int)) (hm : X.2.2.2.2.2.2.2.2.2 = none) {x1 : Int32} {x2 : Int32} {x3 : Int32} {x4 : Int32} (σ : MS) : VF (OM P) X 6 4 106 S0 f_mi (M_cost_32 F x1 x2 x3 x4 σ) σ 32 [(0, .ref (mad P 0)), (1, .int x1), (2, .int x2), (3, .int x3), (4, .int x4)] [] := by
  unfold M_cost_32
  refine v_iconst C dX4_cost_32 ci_0 ?_
  exact v_sub [0, 1, 2, 3, 4] rfl (w_cost_33 C hm 0 σ)
theorem met_X4_cost {P : MP} {l : Launch} (F : Nat) (σ : MS) (x1 : Int32) (x2 : Int32) (x3 : Int32) (x4 : Int32) {r : Int32 × MS} (h : M_cost F σ x1 x2 x3 x4 = some r) : FM l (OM P) yX4_cost (ws_ yX4_cost cX4_cost 6 (some .int)) 4 106 [.ref (mad P 0), .int x1, .int x2, .int x3, .int x4] σ (f_mi r) := by
  refine FM.of (own := RX4) (lv := [(0, .ref (mad P 0)), (1, .int x1), (2, .int x2), (3, .int x3), (4, .int x4)]) (OM_ok P) pl_X4 rfl (Nat.le_of_ble_eq_true rfl) rfl h OM_le (fun X C hm => ?_)
  unfold M_cost
  refine v_aload_n C dX4_cost_0 0 rfl ?_
  refine v_iload_n C dX4_cost_1 1 rfl ?_
  refine v_callV_ri C (As := [.int x1]) (st := []) lkX4_106 dX4_cost_2 rfl (Nat.le_of_ble_eq_true rfl) (Nat.le_of_ble_eq_true rfl) (Nat.le_of_ble_eq_true rfl) (mRecv C) (fun _ z => met_X4_isEdge σ x1 z) (fun r1 hr1 => ?_)
  refine v_if_eq C (tgt := 32) dX4_cost_5 rfl (fun _ => ?_) (fun _ => ?_)
  · exact v_sub [0, 1, 2, 3, 4] rfl (w_cost_32 C hm σ)
  · refine v_aload_n C dX4_cost_8 0 rfl ?_
    refine v_iload_n C dX4_cost_9 1 rfl ?_
    refine v_iload_n C dX4_cost_10 2 rfl ?_
    refine v_iload_n C dX4_cost_11 3 rfl ?_
    refine v_callV_ri C (As := [.int x1, .int x2, .int x3]) (st := []) lkX4_150 dX4_cost_12 rfl (Nat.le_of_ble_eq_true rfl) (Nat.le_of_ble_eq_true rfl) (Nat.le_of_ble_eq_true rfl) (mRecv C) (fun _ z => met_X4_isPoint σ x1 x2 x3 z) (fun r2 hr2 => ?_)
    refine v_if_eq C (tgt := 32) dX4_cost_15 rfl (fun _ => ?_) (fun _ => ?_)
    · exact v_sub [0, 1, 2, 3, 4] rfl (w_cost_32 C hm σ)
    · refine v_iload C dX4_cost_18 4 rfl ?_
      refine v_iconst C dX4_cost_20 ci_0 ?_
      refine v_iconst C dX4_cost_21 ci_1 ?_
      refine v_callS_ri C (As := [.int x4, .int 0, .int 1]) (st := []) lkX4_69 dX4_cost_22 rfl (Nat.le_of_ble_eq_true rfl) (Nat.le_of_ble_eq_true rfl) (Nat.le_of_ble_eq_true rfl) (fun _ z => met_X4_within σ x4 0 1 z) (fun r3 hr3 => ?_)
      refine v_if_eq C (tgt := 32) dX4_cost_25 rfl (fun _ => ?_) (fun _ => ?_)
      · exact v_sub [0, 1, 2, 3, 4] rfl (w_cost_32 C hm σ)
      · refine v_iconst C dX4_cost_28 ci_1 ?_
        refine v_goto C (tgt := 33) dX4_cost_29 rfl ?_
        exact v_sub [0, 1, 2, 3, 4] rfl (w_cost_33 C hm 1 σ)
theorem w_crosses_14 {P : MP} {X : Ctx} {l : Launch} {S0 : MS} (C : CX (OM P) X l cX4_crosses 8 RX4 none) (hm : X.2.2.2.2.2.2.2.2.2 = none) {x1 : Int32} {x2 : Int64} {x4 : Int64} (s0 : Int64) (σ : MS) : VF (OM P) X 8 1 22 S0 f_mv (M_crosses_14 x1 x2 x4 s0 σ) σ 14 [(0, .ref (mad P 0)), (1, .int x1), (2, .long x2), (4, .long x4)] [.long s0] := by
  unfold M_crosses_14
  refine v_lstore C (lv' := [(6, .long s0), (0, .ref (mad P 0)), (1, .int x1), (2, .long x2), (4, .long x4)]) dX4_crosses_14 (Nat.le_of_ble_eq_true rfl) rfl ?_
  refine v_lload C dX4_crosses_16 4 rfl ?_
  refine v_lconst C dX4_crosses_18 cl_0 ?_
  refine v_lcmp_eq C (tgt := 90) dX4_crosses_19 dX4_crosses_20 rfl (fun _ => ?_) (fun _ => ?_)
  · exact v_vreturn C hm dX4_crosses_90 rfl
  · refine v_lload C dX4_crosses_23 0 rfl ?_
    refine v_lload_n C dX4_crosses_25 3 rfl ?_
    refine v_lmul C dX4_crosses_26 ?_
    refine v_lconst C dX4_crosses_27 cl_0 ?_
    refine v_lcmp_lt C (tgt := 90) dX4_crosses_28 dX4_crosses_29 rfl (fun _ => ?_) (fun _ => ?_)
    · exact v_vreturn C hm dX4_crosses_90 rfl
    · refine v_lload C dX4_crosses_32 0 rfl ?_
      refine v_lload_n C dX4_crosses_34 3 rfl ?_
      refine v_lmul C dX4_crosses_35 ?_
      refine v_lload C dX4_crosses_36 0 rfl ?_
      refine v_lload C dX4_crosses_38 4 rfl ?_
      refine v_lmul C dX4_crosses_40 ?_
      refine v_aload_n C dX4_crosses_41 1 rfl ?_
      refine v_iload_n C dX4_crosses_42 2 rfl ?_
      refine v_iconst C dX4_crosses_43 ci_2 ?_
      refine v_callV_ri C (As := [.int x1, .int 2]) (st := [.long (s0 * x4), .long (s0 * x2)]) lkX4_79 dX4_crosses_44 rfl (Nat.le_of_ble_eq_true rfl) (Nat.le_of_ble_eq_true rfl) (Nat.le_of_ble_eq_true rfl) (mRecv C) (fun _ z => met_X4_of σ x1 2 z) (fun r1 hr1 => ?_)
      refine v_i2l C dX4_crosses_47 ?_
      refine v_lmul C dX4_crosses_48 ?_
      refine v_lcmp_gt C (tgt := 90) dX4_crosses_49 dX4_crosses_50 rfl (fun _ => ?_) (fun _ => ?_)
      · exact v_vreturn C hm dX4_crosses_90 rfl
      · refine v_aload_n C dX4_crosses_53 1 rfl ?_
        refine mg_crossP C dX4_crosses_54 ?_
        refine v_aload_n C dX4_crosses_57 1 rfl ?_
        refine mg_crossMany C dX4_crosses_58 ?_
        refine v_lload C dX4_crosses_61 0 rfl ?_
        refine v_lload_n C dX4_crosses_63 3 rfl ?_
        refine v_lmul C dX4_crosses_64 ?_
        refine ms_crossP C dX4_crosses_65 (fun σ2 hσ2 => ?_)
        refine v_aload_n C dX4_crosses_66 1 rfl ?_
        refine mg_crossQ C dX4_crosses_67 ?_
        refine v_aload_n C dX4_crosses_70 1 rfl ?_
        refine mg_crossMany C dX4_crosses_71 ?_
        refine v_lload C dX4_crosses_74 0 rfl ?_
        refine v_lload C dX4_crosses_76 4 rfl ?_
        refine v_lmul C dX4_crosses_78 ?_
        refine ms_crossQ C dX4_crosses_79 (fun σ3 hσ3 => ?_)
        refine v_aload_n C dX4_crosses_80 1 rfl ?_
        refine v_dup C dX4_crosses_81 rfl ?_
        refine mg_crossMany C dX4_crosses_82 ?_
        refine v_iconst C dX4_crosses_85 ci_1 ?_
        refine v_iadd C dX4_crosses_86 ?_
        refine mp_crossMany C dX4_crosses_87 (fun σ4 hσ4 => ?_)
        exact v_vreturn C hm dX4_crosses_90 rfl
theorem met_X4_crosses {P : MP} {l : Launch} (σ : MS) (x1 : Int32) (x2 : Int64) (x4 : Int64) {r : MS} (h : M_crosses σ x1 x2 x4 = some r) : FM l (OM P) yX4_crosses (ws_ yX4_crosses cX4_crosses 8 none) 1 22 [.ref (mad P 0), .int x1, .long x2, .long x4] σ (f_mv r) := by
  refine FM.of (own := RX4) (lv := [(0, .ref (mad P 0)), (1, .int x1), (2, .long x2), (4, .long x4)]) (OM_ok P) pl_X4 rfl (Nat.le_of_ble_eq_true rfl) rfl h OM_le (fun X C hm => ?_)
  unfold M_crosses
  refine v_lload C dX4_crosses_0 3 rfl ?_
  refine v_lconst C dX4_crosses_2 cl_0 ?_
  refine v_lcmp_ge C (tgt := 13) dX4_crosses_3 dX4_crosses_4 rfl (fun _ => ?_) (fun _ => ?_)
  · refine v_lconst C dX4_crosses_13 cl_1 ?_
    exact v_sub [0, 1, 2, 3] rfl (w_crosses_14 C hm 1 σ)
  · refine v_ldc2 C dX4_crosses_7 q2346 ?_
    refine v_goto C (tgt := 14) dX4_crosses_10 rfl ?_
    exact v_sub [0, 1, 2, 3] rfl (w_crosses_14 C hm (-1) σ)
theorem met_X4_line {P : MP} {l : Launch} (σ : MS) (x1 : Int32) (x2 : Int32) (x3 : Int32) (x4 : Int32) {r : Int64} (h : M_line σ x1 x2 x3 x4 = some r) : FM l (OM P) yX4_line (ws_ yX4_line cX4_line 5 (some .long)) 1 22 [.ref (mad P 0), .int x1, .int x2, .int x3, .int x4] σ ((f_rl σ) r) := by
  refine FM.of (own := RX4) (lv := [(0, .ref (mad P 0)), (1, .int x1), (2, .int x2), (3, .int x3), (4, .int x4)]) (OM_ok P) pl_X4 rfl (Nat.le_of_ble_eq_true rfl) rfl h OM_le (fun X C hm => ?_)
  unfold M_line
  refine v_iload C dX4_line_0 4 rfl ?_
  refine v_if_eq C (tgt := 28) dX4_line_2 rfl (fun _ => ?_) (fun _ => ?_)
  · refine v_aload_n C dX4_line_28 0 rfl ?_
    refine mg_weights C dX4_line_29 ?_
    refine v_iload_n C dX4_line_32 1 rfl ?_
    refine ml_weights C dX4_line_33 (fun y1 hy1 => ?_)
    refine v_i2l C dX4_line_34 ?_
    refine v_iload_n C dX4_line_35 3 rfl ?_
    refine v_if_ne C (tgt := 58) dX4_line_36 rfl (fun _ => ?_) (fun _ => ?_)
    · refine v_aload_n C dX4_line_39 0 rfl ?_
      refine mg_far C dX4_line_40 ?_
      refine v_bipush C dX4_line_43 cb_8 ?_
      refine v_iload_n C dX4_line_45 1 rfl ?_
      refine v_imul C dX4_line_46 ?_
      refine v_aload_n C dX4_line_47 0 rfl ?_
      refine v_iload_n C dX4_line_48 2 rfl ?_
      refine v_iconst C dX4_line_49 ci_0 ?_
      refine v_callV_ri C (As := [.int x2, .int 0]) (st := [.int (8 * x1), .ref (mad P 5), .long (y1.toInt64)]) lkX4_79 dX4_line_50 rfl (Nat.le_of_ble_eq_true rfl) (Nat.le_of_ble_eq_true rfl) (Nat.le_of_ble_eq_true rfl) (mRecv C) (fun _ z => met_X4_of σ x2 0 z) (fun r2 hr2 => ?_)
      refine v_iadd C dX4_line_53 ?_
      refine ml_far C dX4_line_54 (fun y3 hy3 => ?_)
      refine v_goto C (tgt := 81) dX4_line_55 rfl ?_
      refine v_i2l C dX4_line_81 ?_
      refine v_lmul C dX4_line_82 ?_
      exact v_lreturn C hm dX4_line_83 rfl
    · refine v_aload_n C dX4_line_58 0 rfl ?_
      refine mg_far C dX4_line_59 ?_
      refine v_bipush C dX4_line_62 cb_8 ?_
      refine v_iload_n C dX4_line_64 1 rfl ?_
      refine v_imul C dX4_line_65 ?_
      refine v_aload_n C dX4_line_66 0 rfl ?_
      refine v_iload_n C dX4_line_67 2 rfl ?_
      refine v_iconst C dX4_line_68 ci_1 ?_
      refine v_callV_ri C (As := [.int x2, .int 1]) (st := [.int (8 * x1), .ref (mad P 5), .long (y1.toInt64)]) lkX4_79 dX4_line_69 rfl (Nat.le_of_ble_eq_true rfl) (Nat.le_of_ble_eq_true rfl) (Nat.le_of_ble_eq_true rfl) (mRecv C) (fun _ z => met_X4_of σ x2 1 z) (fun r4 hr4 => ?_)
      refine v_iadd C dX4_line_72 ?_
      refine ml_far C dX4_line_73 (fun y5 hy5 => ?_)
      refine v_aload_n C dX4_line_74 0 rfl ?_
      refine v_iload_n C dX4_line_75 2 rfl ?_
      refine v_iconst C dX4_line_76 ci_2 ?_
      refine v_callV_ri C (As := [.int x2, .int 2]) (st := [.int y5, .long (y1.toInt64)]) lkX4_79 dX4_line_77 rfl (Nat.le_of_ble_eq_true rfl) (Nat.le_of_ble_eq_true rfl) (Nat.le_of_ble_eq_true rfl) (mRecv C) (fun _ z => met_X4_of σ x2 2 z) (fun r6 hr6 => ?_)
      refine v_iadd C dX4_line_80 ?_
      refine v_i2l C dX4_line_81 ?_
      refine v_lmul C dX4_line_82 ?_
      exact v_lreturn C hm dX4_line_83 rfl
  · refine v_iload_n C dX4_line_5 3 rfl ?_
    refine v_if_ne C (tgt := 19) dX4_line_6 rfl (fun _ => ?_) (fun _ => ?_)
    · refine v_aload_n C dX4_line_9 0 rfl ?_
      refine mg_weights C dX4_line_10 ?_
      refine v_iload_n C dX4_line_13 1 rfl ?_
      refine ml_weights C dX4_line_14 (fun y7 hy7 => ?_)
      refine v_i2l C dX4_line_15 ?_
      refine v_goto C (tgt := 27) dX4_line_16 rfl ?_
      exact v_lreturn C hm dX4_line_27 rfl
    · refine v_aload_n C dX4_line_19 0 rfl ?_
      refine mg_weights C dX4_line_20 ?_
      refine v_iload_n C dX4_line_23 1 rfl ?_
      refine ml_weights C dX4_line_24 (fun y8 hy8 => ?_)
      refine v_ineg C dX4_line_25 ?_
      refine v_i2l C dX4_line_26 ?_
      exact v_lreturn C hm dX4_line_27 rfl
theorem w_laysCrossings_186 {P : MP} {X : Ctx} {l : Launch} {S0 : MS} {F : Nat} (C : CX (OM P) X l cX4_laysCrossings 6 RX4 none) (hm : X.2.2.2.2.2.2.2.2.2 = none) {x1 : Int32} {x2 : Int32} {x3 : Int32} {x4 : Int32} (k27 : Int32 → MS → Option MS) (hk27 : ∀ (z3 : Int32) (τ : MS), VF (OM P) X 6 2 49 S0 f_mv (k27 z3 τ) τ 27 [(0, .ref (mad P 0)), (1, .int x1), (2, .int x2), (3, .int z3)] []) (k95 : Int32 → MS → Option MS) (hk95 : ∀ (z4 : Int32) (τ : MS), VF (OM P) X 6 2 49 S0 f_mv (k95 z4 τ) τ 95 [(0, .ref (mad P 0)), (1, .int x1), (2, .int x2), (3, .int x3), (4, .int z4)] []) (σ : MS) : VF (OM P) X 6 2 49 S0 f_mv (M_laysCrossings_186 F k27 k95 x1 x2 x3 x4 σ) σ 186 [(0, .ref (mad P 0)), (1, .int x1), (2, .int x2), (3, .int x3), (4, .int x4)] [] := by
  unfold M_laysCrossings_186
  refine v_iincN C (lv' := fun y29 => [(4, .int y29), (0, .ref (mad P 0)), (1, .int x1), (2, .int x2), (3, .int x3)]) dX4_laysCrossings_186 4 rfl ci_1 (Nat.le_of_ble_eq_true rfl) (fun _ => rfl) (fun y29 hy29 => ?_)
  refine v_goto C (tgt := 95) dX4_laysCrossings_189 rfl ?_
  exact v_sub [1, 2, 3, 4, 0] rfl (hk95 y29 σ)
theorem w_laysCrossings_104 {P : MP} {X : Ctx} {l : Launch} {S0 : MS} {F : Nat} (C : CX (OM P) X l cX4_laysCrossings 6 RX4 none) (hm : X.2.2.2.2.2.2.2.2.2 = none) {x1 : Int32} {x2 : Int32} {x3 : Int32} {x4 : Int32} (k27 : Int32 → MS → Option MS) (hk27 : ∀ (z3 : Int32) (τ : MS), VF (OM P) X 6 2 49 S0 f_mv (k27 z3 τ) τ 27 [(0, .ref (mad P 0)), (1, .int x1), (2, .int x2), (3, .int z3)] []) (k95 : Int32 → MS → Option MS) (hk95 : ∀ (z4 : Int32) (τ : MS), VF (OM P) X 6 2 49 S0 f_mv (k95 z4 τ) τ 95 [(0, .ref (mad P 0)), (1, .int x1), (2, .int x2), (3, .int x3), (4, .int z4)] []) : ∀ (n : Nat) (x5 : Int32) (σ : MS), VF (OM P) X 6 2 49 S0 f_mv (M_laysCrossings_104 F k27 k95 x1 x2 x3 x4 n x5 σ) σ 104 [(0, .ref (mad P 0)), (1, .int x1), (2, .int x2), (3, .int x3), (4, .int x4), (5, .int x5)] [] := by
  intro n
  induction n with
  | zero => intro x5 σ; exact VF.none
  | succ n ih =>
    intro x5 σ
    unfold M_laysCrossings_104
    refine v_iload C dX4_laysCrossings_104 5 rfl ?_
    refine v_iconst C dX4_laysCrossings_106 ci_4 ?_
    refine v_icmp_ge C (tgt := 186) dX4_laysCrossings_107 rfl (fun _ => ?_) (fun _ => ?_)
    · exact v_sub [0, 1, 2, 3, 4] rfl (w_laysCrossings_186 C hm k27 hk27 k95 hk95 σ)
    · refine v_iload_n C dX4_laysCrossings_110 1 rfl ?_
      refine v_iload_n C dX4_laysCrossings_111 3 rfl ?_
      refine v_callS_ri C (As := [.int x1, .int x3]) (st := []) lkX4_164 dX4_laysCrossings_112 rfl (Nat.le_of_ble_eq_true rfl) (Nat.le_of_ble_eq_true rfl) (Nat.le_of_ble_eq_true rfl) (fun _ z => met_X4_has σ x1 x3 z) (fun r21 hr21 => ?_)
      refine v_if_eq C (tgt := 186) dX4_laysCrossings_115 rfl (fun _ => ?_) (fun _ => ?_)
      · exact v_sub [0, 1, 2, 3, 4] rfl (w_laysCrossings_186 C hm k27 hk27 k95 hk95 σ)
      · refine v_iload_n C dX4_laysCrossings_118 1 rfl ?_
        refine v_iload C dX4_laysCrossings_119 4 rfl ?_
        refine v_callS_ri C (As := [.int x1, .int x4]) (st := []) lkX4_164 dX4_laysCrossings_121 rfl (Nat.le_of_ble_eq_true rfl) (Nat.le_of_ble_eq_true rfl) (Nat.le_of_ble_eq_true rfl) (fun _ z => met_X4_has σ x1 x4 z) (fun r22 hr22 => ?_)
        refine v_if_eq C (tgt := 186) dX4_laysCrossings_124 rfl (fun _ => ?_) (fun _ => ?_)
        · exact v_sub [0, 1, 2, 3, 4] rfl (w_laysCrossings_186 C hm k27 hk27 k95 hk95 σ)
        · refine v_aload_n C dX4_laysCrossings_127 0 rfl ?_
          refine v_iload_n C dX4_laysCrossings_128 2 rfl ?_
          refine v_aload_n C dX4_laysCrossings_129 0 rfl ?_
          refine v_iload C dX4_laysCrossings_130 4 rfl ?_
          refine v_iload_n C dX4_laysCrossings_132 2 rfl ?_
          refine v_iload C dX4_laysCrossings_133 5 rfl ?_
          refine v_iconst C dX4_laysCrossings_135 ci_2 ?_
          refine v_idiv C dX4_laysCrossings_136 (fun _ => ?_)
          refine v_iconst C dX4_laysCrossings_137 ci_0 ?_
          refine v_callV_rl C (As := [.int x4, .int x2, .int (x5 / 2), .int 0]) (st := [.int x2, .ref (mad P 0)]) lkX4_191 dX4_laysCrossings_138 rfl (Nat.le_of_ble_eq_true rfl) (Nat.le_of_ble_eq_true rfl) (Nat.le_of_ble_eq_true rfl) (mRecv C) (fun _ z => met_X4_line σ x4 x2 (x5 / 2) 0 z) (fun r23 hr23 => ?_)
          refine v_aload_n C dX4_laysCrossings_141 0 rfl ?_
          refine v_iload_n C dX4_laysCrossings_142 3 rfl ?_
          refine v_iload_n C dX4_laysCrossings_143 2 rfl ?_
          refine v_iload C dX4_laysCrossings_144 5 rfl ?_
          refine v_iconst C dX4_laysCrossings_146 ci_2 ?_
          refine v_irem C dX4_laysCrossings_147 (fun _ => ?_)
          refine v_iconst C dX4_laysCrossings_148 ci_0 ?_
          refine v_callV_rl C (As := [.int x3, .int x2, .int (x5 - x5 / 2 * 2), .int 0]) (st := [.long r23, .int x2, .ref (mad P 0)]) lkX4_191 dX4_laysCrossings_149 rfl (Nat.le_of_ble_eq_true rfl) (Nat.le_of_ble_eq_true rfl) (Nat.le_of_ble_eq_true rfl) (mRecv C) (fun _ z => met_X4_line σ x3 x2 (x5 - x5 / 2 * 2) 0 z) (fun r24 hr24 => ?_)
          refine v_lsub C dX4_laysCrossings_152 ?_
          refine v_aload_n C dX4_laysCrossings_153 0 rfl ?_
          refine v_iload_n C dX4_laysCrossings_154 3 rfl ?_
          refine v_iload_n C dX4_laysCrossings_155 2 rfl ?_
          refine v_iload C dX4_laysCrossings_156 5 rfl ?_
          refine v_iconst C dX4_laysCrossings_158 ci_2 ?_
          refine v_irem C dX4_laysCrossings_159 (fun _ => ?_)
          refine v_iconst C dX4_laysCrossings_160 ci_1 ?_
          refine v_callV_rl C (As := [.int x3, .int x2, .int (x5 - x5 / 2 * 2), .int 1]) (st := [.long (r23 - r24), .int x2, .ref (mad P 0)]) lkX4_191 dX4_laysCrossings_161 rfl (Nat.le_of_ble_eq_true rfl) (Nat.le_of_ble_eq_true rfl) (Nat.le_of_ble_eq_true rfl) (mRecv C) (fun _ z => met_X4_line σ x3 x2 (x5 - x5 / 2 * 2) 1 z) (fun r25 hr25 => ?_)
          refine v_aload_n C dX4_laysCrossings_164 0 rfl ?_
          refine v_iload C dX4_laysCrossings_165 4 rfl ?_
          refine v_iload_n C dX4_laysCrossings_167 2 rfl ?_
          refine v_iload C dX4_laysCrossings_168 5 rfl ?_
          refine v_iconst C dX4_laysCrossings_170 ci_2 ?_
          refine v_idiv C dX4_laysCrossings_171 (fun _ => ?_)
          refine v_iconst C dX4_laysCrossings_172 ci_1 ?_
          refine v_callV_rl C (As := [.int x4, .int x2, .int (x5 / 2), .int 1]) (st := [.long r25, .long (r23 - r24), .int x2, .ref (mad P 0)]) lkX4_191 dX4_laysCrossings_173 rfl (Nat.le_of_ble_eq_true rfl) (Nat.le_of_ble_eq_true rfl) (Nat.le_of_ble_eq_true rfl) (mRecv C) (fun _ z => met_X4_line σ x4 x2 (x5 / 2) 1 z) (fun r26 hr26 => ?_)
          refine v_lsub C dX4_laysCrossings_176 ?_
          refine v_callV_mv C (As := [.int x2, .long (r23 - r24), .long (r25 - r26)]) (st := []) lkX4_185 dX4_laysCrossings_177 rfl (Nat.le_of_ble_eq_true rfl) (Nat.le_of_ble_eq_true rfl) (Nat.le_of_ble_eq_true rfl) (mRecv C) (fun _ z => met_X4_crosses σ x2 (r23 - r24) (r25 - r26) z) (fun r27 hr27 => ?_)
          refine v_iincN C (lv' := fun y28 => [(5, .int y28), (0, .ref (mad P 0)), (1, .int x1), (2, .int x2), (3, .int x3), (4, .int x4)]) dX4_laysCrossings_180 5 rfl ci_1 (Nat.le_of_ble_eq_true rfl) (fun _ => rfl) (fun y28 hy28 => ?_)
          refine v_goto C (tgt := 104) dX4_laysCrossings_183 rfl ?_
          exact v_sub [1, 2, 3, 4, 5, 0] rfl (ih y28 r27)
theorem w_laysCrossings_192 {P : MP} {X : Ctx} {l : Launch} {S0 : MS} {F : Nat} (C : CX (OM P) X l cX4_laysCrossings 6 RX4 none) (hm : X.2.2.2.2.2.2.2.2.2 = none) {x1 : Int32} {x2 : Int32} {x3 : Int32} (k27 : Int32 → MS → Option MS) (hk27 : ∀ (z3 : Int32) (τ : MS), VF (OM P) X 6 2 49 S0 f_mv (k27 z3 τ) τ 27 [(0, .ref (mad P 0)), (1, .int x1), (2, .int x2), (3, .int z3)] []) (σ : MS) : VF (OM P) X 6 2 49 S0 f_mv (M_laysCrossings_192 F k27 x1 x2 x3 σ) σ 192 [(0, .ref (mad P 0)), (1, .int x1), (2, .int x2), (3, .int x3)] [] := by
  unfold M_laysCrossings_192
  refine v_iincN C (lv' := fun y20 => [(3, .int y20), (0, .ref (mad P 0)), (1, .int x1), (2, .int x2)]) dX4_laysCrossings_192 3 rfl ci_1 (Nat.le_of_ble_eq_true rfl) (fun _ => rfl) (fun y20 hy20 => ?_)
  refine v_goto C (tgt := 27) dX4_laysCrossings_195 rfl ?_
  exact v_sub [1, 2, 3, 0] rfl (hk27 y20 σ)
theorem w_laysCrossings_95 {P : MP} {X : Ctx} {l : Launch} {S0 : MS} {F : Nat} (C : CX (OM P) X l cX4_laysCrossings 6 RX4 none) (hm : X.2.2.2.2.2.2.2.2.2 = none) {x1 : Int32} {x2 : Int32} {x3 : Int32} (k27 : Int32 → MS → Option MS) (hk27 : ∀ (z3 : Int32) (τ : MS), VF (OM P) X 6 2 49 S0 f_mv (k27 z3 τ) τ 27 [(0, .ref (mad P 0)), (1, .int x1), (2, .int x2), (3, .int z3)] []) : ∀ (n : Nat) (x4 : Int32) (σ : MS), VF (OM P) X 6 2 49 S0 f_mv (M_laysCrossings_95 F k27 x1 x2 x3 n x4 σ) σ 95 [(0, .ref (mad P 0)), (1, .int x1), (2, .int x2), (3, .int x3), (4, .int x4)] [] := by
  intro n
  induction n with
  | zero => intro x4 σ; exact VF.none
  | succ n ih =>
    intro x4 σ
    unfold M_laysCrossings_95
    refine v_iload C dX4_laysCrossings_95 4 rfl ?_
    refine v_iload_n C dX4_laysCrossings_97 3 rfl ?_
    refine v_icmp_ge C (tgt := 192) dX4_laysCrossings_98 rfl (fun _ => ?_) (fun _ => ?_)
    · exact v_sub [0, 1, 2, 3] rfl (w_laysCrossings_192 C hm k27 hk27 σ)
    · refine v_iconst C dX4_laysCrossings_101 ci_0 ?_
      refine v_istore C (lv' := [(5, .int 0), (0, .ref (mad P 0)), (1, .int x1), (2, .int x2), (3, .int x3), (4, .int x4)]) dX4_laysCrossings_102 (Nat.le_of_ble_eq_true rfl) rfl ?_
      exact v_sub [1, 2, 3, 4, 5, 0] rfl (w_laysCrossings_104 C hm k27 hk27 (M_laysCrossings_95 F k27 x1 x2 x3 n) ih F 0 σ)
theorem w_laysCrossings_92 {P : MP} {X : Ctx} {l : Launch} {S0 : MS} {F : Nat} (C : CX (OM P) X l cX4_laysCrossings 6 RX4 none) (hm : X.2.2.2.2.2.2.2.2.2 = none) {x1 : Int32} {x2 : Int32} {x3 : Int32} (k27 : Int32 → MS → Option MS) (hk27 : ∀ (z3 : Int32) (τ : MS), VF (OM P) X 6 2 49 S0 f_mv (k27 z3 τ) τ 27 [(0, .ref (mad P 0)), (1, .int x1), (2, .int x2), (3, .int z3)] []) (σ : MS) : VF (OM P) X 6 2 49 S0 f_mv (M_laysCrossings_92 F k27 x1 x2 x3 σ) σ 92 [(0, .ref (mad P 0)), (1, .int x1), (2, .int x2), (3, .int x3)] [] := by
  unfold M_laysCrossings_92
  refine v_iconst C dX4_laysCrossings_92 ci_0 ?_
  refine v_istore C (lv' := [(4, .int 0), (0, .ref (mad P 0)), (1, .int x1), (2, .int x2), (3, .int x3)]) dX4_laysCrossings_93 (Nat.le_of_ble_eq_true rfl) rfl ?_
  exact v_sub [1, 2, 3, 4, 0] rfl (w_laysCrossings_95 C hm k27 hk27 F 0 σ)
theorem w_laysCrossings_244 {P : MP} {X : Ctx} {l : Launch} {S0 : MS} {F : Nat} (C : CX (OM P) X l cX4_laysCrossings 6 RX4 none) (hm : X.2.2.2.2.2.2.2.2.2 = none) {x2 : Int32} {x3 : Int32} (k200 : Int32 → MS → Option MS) (hk200 : ∀ (z3 : Int32) (τ : MS), VF (OM P) X 6 2 49 S0 f_mv (k200 z3 τ) τ 200 [(0, .ref (mad P 0)), (2, .int x2), (3, .int z3)] []) (σ : MS) : VF (OM P) X 6 2 49 S0 f_mv (M_laysCrossings_244 F k200 x2 x3 σ) σ 244 [(0, .ref (mad P 0)), (2, .int x2), (3, .int x3)] [] := by
  unfold M_laysCrossings_244
  refine v_iincN C (lv' := fun y19 => [(3, .int y19), (0, .ref (mad P 0)), (2, .int x2)]) dX4_laysCrossings_244 2 rfl ci_1 (Nat.le_of_ble_eq_true rfl) (fun _ => rfl) (fun y19 hy19 => ?_)
  refine v_goto C (tgt := 200) dX4_laysCrossings_247 rfl ?_
  exact v_sub [1, 2, 0] rfl (hk200 y19 σ)
theorem w_laysCrossings_200 {P : MP} {X : Ctx} {l : Launch} {S0 : MS} {F : Nat} (C : CX (OM P) X l cX4_laysCrossings 6 RX4 none) (hm : X.2.2.2.2.2.2.2.2.2 = none) {x2 : Int32}  : ∀ (n : Nat) (x3 : Int32) (σ : MS), VF (OM P) X 6 2 49 S0 f_mv (M_laysCrossings_200 F x2 n x3 σ) σ 200 [(0, .ref (mad P 0)), (2, .int x2), (3, .int x3)] [] := by
  intro n
  induction n with
  | zero => intro x3 σ; exact VF.none
  | succ n ih =>
    intro x3 σ
    unfold M_laysCrossings_200
    refine v_iload_n C dX4_laysCrossings_200 2 rfl ?_
    refine v_aload_n C dX4_laysCrossings_201 0 rfl ?_
    refine v_callV_ri C (As := []) (st := [.int x3]) lkX4_97 dX4_laysCrossings_202 rfl (Nat.le_of_ble_eq_true rfl) (Nat.le_of_ble_eq_true rfl) (Nat.le_of_ble_eq_true rfl) (mRecv C) (fun _ z => met_X4_stretchMany σ z) (fun r13 hr13 => ?_)
    refine v_icmp_ge C (tgt := 250) dX4_laysCrossings_205 rfl (fun _ => ?_) (fun _ => ?_)
    · exact v_vreturn C hm dX4_laysCrossings_250 rfl
    · refine v_aload_n C dX4_laysCrossings_208 0 rfl ?_
      refine v_iload_n C dX4_laysCrossings_209 2 rfl ?_
      refine v_iconst C dX4_laysCrossings_210 ci_0 ?_
      refine v_callV_ri C (As := [.int x3, .int 0]) (st := []) lkX4_100 dX4_laysCrossings_211 rfl (Nat.le_of_ble_eq_true rfl) (Nat.le_of_ble_eq_true rfl) (Nat.le_of_ble_eq_true rfl) (mRecv C) (fun _ z => met_X4_at σ x3 0 z) (fun r14 hr14 => ?_)
      refine v_iload_n C dX4_laysCrossings_214 1 rfl ?_
      refine v_icmp_ne C (tgt := 244) dX4_laysCrossings_215 rfl (fun _ => ?_) (fun _ => ?_)
      · refine v_aload_n C dX4_laysCrossings_218 0 rfl ?_
        refine v_iload_n C dX4_laysCrossings_219 1 rfl ?_
        refine v_aload_n C dX4_laysCrossings_220 0 rfl ?_
        refine v_iload_n C dX4_laysCrossings_221 2 rfl ?_
        refine v_iconst C dX4_laysCrossings_222 ci_1 ?_
        refine v_callV_ri C (As := [.int x3, .int 1]) (st := [.int x2, .ref (mad P 0)]) lkX4_100 dX4_laysCrossings_223 rfl (Nat.le_of_ble_eq_true rfl) (Nat.le_of_ble_eq_true rfl) (Nat.le_of_ble_eq_true rfl) (mRecv C) (fun _ z => met_X4_at σ x3 1 z) (fun r15 hr15 => ?_)
        refine v_i2l C dX4_laysCrossings_226 ?_
        refine v_lconst C dX4_laysCrossings_227 cl_1 ?_
        refine v_callV_mv C (As := [.int x2, .long (r15.toInt64), .long 1]) (st := []) lkX4_185 dX4_laysCrossings_228 rfl (Nat.le_of_ble_eq_true rfl) (Nat.le_of_ble_eq_true rfl) (Nat.le_of_ble_eq_true rfl) (mRecv C) (fun _ z => met_X4_crosses σ x2 (r15.toInt64) 1 z) (fun r16 hr16 => ?_)
        refine v_aload_n C dX4_laysCrossings_231 0 rfl ?_
        refine v_iload_n C dX4_laysCrossings_232 1 rfl ?_
        refine v_aload_n C dX4_laysCrossings_233 0 rfl ?_
        refine v_iload_n C dX4_laysCrossings_234 2 rfl ?_
        refine v_iconst C dX4_laysCrossings_235 ci_2 ?_
        refine v_callV_ri C (As := [.int x3, .int 2]) (st := [.int x2, .ref (mad P 0)]) lkX4_100 dX4_laysCrossings_236 rfl (Nat.le_of_ble_eq_true rfl) (Nat.le_of_ble_eq_true rfl) (Nat.le_of_ble_eq_true rfl) (mRecv C) (fun _ z => met_X4_at r16 x3 2 z) (fun r17 hr17 => ?_)
        refine v_i2l C dX4_laysCrossings_239 ?_
        refine v_lconst C dX4_laysCrossings_240 cl_1 ?_
        refine v_callV_mv C (As := [.int x2, .long (r17.toInt64), .long 1]) (st := []) lkX4_185 dX4_laysCrossings_241 rfl (Nat.le_of_ble_eq_true rfl) (Nat.le_of_ble_eq_true rfl) (Nat.le_of_ble_eq_true rfl) (mRecv C) (fun _ z => met_X4_crosses r16 x2 (r17.toInt64) 1 z) (fun r18 hr18 => ?_)
        exact v_sub [0, 1, 2] rfl (w_laysCrossings_244 C hm (M_laysCrossings_200 F x2 n) ih r18)
      · exact v_sub [0, 1, 2] rfl (w_laysCrossings_244 C hm (M_laysCrossings_200 F x2 n) ih σ)
theorem w_laysCrossings_198 {P : MP} {X : Ctx} {l : Launch} {S0 : MS} {F : Nat} (C : CX (OM P) X l cX4_laysCrossings 6 RX4 none) (hm : X.2.2.2.2.2.2.2.2.2 = none) {x2 : Int32} (σ : MS) : VF (OM P) X 6 2 49 S0 f_mv (M_laysCrossings_198 F x2 σ) σ 198 [(0, .ref (mad P 0)), (2, .int x2)] [] := by
  unfold M_laysCrossings_198
  refine v_iconst C dX4_laysCrossings_198 ci_0 ?_
  refine v_istore_n C (lv' := [(3, .int 0), (0, .ref (mad P 0)), (2, .int x2)]) dX4_laysCrossings_199 (Nat.le_of_ble_eq_true rfl) rfl ?_
  exact v_sub [1, 2, 0] rfl (w_laysCrossings_200 C hm F 0 σ)
theorem w_laysCrossings_27 {P : MP} {X : Ctx} {l : Launch} {S0 : MS} {F : Nat} (C : CX (OM P) X l cX4_laysCrossings 6 RX4 none) (hm : X.2.2.2.2.2.2.2.2.2 = none) {x1 : Int32} {x2 : Int32}  : ∀ (n : Nat) (x3 : Int32) (σ : MS), VF (OM P) X 6 2 49 S0 f_mv (M_laysCrossings_27 F x1 x2 n x3 σ) σ 27 [(0, .ref (mad P 0)), (1, .int x1), (2, .int x2), (3, .int x3)] [] := by
  intro n
  induction n with
  | zero => intro x3 σ; exact VF.none
  | succ n ih =>
    intro x3 σ
    unfold M_laysCrossings_27
    refine v_iload_n C dX4_laysCrossings_27 3 rfl ?_
    refine v_aload_n C dX4_laysCrossings_28 0 rfl ?_
    refine v_callV_ri C (As := []) (st := [.int x3]) lkX4_65 dX4_laysCrossings_29 rfl (Nat.le_of_ble_eq_true rfl) (Nat.le_of_ble_eq_true rfl) (Nat.le_of_ble_eq_true rfl) (mRecv C) (fun _ z => met_X4_many σ z) (fun r5 hr5 => ?_)
    refine v_icmp_ge C (tgt := 198) dX4_laysCrossings_32 rfl (fun _ => ?_) (fun _ => ?_)
    · exact v_sub [0, 2] rfl (w_laysCrossings_198 C hm σ)
    · refine v_iload_n C dX4_laysCrossings_35 1 rfl ?_
      refine v_iload_n C dX4_laysCrossings_36 3 rfl ?_
      refine v_callS_ri C (As := [.int x1, .int x3]) (st := []) lkX4_164 dX4_laysCrossings_37 rfl (Nat.le_of_ble_eq_true rfl) (Nat.le_of_ble_eq_true rfl) (Nat.le_of_ble_eq_true rfl) (fun _ z => met_X4_has σ x1 x3 z) (fun r6 hr6 => ?_)
      refine v_if_eq C (tgt := 92) dX4_laysCrossings_40 rfl (fun _ => ?_) (fun _ => ?_)
      · exact v_sub [0, 1, 2, 3] rfl (w_laysCrossings_92 C hm (M_laysCrossings_27 F x1 x2 n) ih σ)
      · refine v_aload_n C dX4_laysCrossings_43 0 rfl ?_
        refine v_iload_n C dX4_laysCrossings_44 2 rfl ?_
        refine v_aload_n C dX4_laysCrossings_45 0 rfl ?_
        refine mg_far C dX4_laysCrossings_46 ?_
        refine v_bipush C dX4_laysCrossings_49 cb_8 ?_
        refine v_iload_n C dX4_laysCrossings_51 3 rfl ?_
        refine v_imul C dX4_laysCrossings_52 ?_
        refine v_aload_n C dX4_laysCrossings_53 0 rfl ?_
        refine v_iload_n C dX4_laysCrossings_54 2 rfl ?_
        refine v_iconst C dX4_laysCrossings_55 ci_1 ?_
        refine v_callV_ri C (As := [.int x2, .int 1]) (st := [.int (8 * x3), .ref (mad P 5), .int x2, .ref (mad P 0)]) lkX4_79 dX4_laysCrossings_56 rfl (Nat.le_of_ble_eq_true rfl) (Nat.le_of_ble_eq_true rfl) (Nat.le_of_ble_eq_true rfl) (mRecv C) (fun _ z => met_X4_of σ x2 1 z) (fun r7 hr7 => ?_)
        refine v_iadd C dX4_laysCrossings_59 ?_
        refine ml_far C dX4_laysCrossings_60 (fun y8 hy8 => ?_)
        refine v_aload_n C dX4_laysCrossings_61 0 rfl ?_
        refine v_iload_n C dX4_laysCrossings_62 2 rfl ?_
        refine v_iconst C dX4_laysCrossings_63 ci_2 ?_
        refine v_callV_ri C (As := [.int x2, .int 2]) (st := [.int y8, .int x2, .ref (mad P 0)]) lkX4_79 dX4_laysCrossings_64 rfl (Nat.le_of_ble_eq_true rfl) (Nat.le_of_ble_eq_true rfl) (Nat.le_of_ble_eq_true rfl) (mRecv C) (fun _ z => met_X4_of σ x2 2 z) (fun r9 hr9 => ?_)
        refine v_iadd C dX4_laysCrossings_67 ?_
        refine v_aload_n C dX4_laysCrossings_68 0 rfl ?_
        refine mg_far C dX4_laysCrossings_69 ?_
        refine v_bipush C dX4_laysCrossings_72 cb_8 ?_
        refine v_iload_n C dX4_laysCrossings_74 3 rfl ?_
        refine v_imul C dX4_laysCrossings_75 ?_
        refine v_aload_n C dX4_laysCrossings_76 0 rfl ?_
        refine v_iload_n C dX4_laysCrossings_77 2 rfl ?_
        refine v_iconst C dX4_laysCrossings_78 ci_0 ?_
        refine v_callV_ri C (As := [.int x2, .int 0]) (st := [.int (8 * x3), .ref (mad P 5), .int (y8 + r9), .int x2, .ref (mad P 0)]) lkX4_79 dX4_laysCrossings_79 rfl (Nat.le_of_ble_eq_true rfl) (Nat.le_of_ble_eq_true rfl) (Nat.le_of_ble_eq_true rfl) (mRecv C) (fun _ z => met_X4_of σ x2 0 z) (fun r10 hr10 => ?_)
        refine v_iadd C dX4_laysCrossings_82 ?_
        refine ml_far C dX4_laysCrossings_83 (fun y11 hy11 => ?_)
        refine v_isub C dX4_laysCrossings_84 ?_
        refine v_i2l C dX4_laysCrossings_85 ?_
        refine v_ldc2 C dX4_laysCrossings_86 q2347 ?_
        refine v_callV_mv C (As := [.int x2, .long (((y8 + r9) - y11).toInt64), .long 2]) (st := []) lkX4_185 dX4_laysCrossings_89 rfl (Nat.le_of_ble_eq_true rfl) (Nat.le_of_ble_eq_true rfl) (Nat.le_of_ble_eq_true rfl) (mRecv C) (fun _ z => met_X4_crosses σ x2 (((y8 + r9) - y11).toInt64) 2 z) (fun r12 hr12 => ?_)
        exact v_sub [0, 1, 2, 3] rfl (w_laysCrossings_92 C hm (M_laysCrossings_27 F x1 x2 n) ih r12)
theorem met_X4_laysCrossings {P : MP} {l : Launch} (F : Nat) (σ : MS) (x1 : Int32) (x2 : Int32) {r : MS} (h : M_laysCrossings F σ x1 x2 = some r) : FM l (OM P) yX4_laysCrossings (ws_ yX4_laysCrossings cX4_laysCrossings 6 none) 2 49 [.ref (mad P 0), .int x1, .int x2] σ (f_mv r) := by
  refine FM.of (own := RX4) (lv := [(0, .ref (mad P 0)), (1, .int x1), (2, .int x2)]) (OM_ok P) pl_X4 rfl (Nat.le_of_ble_eq_true rfl) rfl h OM_le (fun X C hm => ?_)
  unfold M_laysCrossings
  refine v_aload_n C dX4_laysCrossings_0 0 rfl ?_
  refine v_iconst C dX4_laysCrossings_1 ci_0 ?_
  refine mp_crossMany C dX4_laysCrossings_2 (fun σ1 hσ1 => ?_)
  refine v_aload_n C dX4_laysCrossings_5 0 rfl ?_
  refine v_iload_n C dX4_laysCrossings_6 2 rfl ?_
  refine v_lconst C dX4_laysCrossings_7 cl_0 ?_
  refine v_lconst C dX4_laysCrossings_8 cl_1 ?_
  refine v_callV_mv C (As := [.int x2, .long 0, .long 1]) (st := []) lkX4_185 dX4_laysCrossings_9 rfl (Nat.le_of_ble_eq_true rfl) (Nat.le_of_ble_eq_true rfl) (Nat.le_of_ble_eq_true rfl) (mRecv C) (fun _ z => met_X4_crosses σ1 x2 0 1 z) (fun r2 hr2 => ?_)
  refine v_aload_n C dX4_laysCrossings_12 0 rfl ?_
  refine v_iload_n C dX4_laysCrossings_13 2 rfl ?_
  refine v_aload_n C dX4_laysCrossings_14 0 rfl ?_
  refine v_iload_n C dX4_laysCrossings_15 2 rfl ?_
  refine v_iconst C dX4_laysCrossings_16 ci_2 ?_
  refine v_callV_ri C (As := [.int x2, .int 2]) (st := [.int x2, .ref (mad P 0)]) lkX4_79 dX4_laysCrossings_17 rfl (Nat.le_of_ble_eq_true rfl) (Nat.le_of_ble_eq_true rfl) (Nat.le_of_ble_eq_true rfl) (mRecv C) (fun _ z => met_X4_of r2 x2 2 z) (fun r3 hr3 => ?_)
  refine v_i2l C dX4_laysCrossings_20 ?_
  refine v_lconst C dX4_laysCrossings_21 cl_1 ?_
  refine v_callV_mv C (As := [.int x2, .long (r3.toInt64), .long 1]) (st := []) lkX4_185 dX4_laysCrossings_22 rfl (Nat.le_of_ble_eq_true rfl) (Nat.le_of_ble_eq_true rfl) (Nat.le_of_ble_eq_true rfl) (mRecv C) (fun _ z => met_X4_crosses r2 x2 (r3.toInt64) 1 z) (fun r4 hr4 => ?_)
  refine v_iconst C dX4_laysCrossings_25 ci_0 ?_
  refine v_istore_n C (lv' := [(3, .int 0), (0, .ref (mad P 0)), (1, .int x1), (2, .int x2)]) dX4_laysCrossings_26 (Nat.le_of_ble_eq_true rfl) rfl ?_
  exact v_sub [1, 2, 3, 0] rfl (w_laysCrossings_27 C hm F 0 r4)
theorem met_X4_isRight {P : MP} {l : Launch} (σ : MS) (x1 : Int32) (x2 : Int32) (x3 : Int32) {r : Int32} (h : M_isRight σ x1 x2 x3 = some r) : FM l (OM P) yX4_isRight (ws_ yX4_isRight cX4_isRight 8 (some .boolean)) 1 22 [.ref (mad P 0), .int x1, .int x2, .int x3] σ ((f_ri σ) r) := by
  refine FM.of (own := RX4) (lv := [(0, .ref (mad P 0)), (1, .int x1), (2, .int x2), (3, .int x3)]) (OM_ok P) pl_X4 rfl (Nat.le_of_ble_eq_true rfl) rfl h OM_le (fun X C hm => ?_)
  unfold M_isRight
  refine v_aload_n C dX4_isRight_0 0 rfl ?_
  refine mg_crossP C dX4_isRight_1 ?_
  refine v_iload_n C dX4_isRight_4 2 rfl ?_
  refine ml_crossP C dX4_isRight_5 (fun y1 hy1 => ?_)
  refine v_lstore C (lv' := [(4, .long y1), (0, .ref (mad P 0)), (1, .int x1), (2, .int x2), (3, .int x3)]) dX4_isRight_6 (Nat.le_of_ble_eq_true rfl) rfl ?_
  refine v_aload_n C dX4_isRight_8 1 rfl ?_
  refine mg_crossQ C dX4_isRight_9 ?_
  refine v_iload_n C dX4_isRight_12 3 rfl ?_
  refine ml_crossQ C dX4_isRight_13 (fun y2 hy2 => ?_)
  refine v_lstore C (lv' := [(6, .long y2), (4, .long y1), (0, .ref (mad P 0)), (1, .int x1), (2, .int x2), (3, .int x3)]) dX4_isRight_14 (Nat.le_of_ble_eq_true rfl) rfl ?_
  refine v_iload_n C dX4_isRight_16 5 rfl ?_
  refine v_if_eq C (tgt := 44) dX4_isRight_17 rfl (fun _ => ?_) (fun _ => ?_)
  · refine v_lload C dX4_isRight_44 1 rfl ?_
    refine v_lconst C dX4_isRight_46 cl_0 ?_
    refine v_lcmp_le C (tgt := 55) dX4_isRight_47 dX4_isRight_48 rfl (fun _ => ?_) (fun _ => ?_)
    · refine v_iconst C dX4_isRight_55 ci_0 ?_
      exact v_zreturn C hm dX4_isRight_56 (Or.inl rfl) rfl
    · refine v_iconst C dX4_isRight_51 ci_1 ?_
      refine v_goto C (tgt := 56) dX4_isRight_52 rfl ?_
      exact v_zreturn C hm dX4_isRight_56 (Or.inr rfl) rfl
  · refine v_lload C dX4_isRight_20 1 rfl ?_
    refine v_lload C dX4_isRight_22 0 rfl ?_
    refine v_aload_n C dX4_isRight_24 2 rfl ?_
    refine v_iload_n C dX4_isRight_25 3 rfl ?_
    refine v_iconst C dX4_isRight_26 ci_2 ?_
    refine v_callV_ri C (As := [.int x1, .int 2]) (st := [.long y2, .long y1]) lkX4_79 dX4_isRight_27 rfl (Nat.le_of_ble_eq_true rfl) (Nat.le_of_ble_eq_true rfl) (Nat.le_of_ble_eq_true rfl) (mRecv C) (fun _ z => met_X4_of σ x1 2 z) (fun r3 hr3 => ?_)
    refine v_i2l C dX4_isRight_30 ?_
    refine v_lmul C dX4_isRight_31 ?_
    refine v_lcmp_ge C (tgt := 40) dX4_isRight_32 dX4_isRight_33 rfl (fun _ => ?_) (fun _ => ?_)
    · refine v_iconst C dX4_isRight_40 ci_0 ?_
      refine v_goto C (tgt := 56) dX4_isRight_41 rfl ?_
      exact v_zreturn C hm dX4_isRight_56 (Or.inl rfl) rfl
    · refine v_iconst C dX4_isRight_36 ci_1 ?_
      refine v_goto C (tgt := 56) dX4_isRight_37 rfl ?_
      exact v_zreturn C hm dX4_isRight_56 (Or.inr rfl) rfl
theorem w_slopeAt_189 {P : MP} {X : Ctx} {l : Launch} {F : Nat} {σ : MS} (C : CX (OM P) X l cX4_slopeAt 20 RX4 (some .long)) (hm : X.2.2.2.2.2.2.2.2.2 = none) {x1 : Int32} {x2 : Int64} {x4 : Int64} {x6 : Int32} {x7 : Int64} {x9 : Int64} {x11 : Int32} {x12 : Int32} (k27 : Int64 → Int32 → Int32 → Option Int64) (hk27 : ∀ (z9 : Int64) (z11 : Int32) (z12 : Int32), VF (OM P) X 20 4 109 σ (f_rl σ) (k27 z9 z11 z12) σ 27 [(0, .ref (mad P 0)), (1, .int x1), (2, .long x2), (4, .long x4), (6, .int x6), (7, .long x7), (9, .long z9), (11, .int z11), (12, .int z12)] []) : VF (OM P) X 20 4 109 σ (f_rl σ) (M_slopeAt_189 F k27 σ x1 x2 x4 x6 x7 x9 x11 x12) σ 189 [(0, .ref (mad P 0)), (1, .int x1), (2, .long x2), (4, .long x4), (6, .int x6), (7, .long x7), (9, .long x9), (11, .int x11), (12, .int x12)] [] := by
  unfold M_slopeAt_189
  refine v_iincN C (lv' := fun y10 => [(12, .int y10), (0, .ref (mad P 0)), (1, .int x1), (2, .long x2), (4, .long x4), (6, .int x6), (7, .long x7), (9, .long x9), (11, .int x11)]) dX4_slopeAt_189 8 rfl ci_1 (Nat.le_of_ble_eq_true rfl) (fun _ => rfl) (fun y10 hy10 => ?_)
  refine v_goto C (tgt := 27) dX4_slopeAt_192 rfl ?_
  exact v_sub [1, 2, 3, 4, 5, 6, 7, 8, 0] rfl (hk27 x9 x11 y10)
theorem w_slopeAt_184 {P : MP} {X : Ctx} {l : Launch} {F : Nat} {σ : MS} (C : CX (OM P) X l cX4_slopeAt 20 RX4 (some .long)) (hm : X.2.2.2.2.2.2.2.2.2 = none) {x1 : Int32} {x2 : Int64} {x4 : Int64} {x6 : Int32} {x7 : Int64} {x12 : Int32} (k27 : Int64 → Int32 → Int32 → Option Int64) (hk27 : ∀ (z9 : Int64) (z11 : Int32) (z12 : Int32), VF (OM P) X 20 4 109 σ (f_rl σ) (k27 z9 z11 z12) σ 27 [(0, .ref (mad P 0)), (1, .int x1), (2, .long x2), (4, .long x4), (6, .int x6), (7, .long x7), (9, .long z9), (11, .int z11), (12, .int z12)] []) (s0 : Int64) : VF (OM P) X 20 4 109 σ (f_rl σ) (M_slopeAt_184 F k27 σ x1 x2 x4 x6 x7 x12 s0) σ 184 [(0, .ref (mad P 0)), (1, .int x1), (2, .long x2), (4, .long x4), (6, .int x6), (7, .long x7), (12, .int x12)] [.long s0] := by
  unfold M_slopeAt_184
  refine v_lstore C (lv' := [(9, .long s0), (0, .ref (mad P 0)), (1, .int x1), (2, .long x2), (4, .long x4), (6, .int x6), (7, .long x7), (12, .int x12)]) dX4_slopeAt_184 (Nat.le_of_ble_eq_true rfl) rfl ?_
  refine v_iconst C dX4_slopeAt_186 ci_0 ?_
  refine v_istore C (lv' := [(11, .int 0), (9, .long s0), (0, .ref (mad P 0)), (1, .int x1), (2, .long x2), (4, .long x4), (6, .int x6), (7, .long x7), (12, .int x12)]) dX4_slopeAt_187 (Nat.le_of_ble_eq_true rfl) rfl ?_
  exact v_sub [2, 3, 4, 5, 6, 7, 1, 0, 8] rfl (w_slopeAt_189 C hm k27 hk27)
theorem w_slopeAt_177 {P : MP} {X : Ctx} {l : Launch} {F : Nat} {σ : MS} (C : CX (OM P) X l cX4_slopeAt 20 RX4 (some .long)) (hm : X.2.2.2.2.2.2.2.2.2 = none) {x1 : Int32} {x2 : Int64} {x4 : Int64} {x6 : Int32} {x7 : Int64} {x12 : Int32} {x18 : Int64} (k27 : Int64 → Int32 → Int32 → Option Int64) (hk27 : ∀ (z9 : Int64) (z11 : Int32) (z12 : Int32), VF (OM P) X 20 4 109 σ (f_rl σ) (k27 z9 z11 z12) σ 27 [(0, .ref (mad P 0)), (1, .int x1), (2, .long x2), (4, .long x4), (6, .int x6), (7, .long x7), (9, .long z9), (11, .int z11), (12, .int z12)] []) : VF (OM P) X 20 4 109 σ (f_rl σ) (M_slopeAt_177 F k27 σ x1 x2 x4 x6 x7 x12 x18) σ 177 [(0, .ref (mad P 0)), (1, .int x1), (2, .long x2), (4, .long x4), (6, .int x6), (7, .long x7), (12, .int x12), (18, .long x18)] [] := by
  unfold M_slopeAt_177
  refine v_lload C dX4_slopeAt_177 7 rfl ?_
  refine v_goto C (tgt := 184) dX4_slopeAt_179 rfl ?_
  exact v_sub [0, 1, 2, 3, 4, 5, 6] rfl (w_slopeAt_184 C hm k27 hk27 x18)
theorem w_slopeAt_182 {P : MP} {X : Ctx} {l : Launch} {F : Nat} {σ : MS} (C : CX (OM P) X l cX4_slopeAt 20 RX4 (some .long)) (hm : X.2.2.2.2.2.2.2.2.2 = none) {x1 : Int32} {x2 : Int64} {x4 : Int64} {x6 : Int32} {x7 : Int64} {x9 : Int64} {x12 : Int32} (k27 : Int64 → Int32 → Int32 → Option Int64) (hk27 : ∀ (z9 : Int64) (z11 : Int32) (z12 : Int32), VF (OM P) X 20 4 109 σ (f_rl σ) (k27 z9 z11 z12) σ 27 [(0, .ref (mad P 0)), (1, .int x1), (2, .long x2), (4, .long x4), (6, .int x6), (7, .long x7), (9, .long z9), (11, .int z11), (12, .int z12)] []) : VF (OM P) X 20 4 109 σ (f_rl σ) (M_slopeAt_182 F k27 σ x1 x2 x4 x6 x7 x9 x12) σ 182 [(0, .ref (mad P 0)), (1, .int x1), (2, .long x2), (4, .long x4), (6, .int x6), (7, .long x7), (9, .long x9), (12, .int x12)] [] := by
  unfold M_slopeAt_182
  refine v_lload C dX4_slopeAt_182 6 rfl ?_
  exact v_sub [0, 1, 2, 3, 4, 5, 7] rfl (w_slopeAt_184 C hm k27 hk27 x9)
theorem w_slopeAt_146 {P : MP} {X : Ctx} {l : Launch} {F : Nat} {σ : MS} (C : CX (OM P) X l cX4_slopeAt 20 RX4 (some .long)) (hm : X.2.2.2.2.2.2.2.2.2 = none) {x1 : Int32} {x2 : Int64} {x4 : Int64} {x6 : Int32} {x7 : Int64} {x9 : Int64} {x11 : Int32} {x12 : Int32} (k27 : Int64 → Int32 → Int32 → Option Int64) (hk27 : ∀ (z9 : Int64) (z11 : Int32) (z12 : Int32), VF (OM P) X 20 4 109 σ (f_rl σ) (k27 z9 z11 z12) σ 27 [(0, .ref (mad P 0)), (1, .int x1), (2, .long x2), (4, .long x4), (6, .int x6), (7, .long x7), (9, .long z9), (11, .int z11), (12, .int z12)] []) (s0 : Int64) : VF (OM P) X 20 4 109 σ (f_rl σ) (M_slopeAt_146 F k27 σ x1 x2 x4 x6 x7 x9 x11 x12 s0) σ 146 [(0, .ref (mad P 0)), (1, .int x1), (2, .long x2), (4, .long x4), (6, .int x6), (7, .long x7), (9, .long x9), (11, .int x11), (12, .int x12)] [.long s0] := by
  unfold M_slopeAt_146
  refine v_lstore C (lv' := [(18, .long s0), (0, .ref (mad P 0)), (1, .int x1), (2, .long x2), (4, .long x4), (6, .int x6), (7, .long x7), (9, .long x9), (11, .int x11), (12, .int x12)]) dX4_slopeAt_146 (Nat.le_of_ble_eq_true rfl) rfl ?_
  refine v_iload C dX4_slopeAt_148 8 rfl ?_
  refine v_if_ne C (tgt := 177) dX4_slopeAt_150 rfl (fun _ => ?_) (fun _ => ?_)
  · refine v_iload C dX4_slopeAt_153 5 rfl ?_
    refine v_if_eq C (tgt := 169) dX4_slopeAt_155 rfl (fun _ => ?_) (fun _ => ?_)
    · refine v_lload C dX4_slopeAt_169 0 rfl ?_
      refine v_lload C dX4_slopeAt_171 7 rfl ?_
      refine v_lcmp_ge C (tgt := 182) dX4_slopeAt_173 dX4_slopeAt_174 rfl (fun _ => ?_) (fun _ => ?_)
      · exact v_sub [1, 2, 3, 4, 5, 6, 7, 9] rfl (w_slopeAt_182 C hm k27 hk27)
      · exact v_sub [1, 2, 3, 4, 5, 6, 9, 0] rfl (w_slopeAt_177 C hm k27 hk27)
    · refine v_lload C dX4_slopeAt_158 0 rfl ?_
      refine v_lload C dX4_slopeAt_160 7 rfl ?_
      refine v_lcmp_le C (tgt := 182) dX4_slopeAt_162 dX4_slopeAt_163 rfl (fun _ => ?_) (fun _ => ?_)
      · exact v_sub [1, 2, 3, 4, 5, 6, 7, 9] rfl (w_slopeAt_182 C hm k27 hk27)
      · refine v_goto C (tgt := 177) dX4_slopeAt_166 rfl ?_
        exact v_sub [1, 2, 3, 4, 5, 6, 9, 0] rfl (w_slopeAt_177 C hm k27 hk27)
  · exact v_sub [1, 2, 3, 4, 5, 6, 9, 0] rfl (w_slopeAt_177 C hm k27 hk27)
theorem w_slopeAt_119 {P : MP} {X : Ctx} {l : Launch} {F : Nat} {σ : MS} (C : CX (OM P) X l cX4_slopeAt 20 RX4 (some .long)) (hm : X.2.2.2.2.2.2.2.2.2 = none) {x1 : Int32} {x2 : Int64} {x4 : Int64} {x6 : Int32} {x7 : Int64} {x9 : Int64} {x11 : Int32} {x12 : Int32} (k27 : Int64 → Int32 → Int32 → Option Int64) (hk27 : ∀ (z9 : Int64) (z11 : Int32) (z12 : Int32), VF (OM P) X 20 4 109 σ (f_rl σ) (k27 z9 z11 z12) σ 27 [(0, .ref (mad P 0)), (1, .int x1), (2, .long x2), (4, .long x4), (6, .int x6), (7, .long x7), (9, .long z9), (11, .int z11), (12, .int z12)] []) (s0 : Int32) : VF (OM P) X 20 4 109 σ (f_rl σ) (M_slopeAt_119 F k27 σ x1 x2 x4 x6 x7 x9 x11 x12 s0) σ 119 [(0, .ref (mad P 0)), (1, .int x1), (2, .long x2), (4, .long x4), (6, .int x6), (7, .long x7), (9, .long x9), (11, .int x11), (12, .int x12)] [.int s0] := by
  unfold M_slopeAt_119
  refine v_istore C (lv' := [(17, .int s0), (0, .ref (mad P 0)), (1, .int x1), (2, .long x2), (4, .long x4), (6, .int x6), (7, .long x7), (9, .long x9), (11, .int x11), (12, .int x12)]) dX4_slopeAt_119 (Nat.le_of_ble_eq_true rfl) rfl ?_
  refine v_iload C dX4_slopeAt_121 0 rfl ?_
  refine v_if_eq C (tgt := 137) dX4_slopeAt_123 rfl (fun _ => ?_) (fun _ => ?_)
  · refine v_aload_n C dX4_slopeAt_137 1 rfl ?_
    refine mg_weights C dX4_slopeAt_138 ?_
    refine v_iload C dX4_slopeAt_141 9 rfl ?_
    refine ml_weights C dX4_slopeAt_143 (fun y8 hy8 => ?_)
    refine v_ineg C dX4_slopeAt_144 ?_
    refine v_i2l C dX4_slopeAt_145 ?_
    exact v_sub [1, 2, 3, 4, 5, 6, 7, 8, 9] rfl (w_slopeAt_146 C hm k27 hk27 ((-y8).toInt64))
  · refine v_aload_n C dX4_slopeAt_126 1 rfl ?_
    refine mg_weights C dX4_slopeAt_127 ?_
    refine v_iload C dX4_slopeAt_130 9 rfl ?_
    refine ml_weights C dX4_slopeAt_132 (fun y9 hy9 => ?_)
    refine v_i2l C dX4_slopeAt_133 ?_
    refine v_goto C (tgt := 146) dX4_slopeAt_134 rfl ?_
    exact v_sub [1, 2, 3, 4, 5, 6, 7, 8, 9] rfl (w_slopeAt_146 C hm k27 hk27 (y9.toInt64))
theorem w_slopeAt_27 {P : MP} {X : Ctx} {l : Launch} {F : Nat} {σ : MS} (C : CX (OM P) X l cX4_slopeAt 20 RX4 (some .long)) (hm : X.2.2.2.2.2.2.2.2.2 = none) {x1 : Int32} {x2 : Int64} {x4 : Int64} {x6 : Int32} {x7 : Int64}  : ∀ (n : Nat) (x9 : Int64) (x11 : Int32) (x12 : Int32), VF (OM P) X 20 4 109 σ (f_rl σ) (M_slopeAt_27 F σ x1 x2 x4 x6 x7 n x9 x11 x12) σ 27 [(0, .ref (mad P 0)), (1, .int x1), (2, .long x2), (4, .long x4), (6, .int x6), (7, .long x7), (9, .long x9), (11, .int x11), (12, .int x12)] [] := by
  intro n
  induction n with
  | zero => intro x9 x11 x12; exact VF.none
  | succ n ih =>
    intro x9 x11 x12
    unfold M_slopeAt_27
    refine v_iload C dX4_slopeAt_27 8 rfl ?_
    refine v_aload_n C dX4_slopeAt_29 0 rfl ?_
    refine v_callV_ri C (As := []) (st := [.int x12]) lkX4_65 dX4_slopeAt_30 rfl (Nat.le_of_ble_eq_true rfl) (Nat.le_of_ble_eq_true rfl) (Nat.le_of_ble_eq_true rfl) (mRecv C) (fun _ z => met_X4_many σ z) (fun r3 hr3 => ?_)
    refine v_icmp_ge C (tgt := 195) dX4_slopeAt_33 rfl (fun _ => ?_) (fun _ => ?_)
    · refine v_lload C dX4_slopeAt_195 6 rfl ?_
      exact v_lreturn C hm dX4_slopeAt_197 rfl
    · refine v_aload_n C dX4_slopeAt_36 0 rfl ?_
      refine mg_weights C dX4_slopeAt_37 ?_
      refine v_iload C dX4_slopeAt_40 8 rfl ?_
      refine ml_weights C dX4_slopeAt_42 (fun y4 hy4 => ?_)
      refine v_i2l C dX4_slopeAt_43 ?_
      refine v_aload_n C dX4_slopeAt_44 0 rfl ?_
      refine v_iload C dX4_slopeAt_45 8 rfl ?_
      refine v_iload_n C dX4_slopeAt_47 1 rfl ?_
      refine v_lload_n C dX4_slopeAt_48 2 rfl ?_
      refine v_lload C dX4_slopeAt_49 3 rfl ?_
      refine v_callV_rl C (As := [.int x12, .int x1, .long x2, .long x4]) (st := [.long (y4.toInt64)]) lkX4_153 dX4_slopeAt_51 rfl (Nat.le_of_ble_eq_true rfl) (Nat.le_of_ble_eq_true rfl) (Nat.le_of_ble_eq_true rfl) (mRecv C) (fun _ z => met_X4_away σ x12 x1 x2 x4 z) (fun r5 hr5 => ?_)
      refine v_lmul C dX4_slopeAt_54 ?_
      refine v_lload C dX4_slopeAt_55 5 rfl ?_
      refine v_lcmp_ne C (tgt := 189) dX4_slopeAt_57 dX4_slopeAt_58 rfl (fun _ => ?_) (fun _ => ?_)
      · refine v_aload_n C dX4_slopeAt_61 0 rfl ?_
        refine v_iload C dX4_slopeAt_62 8 rfl ?_
        refine v_iload_n C dX4_slopeAt_64 1 rfl ?_
        refine v_lload_n C dX4_slopeAt_65 2 rfl ?_
        refine v_lload C dX4_slopeAt_66 3 rfl ?_
        refine v_callV_rl C (As := [.int x12, .int x1, .long x2, .long x4]) (st := []) lkX4_143 dX4_slopeAt_68 rfl (Nat.le_of_ble_eq_true rfl) (Nat.le_of_ble_eq_true rfl) (Nat.le_of_ble_eq_true rfl) (mRecv C) (fun _ z => met_X4_rising σ x12 x1 x2 x4 z) (fun r6 hr6 => ?_)
        refine v_lstore C (lv' := [(13, .long r6), (0, .ref (mad P 0)), (1, .int x1), (2, .long x2), (4, .long x4), (6, .int x6), (7, .long x7), (9, .long x9), (11, .int x11), (12, .int x12)]) dX4_slopeAt_71 (Nat.le_of_ble_eq_true rfl) rfl ?_
        refine v_aload_n C dX4_slopeAt_73 1 rfl ?_
        refine v_iload C dX4_slopeAt_74 9 rfl ?_
        refine v_iload_n C dX4_slopeAt_76 2 rfl ?_
        refine v_lload_n C dX4_slopeAt_77 3 rfl ?_
        refine v_lload C dX4_slopeAt_78 4 rfl ?_
        refine v_callV_rl C (As := [.int x12, .int x1, .long x2, .long x4]) (st := []) lkX4_147 dX4_slopeAt_80 rfl (Nat.le_of_ble_eq_true rfl) (Nat.le_of_ble_eq_true rfl) (Nat.le_of_ble_eq_true rfl) (mRecv C) (fun _ z => met_X4_falling σ x12 x1 x2 x4 z) (fun r7 hr7 => ?_)
        refine v_lstore C (lv' := [(15, .long r7), (13, .long r6), (0, .ref (mad P 0)), (1, .int x1), (2, .long x2), (4, .long x4), (6, .int x6), (7, .long x7), (9, .long x9), (11, .int x11), (12, .int x12)]) dX4_slopeAt_83 (Nat.le_of_ble_eq_true rfl) rfl ?_
        refine v_iload C dX4_slopeAt_85 6 rfl ?_
        refine v_if_eq C (tgt := 106) dX4_slopeAt_87 rfl (fun _ => ?_) (fun _ => ?_)
        · refine v_lload C dX4_slopeAt_106 1 rfl ?_
          refine v_lload C dX4_slopeAt_108 0 rfl ?_
          refine v_lcmp_gt C (tgt := 118) dX4_slopeAt_110 dX4_slopeAt_111 rfl (fun _ => ?_) (fun _ => ?_)
          · refine v_iconst C dX4_slopeAt_118 ci_0 ?_
            exact v_sub [2, 3, 4, 5, 6, 7, 8, 9, 10] rfl (w_slopeAt_119 C hm (M_slopeAt_27 F σ x1 x2 x4 x6 x7 n) ih 0)
          · refine v_iconst C dX4_slopeAt_114 ci_1 ?_
            refine v_goto C (tgt := 119) dX4_slopeAt_115 rfl ?_
            exact v_sub [2, 3, 4, 5, 6, 7, 8, 9, 10] rfl (w_slopeAt_119 C hm (M_slopeAt_27 F σ x1 x2 x4 x6 x7 n) ih 1)
        · refine v_lload C dX4_slopeAt_90 1 rfl ?_
          refine v_lload C dX4_slopeAt_92 0 rfl ?_
          refine v_lcmp_ge C (tgt := 102) dX4_slopeAt_94 dX4_slopeAt_95 rfl (fun _ => ?_) (fun _ => ?_)
          · refine v_iconst C dX4_slopeAt_102 ci_0 ?_
            refine v_goto C (tgt := 119) dX4_slopeAt_103 rfl ?_
            exact v_sub [2, 3, 4, 5, 6, 7, 8, 9, 10] rfl (w_slopeAt_119 C hm (M_slopeAt_27 F σ x1 x2 x4 x6 x7 n) ih 0)
          · refine v_iconst C dX4_slopeAt_98 ci_1 ?_
            refine v_goto C (tgt := 119) dX4_slopeAt_99 rfl ?_
            exact v_sub [2, 3, 4, 5, 6, 7, 8, 9, 10] rfl (w_slopeAt_119 C hm (M_slopeAt_27 F σ x1 x2 x4 x6 x7 n) ih 1)
      · exact v_sub [0, 1, 2, 3, 4, 5, 6, 7, 8] rfl (w_slopeAt_189 C hm (M_slopeAt_27 F σ x1 x2 x4 x6 x7 n) ih)
theorem met_X4_slopeAt {P : MP} {l : Launch} (F : Nat) (σ : MS) (x1 : Int32) (x2 : Int64) (x4 : Int64) (x6 : Int32) {r : Int64} (h : M_slopeAt F σ x1 x2 x4 x6 = some r) : FM l (OM P) yX4_slopeAt (ws_ yX4_slopeAt cX4_slopeAt 20 (some .long)) 4 109 [.ref (mad P 0), .int x1, .long x2, .long x4, .int x6] σ ((f_rl σ) r) := by
  refine FM.of (own := RX4) (lv := [(0, .ref (mad P 0)), (1, .int x1), (2, .long x2), (4, .long x4), (6, .int x6)]) (OM_ok P) pl_X4 rfl (Nat.le_of_ble_eq_true rfl) rfl h OM_le (fun X C hm => ?_)
  unfold M_slopeAt
  refine v_aload_n C dX4_slopeAt_0 0 rfl ?_
  refine v_iconst C dX4_slopeAt_1 ci_1 ?_
  refine v_aload_n C dX4_slopeAt_2 0 rfl ?_
  refine v_callV_ri C (As := []) (st := [.int 1, .ref (mad P 0)]) lkX4_65 dX4_slopeAt_3 rfl (Nat.le_of_ble_eq_true rfl) (Nat.le_of_ble_eq_true rfl) (Nat.le_of_ble_eq_true rfl) (mRecv C) (fun _ z => met_X4_many σ z) (fun r1 hr1 => ?_)
  refine v_ishl C dX4_slopeAt_6 ?_
  refine v_iconst C dX4_slopeAt_7 ci_1 ?_
  refine v_isub C dX4_slopeAt_8 ?_
  refine v_iload_n C dX4_slopeAt_9 1 rfl ?_
  refine v_lload_n C dX4_slopeAt_10 2 rfl ?_
  refine v_lload C dX4_slopeAt_11 3 rfl ?_
  refine v_callV_rl C (As := [.int ((1 <<< (r1 &&& 31)) - 1), .int x1, .long x2, .long x4]) (st := []) lkX4_173 dX4_slopeAt_13 rfl (Nat.le_of_ble_eq_true rfl) (Nat.le_of_ble_eq_true rfl) (Nat.le_of_ble_eq_true rfl) (mRecv C) (fun _ z => met_X4_heightAt F σ ((1 <<< (r1 &&& 31)) - 1) x1 x2 x4 z) (fun r2 hr2 => ?_)
  refine v_lstore C (lv' := [(7, .long r2), (0, .ref (mad P 0)), (1, .int x1), (2, .long x2), (4, .long x4), (6, .int x6)]) dX4_slopeAt_16 (Nat.le_of_ble_eq_true rfl) rfl ?_
  refine v_lconst C dX4_slopeAt_18 cl_0 ?_
  refine v_lstore C (lv' := [(9, .long 0), (7, .long r2), (0, .ref (mad P 0)), (1, .int x1), (2, .long x2), (4, .long x4), (6, .int x6)]) dX4_slopeAt_19 (Nat.le_of_ble_eq_true rfl) rfl ?_
  refine v_iconst C dX4_slopeAt_21 ci_1 ?_
  refine v_istore C (lv' := [(11, .int 1), (9, .long 0), (7, .long r2), (0, .ref (mad P 0)), (1, .int x1), (2, .long x2), (4, .long x4), (6, .int x6)]) dX4_slopeAt_22 (Nat.le_of_ble_eq_true rfl) rfl ?_
  refine v_iconst C dX4_slopeAt_24 ci_0 ?_
  refine v_istore C (lv' := [(12, .int 0), (11, .int 1), (9, .long 0), (7, .long r2), (0, .ref (mad P 0)), (1, .int x1), (2, .long x2), (4, .long x4), (6, .int x6)]) dX4_slopeAt_25 (Nat.le_of_ble_eq_true rfl) rfl ?_
  exact v_sub [4, 5, 6, 7, 8, 3, 2, 1, 0] rfl (w_slopeAt_27 C hm F 0 1 0)
theorem met_X4_isCorner {P : MP} {l : Launch} (F : Nat) (σ : MS) (x1 : Int32) (x2 : Int32) {r : Int32} (h : M_isCorner F σ x1 x2 = some r) : FM l (OM P) yX4_isCorner (ws_ yX4_isCorner cX4_isCorner 3 (some .boolean)) 5 148 [.ref (mad P 0), .int x1, .int x2] σ ((f_ri σ) r) := by
  refine FM.of (own := RX4) (lv := [(0, .ref (mad P 0)), (1, .int x1), (2, .int x2)]) (OM_ok P) pl_X4 rfl (Nat.le_of_ble_eq_true rfl) rfl h OM_le (fun X C hm => ?_)
  unfold M_isCorner
  refine v_aload_n C dX4_isCorner_0 0 rfl ?_
  refine v_iload_n C dX4_isCorner_1 1 rfl ?_
  refine v_iload_n C dX4_isCorner_2 2 rfl ?_
  refine v_iconst C dX4_isCorner_3 ci_1 ?_
  refine v_callV_ri C (As := [.int x1, .int x2, .int 1]) (st := []) lkX4_216 dX4_isCorner_4 rfl (Nat.le_of_ble_eq_true rfl) (Nat.le_of_ble_eq_true rfl) (Nat.le_of_ble_eq_true rfl) (mRecv C) (fun _ z => met_X4_isRight σ x1 x2 1 z) (fun r1 hr1 => ?_)
  refine v_if_eq C (tgt := 20) dX4_isCorner_7 rfl (fun _ => ?_) (fun _ => ?_)
  · refine v_iconst C dX4_isCorner_20 ci_1 ?_
    exact v_zreturn C hm dX4_isCorner_21 (Or.inr rfl) rfl
  · refine v_aload_n C dX4_isCorner_10 0 rfl ?_
    refine v_iload_n C dX4_isCorner_11 1 rfl ?_
    refine v_iload_n C dX4_isCorner_12 2 rfl ?_
    refine v_iconst C dX4_isCorner_13 ci_0 ?_
    refine v_callV_ri C (As := [.int x1, .int x2, .int 0]) (st := []) lkX4_216 dX4_isCorner_14 rfl (Nat.le_of_ble_eq_true rfl) (Nat.le_of_ble_eq_true rfl) (Nat.le_of_ble_eq_true rfl) (mRecv C) (fun _ z => met_X4_isRight σ x1 x2 0 z) (fun r2 hr2 => ?_)
    refine v_if_ne C (tgt := 22) dX4_isCorner_17 rfl (fun _ => ?_) (fun _ => ?_)
    · refine v_iconst C dX4_isCorner_20 ci_1 ?_
      exact v_zreturn C hm dX4_isCorner_21 (Or.inr rfl) rfl
    · refine v_aload_n C dX4_isCorner_22 0 rfl ?_
      refine v_iload_n C dX4_isCorner_23 1 rfl ?_
      refine v_aload_n C dX4_isCorner_24 0 rfl ?_
      refine mg_crossP C dX4_isCorner_25 ?_
      refine v_iload_n C dX4_isCorner_28 2 rfl ?_
      refine ml_crossP C dX4_isCorner_29 (fun y3 hy3 => ?_)
      refine v_aload_n C dX4_isCorner_30 0 rfl ?_
      refine mg_crossQ C dX4_isCorner_31 ?_
      refine v_iload_n C dX4_isCorner_34 2 rfl ?_
      refine ml_crossQ C dX4_isCorner_35 (fun y4 hy4 => ?_)
      refine v_iconst C dX4_isCorner_36 ci_1 ?_
      refine v_callV_rl C (As := [.int x1, .long y3, .long y4, .int 1]) (st := []) lkX4_220 dX4_isCorner_37 rfl (Nat.le_of_ble_eq_true rfl) (Nat.le_of_ble_eq_true rfl) (Nat.le_of_ble_eq_true rfl) (mRecv C) (fun _ z => met_X4_slopeAt F σ x1 y3 y4 1 z) (fun r5 hr5 => ?_)
      refine v_aload_n C dX4_isCorner_40 0 rfl ?_
      refine v_iload_n C dX4_isCorner_41 1 rfl ?_
      refine v_aload_n C dX4_isCorner_42 0 rfl ?_
      refine mg_crossP C dX4_isCorner_43 ?_
      refine v_iload_n C dX4_isCorner_46 2 rfl ?_
      refine ml_crossP C dX4_isCorner_47 (fun y6 hy6 => ?_)
      refine v_aload_n C dX4_isCorner_48 0 rfl ?_
      refine mg_crossQ C dX4_isCorner_49 ?_
      refine v_iload_n C dX4_isCorner_52 2 rfl ?_
      refine ml_crossQ C dX4_isCorner_53 (fun y7 hy7 => ?_)
      refine v_iconst C dX4_isCorner_54 ci_0 ?_
      refine v_callV_rl C (As := [.int x1, .long y6, .long y7, .int 0]) (st := [.long r5]) lkX4_220 dX4_isCorner_55 rfl (Nat.le_of_ble_eq_true rfl) (Nat.le_of_ble_eq_true rfl) (Nat.le_of_ble_eq_true rfl) (mRecv C) (fun _ z => met_X4_slopeAt F σ x1 y6 y7 0 z) (fun r8 hr8 => ?_)
      refine v_lcmp_eq C (tgt := 66) dX4_isCorner_58 dX4_isCorner_59 rfl (fun _ => ?_) (fun _ => ?_)
      · refine v_iconst C dX4_isCorner_66 ci_0 ?_
        exact v_zreturn C hm dX4_isCorner_67 (Or.inl rfl) rfl
      · refine v_iconst C dX4_isCorner_62 ci_1 ?_
        refine v_goto C (tgt := 67) dX4_isCorner_63 rfl ?_
        exact v_zreturn C hm dX4_isCorner_67 (Or.inr rfl) rfl
theorem w_nextCorner_128 {P : MP} {X : Ctx} {l : Launch} {F : Nat} {σ : MS} (C : CX (OM P) X l cX4_nextCorner 6 RX4 (some .int)) (hm : X.2.2.2.2.2.2.2.2.2 = none) {x1 : Int32} {x2 : Int32} {x4 : Int32} (k5 : Int32 → Int32 → Option Int32) (hk5 : ∀ (z3 : Int32) (z4 : Int32), VF (OM P) X 6 6 170 σ (f_ri σ) (k5 z3 z4) σ 5 [(0, .ref (mad P 0)), (1, .int x1), (2, .int x2), (3, .int z3), (4, .int z4)] []) (s0 : Int32) : VF (OM P) X 6 6 170 σ (f_ri σ) (M_nextCorner_128 F k5 σ x1 x2 x4 s0) σ 128 [(0, .ref (mad P 0)), (1, .int x1), (2, .int x2), (4, .int x4)] [.int s0] := by
  unfold M_nextCorner_128
  refine v_istore_n C (lv' := [(3, .int s0), (0, .ref (mad P 0)), (1, .int x1), (2, .int x2), (4, .int x4)]) dX4_nextCorner_128 (Nat.le_of_ble_eq_true rfl) rfl ?_
  refine v_iincN C (lv' := fun y10 => [(4, .int y10), (3, .int s0), (0, .ref (mad P 0)), (1, .int x1), (2, .int x2)]) dX4_nextCorner_129 4 rfl ci_1 (Nat.le_of_ble_eq_true rfl) (fun _ => rfl) (fun y10 hy10 => ?_)
  refine v_goto C (tgt := 5) dX4_nextCorner_132 rfl ?_
  exact v_sub [2, 3, 4, 1, 0] rfl (hk5 s0 y10)
theorem w_nextCorner_127 {P : MP} {X : Ctx} {l : Launch} {F : Nat} {σ : MS} (C : CX (OM P) X l cX4_nextCorner 6 RX4 (some .int)) (hm : X.2.2.2.2.2.2.2.2.2 = none) {x1 : Int32} {x2 : Int32} {x3 : Int32} {x4 : Int32} (k5 : Int32 → Int32 → Option Int32) (hk5 : ∀ (z3 : Int32) (z4 : Int32), VF (OM P) X 6 6 170 σ (f_ri σ) (k5 z3 z4) σ 5 [(0, .ref (mad P 0)), (1, .int x1), (2, .int x2), (3, .int z3), (4, .int z4)] []) : VF (OM P) X 6 6 170 σ (f_ri σ) (M_nextCorner_127 F k5 σ x1 x2 x3 x4) σ 127 [(0, .ref (mad P 0)), (1, .int x1), (2, .int x2), (3, .int x3), (4, .int x4)] [] := by
  unfold M_nextCorner_127
  refine v_iload_n C dX4_nextCorner_127 3 rfl ?_
  exact v_sub [0, 1, 2, 4] rfl (w_nextCorner_128 C hm k5 hk5 x3)
theorem w_nextCorner_105 {P : MP} {X : Ctx} {l : Launch} {F : Nat} {σ : MS} (C : CX (OM P) X l cX4_nextCorner 6 RX4 (some .int)) (hm : X.2.2.2.2.2.2.2.2.2 = none) {x1 : Int32} {x2 : Int32} {x3 : Int32} {x4 : Int32} (k5 : Int32 → Int32 → Option Int32) (hk5 : ∀ (z3 : Int32) (z4 : Int32), VF (OM P) X 6 6 170 σ (f_ri σ) (k5 z3 z4) σ 5 [(0, .ref (mad P 0)), (1, .int x1), (2, .int x2), (3, .int z3), (4, .int z4)] []) (s0 : Int32) : VF (OM P) X 6 6 170 σ (f_ri σ) (M_nextCorner_105 F k5 σ x1 x2 x3 x4 s0) σ 105 [(0, .ref (mad P 0)), (1, .int x1), (2, .int x2), (3, .int x3), (4, .int x4)] [.int s0] := by
  unfold M_nextCorner_105
  refine v_istore C (lv' := [(5, .int s0), (0, .ref (mad P 0)), (1, .int x1), (2, .int x2), (3, .int x3), (4, .int x4)]) dX4_nextCorner_105 (Nat.le_of_ble_eq_true rfl) rfl ?_
  refine v_iload C dX4_nextCorner_107 0 rfl ?_
  refine v_if_eq C (tgt := 127) dX4_nextCorner_109 rfl (fun _ => ?_) (fun _ => ?_)
  · exact v_sub [1, 2, 3, 4, 5] rfl (w_nextCorner_127 C hm k5 hk5)
  · refine v_aload_n C dX4_nextCorner_112 1 rfl ?_
    refine v_iload_n C dX4_nextCorner_113 2 rfl ?_
    refine v_iload C dX4_nextCorner_114 5 rfl ?_
    refine v_callV_ri C (As := [.int x1, .int x4]) (st := []) lkX4_224 dX4_nextCorner_116 rfl (Nat.le_of_ble_eq_true rfl) (Nat.le_of_ble_eq_true rfl) (Nat.le_of_ble_eq_true rfl) (mRecv C) (fun _ z => met_X4_isCorner F σ x1 x4 z) (fun r9 hr9 => ?_)
    refine v_if_eq C (tgt := 127) dX4_nextCorner_119 rfl (fun _ => ?_) (fun _ => ?_)
    · exact v_sub [1, 2, 3, 4, 5] rfl (w_nextCorner_127 C hm k5 hk5)
    · refine v_iload C dX4_nextCorner_122 5 rfl ?_
      refine v_goto C (tgt := 128) dX4_nextCorner_124 rfl ?_
      exact v_sub [1, 2, 3, 5] rfl (w_nextCorner_128 C hm k5 hk5 x4)
theorem w_nextCorner_100 {P : MP} {X : Ctx} {l : Launch} {F : Nat} {σ : MS} (C : CX (OM P) X l cX4_nextCorner 6 RX4 (some .int)) (hm : X.2.2.2.2.2.2.2.2.2 = none) {x1 : Int32} {x2 : Int32} {x3 : Int32} {x4 : Int32} (k5 : Int32 → Int32 → Option Int32) (hk5 : ∀ (z3 : Int32) (z4 : Int32), VF (OM P) X 6 6 170 σ (f_ri σ) (k5 z3 z4) σ 5 [(0, .ref (mad P 0)), (1, .int x1), (2, .int x2), (3, .int z3), (4, .int z4)] []) : VF (OM P) X 6 6 170 σ (f_ri σ) (M_nextCorner_100 F k5 σ x1 x2 x3 x4) σ 100 [(0, .ref (mad P 0)), (1, .int x1), (2, .int x2), (3, .int x3), (4, .int x4)] [] := by
  unfold M_nextCorner_100
  refine v_iconst C dX4_nextCorner_100 ci_1 ?_
  refine v_goto C (tgt := 105) dX4_nextCorner_101 rfl ?_
  exact v_sub [0, 1, 2, 3, 4] rfl (w_nextCorner_105 C hm k5 hk5 1)
theorem w_nextCorner_104 {P : MP} {X : Ctx} {l : Launch} {F : Nat} {σ : MS} (C : CX (OM P) X l cX4_nextCorner 6 RX4 (some .int)) (hm : X.2.2.2.2.2.2.2.2.2 = none) {x1 : Int32} {x2 : Int32} {x3 : Int32} {x4 : Int32} (k5 : Int32 → Int32 → Option Int32) (hk5 : ∀ (z3 : Int32) (z4 : Int32), VF (OM P) X 6 6 170 σ (f_ri σ) (k5 z3 z4) σ 5 [(0, .ref (mad P 0)), (1, .int x1), (2, .int x2), (3, .int z3), (4, .int z4)] []) : VF (OM P) X 6 6 170 σ (f_ri σ) (M_nextCorner_104 F k5 σ x1 x2 x3 x4) σ 104 [(0, .ref (mad P 0)), (1, .int x1), (2, .int x2), (3, .int x3), (4, .int x4)] [] := by
  unfold M_nextCorner_104
  refine v_iconst C dX4_nextCorner_104 ci_0 ?_
  exact v_sub [0, 1, 2, 3, 4] rfl (w_nextCorner_105 C hm k5 hk5 0)
theorem w_nextCorner_56 {P : MP} {X : Ctx} {l : Launch} {F : Nat} {σ : MS} (C : CX (OM P) X l cX4_nextCorner 6 RX4 (some .int)) (hm : X.2.2.2.2.2.2.2.2.2 = none) {x1 : Int32} {x2 : Int32} {x3 : Int32} {x4 : Int32} (k5 : Int32 → Int32 → Option Int32) (hk5 : ∀ (z3 : Int32) (z4 : Int32), VF (OM P) X 6 6 170 σ (f_ri σ) (k5 z3 z4) σ 5 [(0, .ref (mad P 0)), (1, .int x1), (2, .int x2), (3, .int z3), (4, .int z4)] []) (s0 : Int32) : VF (OM P) X 6 6 170 σ (f_ri σ) (M_nextCorner_56 F k5 σ x1 x2 x3 x4 s0) σ 56 [(0, .ref (mad P 0)), (1, .int x1), (2, .int x2), (3, .int x3), (4, .int x4)] [.int s0] := by
  unfold M_nextCorner_56
  refine v_istore C (lv' := [(5, .int s0), (0, .ref (mad P 0)), (1, .int x1), (2, .int x2), (3, .int x3), (4, .int x4)]) dX4_nextCorner_56 (Nat.le_of_ble_eq_true rfl) rfl ?_
  refine v_iload C dX4_nextCorner_58 0 rfl ?_
  refine v_if_eq C (tgt := 104) dX4_nextCorner_60 rfl (fun _ => ?_) (fun _ => ?_)
  · exact v_sub [1, 2, 3, 4, 5] rfl (w_nextCorner_104 C hm k5 hk5)
  · refine v_iload_n C dX4_nextCorner_63 4 rfl ?_
    refine v_iconst C dX4_nextCorner_64 ci_m1 ?_
    refine v_icmp_eq C (tgt := 100) dX4_nextCorner_65 rfl (fun _ => ?_) (fun _ => ?_)
    · exact v_sub [1, 2, 3, 4, 5] rfl (w_nextCorner_100 C hm k5 hk5)
    · refine v_aload_n C dX4_nextCorner_68 1 rfl ?_
      refine mg_crossP C dX4_nextCorner_69 ?_
      refine v_iload C dX4_nextCorner_72 5 rfl ?_
      refine ml_crossP C dX4_nextCorner_74 (fun y5 hy5 => ?_)
      refine v_aload_n C dX4_nextCorner_75 1 rfl ?_
      refine mg_crossQ C dX4_nextCorner_76 ?_
      refine v_iload_n C dX4_nextCorner_79 4 rfl ?_
      refine ml_crossQ C dX4_nextCorner_80 (fun y6 hy6 => ?_)
      refine v_lmul C dX4_nextCorner_81 ?_
      refine v_aload_n C dX4_nextCorner_82 1 rfl ?_
      refine mg_crossP C dX4_nextCorner_83 ?_
      refine v_iload_n C dX4_nextCorner_86 4 rfl ?_
      refine ml_crossP C dX4_nextCorner_87 (fun y7 hy7 => ?_)
      refine v_aload_n C dX4_nextCorner_88 1 rfl ?_
      refine mg_crossQ C dX4_nextCorner_89 ?_
      refine v_iload C dX4_nextCorner_92 5 rfl ?_
      refine ml_crossQ C dX4_nextCorner_94 (fun y8 hy8 => ?_)
      refine v_lmul C dX4_nextCorner_95 ?_
      refine v_lcmp_ge C (tgt := 104) dX4_nextCorner_96 dX4_nextCorner_97 rfl (fun _ => ?_) (fun _ => ?_)
      · exact v_sub [1, 2, 3, 4, 5] rfl (w_nextCorner_104 C hm k5 hk5)
      · exact v_sub [1, 2, 3, 4, 5] rfl (w_nextCorner_100 C hm k5 hk5)
theorem w_nextCorner_51 {P : MP} {X : Ctx} {l : Launch} {F : Nat} {σ : MS} (C : CX (OM P) X l cX4_nextCorner 6 RX4 (some .int)) (hm : X.2.2.2.2.2.2.2.2.2 = none) {x1 : Int32} {x2 : Int32} {x3 : Int32} {x4 : Int32} (k5 : Int32 → Int32 → Option Int32) (hk5 : ∀ (z3 : Int32) (z4 : Int32), VF (OM P) X 6 6 170 σ (f_ri σ) (k5 z3 z4) σ 5 [(0, .ref (mad P 0)), (1, .int x1), (2, .int x2), (3, .int z3), (4, .int z4)] []) : VF (OM P) X 6 6 170 σ (f_ri σ) (M_nextCorner_51 F k5 σ x1 x2 x3 x4) σ 51 [(0, .ref (mad P 0)), (1, .int x1), (2, .int x2), (3, .int x3), (4, .int x4)] [] := by
  unfold M_nextCorner_51
  refine v_iconst C dX4_nextCorner_51 ci_1 ?_
  refine v_goto C (tgt := 56) dX4_nextCorner_52 rfl ?_
  exact v_sub [0, 1, 2, 3, 4] rfl (w_nextCorner_56 C hm k5 hk5 1)
theorem w_nextCorner_5 {P : MP} {X : Ctx} {l : Launch} {F : Nat} {σ : MS} (C : CX (OM P) X l cX4_nextCorner 6 RX4 (some .int)) (hm : X.2.2.2.2.2.2.2.2.2 = none) {x1 : Int32} {x2 : Int32}  : ∀ (n : Nat) (x3 : Int32) (x4 : Int32), VF (OM P) X 6 6 170 σ (f_ri σ) (M_nextCorner_5 F σ x1 x2 n x3 x4) σ 5 [(0, .ref (mad P 0)), (1, .int x1), (2, .int x2), (3, .int x3), (4, .int x4)] [] := by
  intro n
  induction n with
  | zero => intro x3 x4; exact VF.none
  | succ n ih =>
    intro x3 x4
    unfold M_nextCorner_5
    refine v_iload C dX4_nextCorner_5 4 rfl ?_
    refine v_aload_n C dX4_nextCorner_7 0 rfl ?_
    refine mg_crossMany C dX4_nextCorner_8 ?_
    refine v_icmp_ge C (tgt := 135) dX4_nextCorner_11 rfl (fun _ => ?_) (fun _ => ?_)
    · refine v_iload_n C dX4_nextCorner_135 3 rfl ?_
      exact v_ireturn C hm dX4_nextCorner_136 rfl
    · refine v_iload_n C dX4_nextCorner_14 2 rfl ?_
      refine v_iconst C dX4_nextCorner_15 ci_m1 ?_
      refine v_icmp_eq C (tgt := 51) dX4_nextCorner_16 rfl (fun _ => ?_) (fun _ => ?_)
      · exact v_sub [0, 1, 2, 3, 4] rfl (w_nextCorner_51 C hm (M_nextCorner_5 F σ x1 x2 n) ih)
      · refine v_aload_n C dX4_nextCorner_19 0 rfl ?_
        refine mg_crossP C dX4_nextCorner_20 ?_
        refine v_iload C dX4_nextCorner_23 4 rfl ?_
        refine ml_crossP C dX4_nextCorner_25 (fun y1 hy1 => ?_)
        refine v_aload_n C dX4_nextCorner_26 0 rfl ?_
        refine mg_crossQ C dX4_nextCorner_27 ?_
        refine v_iload_n C dX4_nextCorner_30 2 rfl ?_
        refine ml_crossQ C dX4_nextCorner_31 (fun y2 hy2 => ?_)
        refine v_lmul C dX4_nextCorner_32 ?_
        refine v_aload_n C dX4_nextCorner_33 0 rfl ?_
        refine mg_crossP C dX4_nextCorner_34 ?_
        refine v_iload_n C dX4_nextCorner_37 2 rfl ?_
        refine ml_crossP C dX4_nextCorner_38 (fun y3 hy3 => ?_)
        refine v_aload_n C dX4_nextCorner_39 0 rfl ?_
        refine mg_crossQ C dX4_nextCorner_40 ?_
        refine v_iload C dX4_nextCorner_43 4 rfl ?_
        refine ml_crossQ C dX4_nextCorner_45 (fun y4 hy4 => ?_)
        refine v_lmul C dX4_nextCorner_46 ?_
        refine v_lcmp_le C (tgt := 55) dX4_nextCorner_47 dX4_nextCorner_48 rfl (fun _ => ?_) (fun _ => ?_)
        · refine v_iconst C dX4_nextCorner_55 ci_0 ?_
          exact v_sub [0, 1, 2, 3, 4] rfl (w_nextCorner_56 C hm (M_nextCorner_5 F σ x1 x2 n) ih 0)
        · exact v_sub [0, 1, 2, 3, 4] rfl (w_nextCorner_51 C hm (M_nextCorner_5 F σ x1 x2 n) ih)
theorem met_X4_nextCorner {P : MP} {l : Launch} (F : Nat) (σ : MS) (x1 : Int32) (x2 : Int32) {r : Int32} (h : M_nextCorner F σ x1 x2 = some r) : FM l (OM P) yX4_nextCorner (ws_ yX4_nextCorner cX4_nextCorner 6 (some .int)) 6 170 [.ref (mad P 0), .int x1, .int x2] σ ((f_ri σ) r) := by
  refine FM.of (own := RX4) (lv := [(0, .ref (mad P 0)), (1, .int x1), (2, .int x2)]) (OM_ok P) pl_X4 rfl (Nat.le_of_ble_eq_true rfl) rfl h OM_le (fun X C hm => ?_)
  unfold M_nextCorner
  refine v_iconst C dX4_nextCorner_0 ci_m1 ?_
  refine v_istore_n C (lv' := [(3, .int (-1)), (0, .ref (mad P 0)), (1, .int x1), (2, .int x2)]) dX4_nextCorner_1 (Nat.le_of_ble_eq_true rfl) rfl ?_
  refine v_iconst C dX4_nextCorner_2 ci_0 ?_
  refine v_istore C (lv' := [(4, .int 0), (3, .int (-1)), (0, .ref (mad P 0)), (1, .int x1), (2, .int x2)]) dX4_nextCorner_3 (Nat.le_of_ble_eq_true rfl) rfl ?_
  exact v_sub [2, 3, 4, 1, 0] rfl (w_nextCorner_5 C hm F (-1) 0)
theorem w_cornerTold_51 {P : MP} {X : Ctx} {l : Launch} {S0 : MS} {F : Nat} (C : CX (OM P) X l cX4_cornerTold 6 RX4 (some .int)) (hm : X.2.2.2.2.2.2.2.2.2 = none) {x1 : Int32} {x2 : Int32} {x3 : Int32} {x4 : Int32} (σ : MS) : VF (OM P) X 6 7 195 S0 f_mi (M_cornerTold_51 F x1 x2 x3 x4 σ) σ 51 [(0, .ref (mad P 0)), (1, .int x1), (2, .int x2), (3, .int x3), (4, .int x4)] [] := by
  unfold M_cornerTold_51
  refine v_iload C dX4_cornerTold_51 4 rfl ?_
  refine v_iconst C dX4_cornerTold_53 ci_m1 ?_
  refine v_icmp_eq C (tgt := 61) dX4_cornerTold_54 rfl (fun _ => ?_) (fun _ => ?_)
  · refine v_iconst C dX4_cornerTold_61 ci_m1 ?_
    exact v_ireturn C hm dX4_cornerTold_62 rfl
  · refine v_iload_n C dX4_cornerTold_57 2 rfl ?_
    refine v_if_ge C (tgt := 63) dX4_cornerTold_58 rfl (fun _ => ?_) (fun _ => ?_)
    · refine v_iload_n C dX4_cornerTold_63 3 rfl ?_
      refine v_iconst C dX4_cornerTold_64 ci_2 ?_
      refine v_icmp_ge C (tgt := 89) dX4_cornerTold_65 rfl (fun _ => ?_) (fun _ => ?_)
      · refine v_aload_n C dX4_cornerTold_89 0 rfl ?_
        refine v_iconst C dX4_cornerTold_90 ci_1 ?_
        refine v_aload_n C dX4_cornerTold_91 0 rfl ?_
        refine v_callV_ri C (As := []) (st := [.int 1, .ref (mad P 0)]) lkX4_65 dX4_cornerTold_92 rfl (Nat.le_of_ble_eq_true rfl) (Nat.le_of_ble_eq_true rfl) (Nat.le_of_ble_eq_true rfl) (mRecv C) (fun _ z => met_X4_many σ z) (fun r6 hr6 => ?_)
        refine v_ishl C dX4_cornerTold_95 ?_
        refine v_iconst C dX4_cornerTold_96 ci_1 ?_
        refine v_isub C dX4_cornerTold_97 ?_
        refine v_iload_n C dX4_cornerTold_98 1 rfl ?_
        refine v_aload_n C dX4_cornerTold_99 0 rfl ?_
        refine mg_crossP C dX4_cornerTold_100 ?_
        refine v_iload C dX4_cornerTold_103 4 rfl ?_
        refine ml_crossP C dX4_cornerTold_105 (fun y7 hy7 => ?_)
        refine v_aload_n C dX4_cornerTold_106 0 rfl ?_
        refine mg_crossQ C dX4_cornerTold_107 ?_
        refine v_iload C dX4_cornerTold_110 4 rfl ?_
        refine ml_crossQ C dX4_cornerTold_112 (fun y8 hy8 => ?_)
        refine v_callV_rl C (As := [.int ((1 <<< (r6 &&& 31)) - 1), .int x1, .long y7, .long y8]) (st := []) lkX4_173 dX4_cornerTold_113 rfl (Nat.le_of_ble_eq_true rfl) (Nat.le_of_ble_eq_true rfl) (Nat.le_of_ble_eq_true rfl) (mRecv C) (fun _ z => met_X4_heightAt F σ ((1 <<< (r6 &&& 31)) - 1) x1 y7 y8 z) (fun r9 hr9 => ?_)
        refine v_aload_n C dX4_cornerTold_116 0 rfl ?_
        refine mg_crossQ C dX4_cornerTold_117 ?_
        refine v_iload C dX4_cornerTold_120 4 rfl ?_
        refine ml_crossQ C dX4_cornerTold_122 (fun y10 hy10 => ?_)
        refine v_iload_n C dX4_cornerTold_123 3 rfl ?_
        refine v_iconst C dX4_cornerTold_124 ci_2 ?_
        refine v_isub C dX4_cornerTold_125 ?_
        refine v_callS_ri C (As := [.long r9, .long y10, .int (x3 - 2)]) (st := []) lkX4_156 dX4_cornerTold_126 rfl (Nat.le_of_ble_eq_true rfl) (Nat.le_of_ble_eq_true rfl) (Nat.le_of_ble_eq_true rfl) (fun _ z => met_X4_reduced F σ r9 y10 (x3 - 2) z) (fun r11 hr11 => ?_)
        exact v_ireturn C hm dX4_cornerTold_129 rfl
      · refine v_aload_n C dX4_cornerTold_68 0 rfl ?_
        refine mg_crossP C dX4_cornerTold_69 ?_
        refine v_iload C dX4_cornerTold_72 4 rfl ?_
        refine ml_crossP C dX4_cornerTold_74 (fun y12 hy12 => ?_)
        refine v_aload_n C dX4_cornerTold_75 0 rfl ?_
        refine mg_crossQ C dX4_cornerTold_76 ?_
        refine v_iload C dX4_cornerTold_79 4 rfl ?_
        refine ml_crossQ C dX4_cornerTold_81 (fun y13 hy13 => ?_)
        refine v_iload_n C dX4_cornerTold_82 3 rfl ?_
        refine v_callS_ri C (As := [.long y12, .long y13, .int x3]) (st := []) lkX4_156 dX4_cornerTold_83 rfl (Nat.le_of_ble_eq_true rfl) (Nat.le_of_ble_eq_true rfl) (Nat.le_of_ble_eq_true rfl) (fun _ z => met_X4_reduced F σ y12 y13 x3 z) (fun r14 hr14 => ?_)
        refine v_goto C (tgt := 129) dX4_cornerTold_86 rfl ?_
        exact v_ireturn C hm dX4_cornerTold_129 rfl
    · refine v_iconst C dX4_cornerTold_61 ci_m1 ?_
      exact v_ireturn C hm dX4_cornerTold_62 rfl
theorem w_cornerTold_24 {P : MP} {X : Ctx} {l : Launch} {S0 : MS} {F : Nat} (C : CX (OM P) X l cX4_cornerTold 6 RX4 (some .int)) (hm : X.2.2.2.2.2.2.2.2.2 = none) {x1 : Int32} {x2 : Int32} {x3 : Int32}  : ∀ (n : Nat) (x4 : Int32) (x5 : Int32) (σ : MS), VF (OM P) X 6 7 195 S0 f_mi (M_cornerTold_24 F x1 x2 x3 n x4 x5 σ) σ 24 [(0, .ref (mad P 0)), (1, .int x1), (2, .int x2), (3, .int x3), (4, .int x4), (5, .int x5)] [] := by
  intro n
  induction n with
  | zero => intro x4 x5 σ; exact VF.none
  | succ n ih =>
    intro x4 x5 σ
    unfold M_cornerTold_24
    refine v_iload C dX4_cornerTold_24 5 rfl ?_
    refine v_iload_n C dX4_cornerTold_26 2 rfl ?_
    refine v_icmp_ge C (tgt := 51) dX4_cornerTold_27 rfl (fun _ => ?_) (fun _ => ?_)
    · exact v_sub [0, 1, 2, 3, 4] rfl (w_cornerTold_51 C hm σ)
    · refine v_iload C dX4_cornerTold_30 4 rfl ?_
      refine v_iconst C dX4_cornerTold_32 ci_m1 ?_
      refine v_icmp_eq C (tgt := 51) dX4_cornerTold_33 rfl (fun _ => ?_) (fun _ => ?_)
      · exact v_sub [0, 1, 2, 3, 4] rfl (w_cornerTold_51 C hm σ)
      · refine v_aload_n C dX4_cornerTold_36 0 rfl ?_
        refine v_iload_n C dX4_cornerTold_37 1 rfl ?_
        refine v_iload C dX4_cornerTold_38 4 rfl ?_
        refine v_callV_ri C (As := [.int x1, .int x4]) (st := []) lkX4_227 dX4_cornerTold_40 rfl (Nat.le_of_ble_eq_true rfl) (Nat.le_of_ble_eq_true rfl) (Nat.le_of_ble_eq_true rfl) (mRecv C) (fun _ z => met_X4_nextCorner F σ x1 x4 z) (fun r4 hr4 => ?_)
        refine v_istore C (lv' := [(4, .int r4), (0, .ref (mad P 0)), (1, .int x1), (2, .int x2), (3, .int x3), (5, .int x5)]) dX4_cornerTold_43 (Nat.le_of_ble_eq_true rfl) rfl ?_
        refine v_iincN C (lv' := fun y5 => [(5, .int y5), (4, .int r4), (0, .ref (mad P 0)), (1, .int x1), (2, .int x2), (3, .int x3)]) dX4_cornerTold_45 5 rfl ci_1 (Nat.le_of_ble_eq_true rfl) (fun _ => rfl) (fun y5 hy5 => ?_)
        refine v_goto C (tgt := 24) dX4_cornerTold_48 rfl ?_
        exact v_sub [2, 3, 4, 5, 1, 0] rfl (ih r4 y5 σ)
theorem met_X4_cornerTold {P : MP} {l : Launch} (F : Nat) (σ : MS) (x1 : Int32) (x2 : Int32) (x3 : Int32) {r : Int32 × MS} (h : M_cornerTold F σ x1 x2 x3 = some r) : FM l (OM P) yX4_cornerTold (ws_ yX4_cornerTold cX4_cornerTold 6 (some .int)) 7 195 [.ref (mad P 0), .int x1, .int x2, .int x3] σ (f_mi r) := by
  refine FM.of (own := RX4) (lv := [(0, .ref (mad P 0)), (1, .int x1), (2, .int x2), (3, .int x3)]) (OM_ok P) pl_X4 rfl (Nat.le_of_ble_eq_true rfl) rfl h OM_le (fun X C hm => ?_)
  unfold M_cornerTold
  refine v_aload_n C dX4_cornerTold_0 0 rfl ?_
  refine v_iconst C dX4_cornerTold_1 ci_1 ?_
  refine v_aload_n C dX4_cornerTold_2 0 rfl ?_
  refine v_callV_ri C (As := []) (st := [.int 1, .ref (mad P 0)]) lkX4_65 dX4_cornerTold_3 rfl (Nat.le_of_ble_eq_true rfl) (Nat.le_of_ble_eq_true rfl) (Nat.le_of_ble_eq_true rfl) (mRecv C) (fun _ z => met_X4_many σ z) (fun r1 hr1 => ?_)
  refine v_ishl C dX4_cornerTold_6 ?_
  refine v_iconst C dX4_cornerTold_7 ci_1 ?_
  refine v_isub C dX4_cornerTold_8 ?_
  refine v_iload_n C dX4_cornerTold_9 1 rfl ?_
  refine v_callV_mv C (As := [.int ((1 <<< (r1 &&& 31)) - 1), .int x1]) (st := []) lkX4_208 dX4_cornerTold_10 rfl (Nat.le_of_ble_eq_true rfl) (Nat.le_of_ble_eq_true rfl) (Nat.le_of_ble_eq_true rfl) (mRecv C) (fun _ z => met_X4_laysCrossings F σ ((1 <<< (r1 &&& 31)) - 1) x1 z) (fun r2 hr2 => ?_)
  refine v_aload_n C dX4_cornerTold_13 0 rfl ?_
  refine v_iload_n C dX4_cornerTold_14 1 rfl ?_
  refine v_iconst C dX4_cornerTold_15 ci_m1 ?_
  refine v_callV_ri C (As := [.int x1, .int (-1)]) (st := []) lkX4_227 dX4_cornerTold_16 rfl (Nat.le_of_ble_eq_true rfl) (Nat.le_of_ble_eq_true rfl) (Nat.le_of_ble_eq_true rfl) (mRecv C) (fun _ z => met_X4_nextCorner F r2 x1 (-1) z) (fun r3 hr3 => ?_)
  refine v_istore C (lv' := [(4, .int r3), (0, .ref (mad P 0)), (1, .int x1), (2, .int x2), (3, .int x3)]) dX4_cornerTold_19 (Nat.le_of_ble_eq_true rfl) rfl ?_
  refine v_iconst C dX4_cornerTold_21 ci_0 ?_
  refine v_istore C (lv' := [(5, .int 0), (4, .int r3), (0, .ref (mad P 0)), (1, .int x1), (2, .int x2), (3, .int x3)]) dX4_cornerTold_22 (Nat.le_of_ble_eq_true rfl) rfl ?_
  exact v_sub [2, 3, 4, 5, 1, 0] rfl (w_cornerTold_24 C hm F r3 0 r2)
theorem w_corner_38 {P : MP} {X : Ctx} {l : Launch} {S0 : MS} {F : Nat} (C : CX (OM P) X l cX4_corner 4 RX4 (some .int)) (hm : X.2.2.2.2.2.2.2.2.2 = none) {x1 : Int32} {x2 : Int32} {x3 : Int32} (s1 : Int32) (σ : MS) : VF (OM P) X 4 8 220 S0 f_mi (M_corner_38 F x1 x2 x3 s1 σ) σ 38 [(0, .ref (mad P 0)), (1, .int x1), (2, .int x2), (3, .int x3)] [.int s1, .ref (mad P 0)] := by
  unfold M_corner_38
  refine v_callV_mi C (As := [.int s1]) (st := []) lkX4_61 dX4_corner_38 rfl (Nat.le_of_ble_eq_true rfl) (Nat.le_of_ble_eq_true rfl) (Nat.le_of_ble_eq_true rfl) (mRecv C) (fun _ z => met_X4_refused σ s1 z) (fun r4 hr4 => ?_)
  refine v_if_eq C (tgt := 46) dX4_corner_41 rfl (fun _ => ?_) (fun _ => ?_)
  · refine v_aload_n C dX4_corner_46 0 rfl ?_
    refine v_iconst C dX4_corner_47 ci_0 ?_
    refine v_callV_mv C (As := [.int 0]) (st := []) lkX4_170 dX4_corner_48 rfl (Nat.le_of_ble_eq_true rfl) (Nat.le_of_ble_eq_true rfl) (Nat.le_of_ble_eq_true rfl) (mRecv C) (fun _ z => met_X4_weighs F r4.2 0 z) (fun r5 hr5 => ?_)
    refine v_aload_n C dX4_corner_51 0 rfl ?_
    refine v_iload_n C dX4_corner_52 1 rfl ?_
    refine v_iload_n C dX4_corner_53 2 rfl ?_
    refine v_iload_n C dX4_corner_54 3 rfl ?_
    refine v_callV_mi C (As := [.int x1, .int x2, .int x3]) (st := []) lkX4_230 dX4_corner_55 rfl (Nat.le_of_ble_eq_true rfl) (Nat.le_of_ble_eq_true rfl) (Nat.le_of_ble_eq_true rfl) (mRecv C) (fun _ z => met_X4_cornerTold F r5 x1 x2 x3 z) (fun r6 hr6 => ?_)
    exact v_ireturn C hm dX4_corner_58 rfl
  · refine v_iconst C dX4_corner_44 ci_0 ?_
    exact v_ireturn C hm dX4_corner_45 rfl
theorem met_X4_corner {P : MP} {l : Launch} (F : Nat) (σ : MS) (x1 : Int32) (x2 : Int32) (x3 : Int32) {r : Int32 × MS} (h : M_corner F σ x1 x2 x3 = some r) : FM l (OM P) yX4_corner (ws_ yX4_corner cX4_corner 4 (some .int)) 8 220 [.ref (mad P 0), .int x1, .int x2, .int x3] σ (f_mi r) := by
  refine FM.of (own := RX4) (lv := [(0, .ref (mad P 0)), (1, .int x1), (2, .int x2), (3, .int x3)]) (OM_ok P) pl_X4 rfl (Nat.le_of_ble_eq_true rfl) rfl h OM_le (fun X C hm => ?_)
  unfold M_corner
  refine v_aload_n C dX4_corner_0 0 rfl ?_
  refine v_aload_n C dX4_corner_1 0 rfl ?_
  refine v_iload_n C dX4_corner_2 1 rfl ?_
  refine v_callV_ri C (As := [.int x1]) (st := [.ref (mad P 0)]) lkX4_106 dX4_corner_3 rfl (Nat.le_of_ble_eq_true rfl) (Nat.le_of_ble_eq_true rfl) (Nat.le_of_ble_eq_true rfl) (mRecv C) (fun _ z => met_X4_isEdge σ x1 z) (fun r1 hr1 => ?_)
  refine v_if_ne C (tgt := 13) dX4_corner_6 rfl (fun _ => ?_) (fun _ => ?_)
  · refine v_iconst C dX4_corner_9 ci_1 ?_
    refine v_goto C (tgt := 38) dX4_corner_10 rfl ?_
    exact v_sub [0, 1, 2, 3] rfl (w_corner_38 C hm 1 σ)
  · refine v_iload_n C dX4_corner_13 3 rfl ?_
    refine v_iconst C dX4_corner_14 ci_0 ?_
    refine v_iconst C dX4_corner_15 ci_3 ?_
    refine v_callS_ri C (As := [.int x3, .int 0, .int 3]) (st := [.ref (mad P 0)]) lkX4_69 dX4_corner_16 rfl (Nat.le_of_ble_eq_true rfl) (Nat.le_of_ble_eq_true rfl) (Nat.le_of_ble_eq_true rfl) (fun _ z => met_X4_within σ x3 0 3 z) (fun r2 hr2 => ?_)
    refine v_if_ne C (tgt := 26) dX4_corner_19 rfl (fun _ => ?_) (fun _ => ?_)
    · refine v_iconst C dX4_corner_22 ci_2 ?_
      refine v_goto C (tgt := 38) dX4_corner_23 rfl ?_
      exact v_sub [0, 1, 2, 3] rfl (w_corner_38 C hm 2 σ)
    · refine v_aload_n C dX4_corner_26 0 rfl ?_
      refine v_callV_mi C (As := []) (st := [.ref (mad P 0)]) lkX4_122 dX4_corner_27 rfl (Nat.le_of_ble_eq_true rfl) (Nat.le_of_ble_eq_true rfl) (Nat.le_of_ble_eq_true rfl) (mRecv C) (fun _ z => met_X4_isConnected F σ z) (fun r3 hr3 => ?_)
      refine v_if_ne C (tgt := 37) dX4_corner_30 rfl (fun _ => ?_) (fun _ => ?_)
      · refine v_iconst C dX4_corner_33 ci_3 ?_
        refine v_goto C (tgt := 38) dX4_corner_34 rfl ?_
        exact v_sub [0, 1, 2, 3] rfl (w_corner_38 C hm 3 r3.2)
      · refine v_iconst C dX4_corner_37 ci_0 ?_
        exact v_sub [0, 1, 2, 3] rfl (w_corner_38 C hm 0 r3.2)
theorem met_X4_canHave {P : MP} {l : Launch} (F : Nat) (σ : MS) {r : Int32 × MS} (h : M_canHave F σ = some r) : FM l (OM P) yX4_canHave (ws_ yX4_canHave cX4_canHave 1 (some .boolean)) 3 68 [.ref (mad P 0)] σ (f_mi r) := by
  refine FM.of (own := RX4) (lv := [(0, .ref (mad P 0))]) (OM_ok P) pl_X4 rfl (Nat.le_of_ble_eq_true rfl) rfl h OM_le (fun X C hm => ?_)
  unfold M_canHave
  refine v_aload_n C dX4_canHave_0 0 rfl ?_
  refine v_callV_ri C (As := []) (st := []) lkX4_73 dX4_canHave_1 rfl (Nat.le_of_ble_eq_true rfl) (Nat.le_of_ble_eq_true rfl) (Nat.le_of_ble_eq_true rfl) (mRecv C) (fun _ z => met_X4_edgeMany σ z) (fun r1 hr1 => ?_)
  refine v_if_le C (tgt := 18) dX4_canHave_4 rfl (fun _ => ?_) (fun _ => ?_)
  · refine v_iconst C dX4_canHave_18 ci_0 ?_
    exact v_zreturn C hm dX4_canHave_19 (Or.inl rfl) rfl
  · refine v_aload_n C dX4_canHave_7 0 rfl ?_
    refine v_callV_mi C (As := []) (st := []) lkX4_122 dX4_canHave_8 rfl (Nat.le_of_ble_eq_true rfl) (Nat.le_of_ble_eq_true rfl) (Nat.le_of_ble_eq_true rfl) (mRecv C) (fun _ z => met_X4_isConnected F σ z) (fun r2 hr2 => ?_)
    refine v_if_eq C (tgt := 18) dX4_canHave_11 rfl (fun _ => ?_) (fun _ => ?_)
    · refine v_iconst C dX4_canHave_18 ci_0 ?_
      exact v_zreturn C hm dX4_canHave_19 (Or.inl rfl) rfl
    · refine v_iconst C dX4_canHave_14 ci_1 ?_
      refine v_goto C (tgt := 19) dX4_canHave_15 rfl ?_
      exact v_zreturn C hm dX4_canHave_19 (Or.inr rfl) rfl
theorem w_tries_74 {P : MP} {X : Ctx} {l : Launch} {S0 : MS} (C : CX (OM P) X l cX4_tries 9 RX4 none) (hm : X.2.2.2.2.2.2.2.2.2 = none) {x1 : Int32} {x2 : Int64} {x4 : Int64} {x6 : Int64} (s0 : Int32) (σ : MS) : VF (OM P) X 9 0 0 S0 f_mv (M_tries_74 x1 x2 x4 x6 s0 σ) σ 74 [(0, .ref (mad P 0)), (1, .int x1), (2, .long x2), (4, .long x4), (6, .long x6)] [.int s0] := by
  unfold M_tries_74
  refine v_istore C (lv' := [(8, .int s0), (0, .ref (mad P 0)), (1, .int x1), (2, .long x2), (4, .long x4), (6, .long x6)]) dX4_tries_74 (Nat.le_of_ble_eq_true rfl) rfl ?_
  refine v_iload C dX4_tries_76 0 rfl ?_
  refine v_if_eq C (tgt := 103) dX4_tries_78 rfl (fun _ => ?_) (fun _ => ?_)
  · exact v_vreturn C hm dX4_tries_103 rfl
  · refine v_aload_n C dX4_tries_81 1 rfl ?_
    refine v_iload_n C dX4_tries_82 2 rfl ?_
    refine mp_bestEdge C dX4_tries_83 (fun σ1 hσ1 => ?_)
    refine v_aload_n C dX4_tries_86 1 rfl ?_
    refine v_lload_n C dX4_tries_87 3 rfl ?_
    refine mp_bestP C dX4_tries_88 (fun σ2 hσ2 => ?_)
    refine v_aload_n C dX4_tries_91 1 rfl ?_
    refine v_lload C dX4_tries_92 4 rfl ?_
    refine mp_bestQ C dX4_tries_94 (fun σ3 hσ3 => ?_)
    refine v_aload_n C dX4_tries_97 1 rfl ?_
    refine v_lload C dX4_tries_98 5 rfl ?_
    refine mp_bestHeight C dX4_tries_100 (fun σ4 hσ4 => ?_)
    exact v_vreturn C hm dX4_tries_103 rfl
theorem w_tries_69 {P : MP} {X : Ctx} {l : Launch} {S0 : MS} (C : CX (OM P) X l cX4_tries 9 RX4 none) (hm : X.2.2.2.2.2.2.2.2.2 = none) {x1 : Int32} {x2 : Int64} {x4 : Int64} {x6 : Int64} (σ : MS) : VF (OM P) X 9 0 0 S0 f_mv (M_tries_69 x1 x2 x4 x6 σ) σ 69 [(0, .ref (mad P 0)), (1, .int x1), (2, .long x2), (4, .long x4), (6, .long x6)] [] := by
  unfold M_tries_69
  refine v_iconst C dX4_tries_69 ci_1 ?_
  refine v_goto C (tgt := 74) dX4_tries_70 rfl ?_
  exact v_sub [0, 1, 2, 3, 4] rfl (w_tries_74 C hm 1 σ)
theorem w_tries_73 {P : MP} {X : Ctx} {l : Launch} {S0 : MS} (C : CX (OM P) X l cX4_tries 9 RX4 none) (hm : X.2.2.2.2.2.2.2.2.2 = none) {x1 : Int32} {x2 : Int64} {x4 : Int64} {x6 : Int64} (σ : MS) : VF (OM P) X 9 0 0 S0 f_mv (M_tries_73 x1 x2 x4 x6 σ) σ 73 [(0, .ref (mad P 0)), (1, .int x1), (2, .long x2), (4, .long x4), (6, .long x6)] [] := by
  unfold M_tries_73
  refine v_iconst C dX4_tries_73 ci_0 ?_
  exact v_sub [0, 1, 2, 3, 4] rfl (w_tries_74 C hm 0 σ)
theorem met_X4_tries {P : MP} {l : Launch} (σ : MS) (x1 : Int32) (x2 : Int64) (x4 : Int64) (x6 : Int64) {r : MS} (h : M_tries σ x1 x2 x4 x6 = some r) : FM l (OM P) yX4_tries (ws_ yX4_tries cX4_tries 9 none) 0 0 [.ref (mad P 0), .int x1, .long x2, .long x4, .long x6] σ (f_mv r) := by
  refine FM.of (own := RX4) (lv := [(0, .ref (mad P 0)), (1, .int x1), (2, .long x2), (4, .long x4), (6, .long x6)]) (OM_ok P) pl_X4 rfl (Nat.le_of_ble_eq_true rfl) rfl h OM_le (fun X C hm => ?_)
  unfold M_tries
  refine v_aload_n C dX4_tries_0 0 rfl ?_
  refine mg_bestEdge C dX4_tries_1 ?_
  refine v_iconst C dX4_tries_4 ci_m1 ?_
  refine v_icmp_eq C (tgt := 69) dX4_tries_5 rfl (fun _ => ?_) (fun _ => ?_)
  · exact v_sub [0, 1, 2, 3, 4] rfl (w_tries_69 C hm σ)
  · refine v_lload C dX4_tries_8 4 rfl ?_
    refine v_aload_n C dX4_tries_10 0 rfl ?_
    refine mg_bestQ C dX4_tries_11 ?_
    refine v_lmul C dX4_tries_14 ?_
    refine v_aload_n C dX4_tries_15 0 rfl ?_
    refine mg_bestHeight C dX4_tries_16 ?_
    refine v_lload C dX4_tries_19 3 rfl ?_
    refine v_lmul C dX4_tries_21 ?_
    refine v_lcmp_lt C (tgt := 69) dX4_tries_22 dX4_tries_23 rfl (fun _ => ?_) (fun _ => ?_)
    · exact v_sub [0, 1, 2, 3, 4] rfl (w_tries_69 C hm σ)
    · refine v_lload C dX4_tries_26 4 rfl ?_
      refine v_aload_n C dX4_tries_28 0 rfl ?_
      refine mg_bestQ C dX4_tries_29 ?_
      refine v_lmul C dX4_tries_32 ?_
      refine v_aload_n C dX4_tries_33 0 rfl ?_
      refine mg_bestHeight C dX4_tries_34 ?_
      refine v_lload C dX4_tries_37 3 rfl ?_
      refine v_lmul C dX4_tries_39 ?_
      refine v_lcmp_ne C (tgt := 73) dX4_tries_40 dX4_tries_41 rfl (fun _ => ?_) (fun _ => ?_)
      · refine v_iload_n C dX4_tries_44 1 rfl ?_
        refine v_aload_n C dX4_tries_45 0 rfl ?_
        refine mg_bestEdge C dX4_tries_46 ?_
        refine v_icmp_ne C (tgt := 73) dX4_tries_49 rfl (fun _ => ?_) (fun _ => ?_)
        · refine v_lload_n C dX4_tries_52 2 rfl ?_
          refine v_aload_n C dX4_tries_53 0 rfl ?_
          refine mg_bestQ C dX4_tries_54 ?_
          refine v_lmul C dX4_tries_57 ?_
          refine v_aload_n C dX4_tries_58 0 rfl ?_
          refine mg_bestP C dX4_tries_59 ?_
          refine v_lload C dX4_tries_62 3 rfl ?_
          refine v_lmul C dX4_tries_64 ?_
          refine v_lcmp_ge C (tgt := 73) dX4_tries_65 dX4_tries_66 rfl (fun _ => ?_) (fun _ => ?_)
          · exact v_sub [0, 1, 2, 3, 4] rfl (w_tries_73 C hm σ)
          · exact v_sub [0, 1, 2, 3, 4] rfl (w_tries_69 C hm σ)
        · exact v_sub [0, 1, 2, 3, 4] rfl (w_tries_73 C hm σ)
      · exact v_sub [0, 1, 2, 3, 4] rfl (w_tries_73 C hm σ)
theorem w_centers_86 {P : MP} {X : Ctx} {l : Launch} {S0 : MS} {F : Nat} (C : CX (OM P) X l cX4_centers 4 RX4 none) (hm : X.2.2.2.2.2.2.2.2.2 = none) {x1 : Int32} {x2 : Int32} {x3 : Int32} (k7 : Int32 → MS → Option MS) (hk7 : ∀ (z2 : Int32) (τ : MS), VF (OM P) X 4 4 109 S0 f_mv (k7 z2 τ) τ 7 [(0, .ref (mad P 0)), (1, .int x1), (2, .int z2)] []) (k23 : Int32 → MS → Option MS) (hk23 : ∀ (z3 : Int32) (τ : MS), VF (OM P) X 4 4 109 S0 f_mv (k23 z3 τ) τ 23 [(0, .ref (mad P 0)), (1, .int x1), (2, .int x2), (3, .int z3)] []) (σ : MS) : VF (OM P) X 4 4 109 S0 f_mv (M_centers_86 F k7 k23 x1 x2 x3 σ) σ 86 [(0, .ref (mad P 0)), (1, .int x1), (2, .int x2), (3, .int x3)] [] := by
  unfold M_centers_86
  refine v_iincN C (lv' := fun y14 => [(3, .int y14), (0, .ref (mad P 0)), (1, .int x1), (2, .int x2)]) dX4_centers_86 3 rfl ci_1 (Nat.le_of_ble_eq_true rfl) (fun _ => rfl) (fun y14 hy14 => ?_)
  refine v_goto C (tgt := 23) dX4_centers_89 rfl ?_
  exact v_sub [1, 2, 3, 0] rfl (hk23 y14 σ)
theorem w_centers_92 {P : MP} {X : Ctx} {l : Launch} {S0 : MS} {F : Nat} (C : CX (OM P) X l cX4_centers 4 RX4 none) (hm : X.2.2.2.2.2.2.2.2.2 = none) {x1 : Int32} {x2 : Int32} (k7 : Int32 → MS → Option MS) (hk7 : ∀ (z2 : Int32) (τ : MS), VF (OM P) X 4 4 109 S0 f_mv (k7 z2 τ) τ 7 [(0, .ref (mad P 0)), (1, .int x1), (2, .int z2)] []) (σ : MS) : VF (OM P) X 4 4 109 S0 f_mv (M_centers_92 F k7 x1 x2 σ) σ 92 [(0, .ref (mad P 0)), (1, .int x1), (2, .int x2)] [] := by
  unfold M_centers_92
  refine v_iincN C (lv' := fun y13 => [(2, .int y13), (0, .ref (mad P 0)), (1, .int x1)]) dX4_centers_92 2 rfl ci_1 (Nat.le_of_ble_eq_true rfl) (fun _ => rfl) (fun y13 hy13 => ?_)
  refine v_goto C (tgt := 7) dX4_centers_95 rfl ?_
  exact v_sub [1, 2, 0] rfl (hk7 y13 σ)
theorem w_centers_23 {P : MP} {X : Ctx} {l : Launch} {S0 : MS} {F : Nat} (C : CX (OM P) X l cX4_centers 4 RX4 none) (hm : X.2.2.2.2.2.2.2.2.2 = none) {x1 : Int32} {x2 : Int32} (k7 : Int32 → MS → Option MS) (hk7 : ∀ (z2 : Int32) (τ : MS), VF (OM P) X 4 4 109 S0 f_mv (k7 z2 τ) τ 7 [(0, .ref (mad P 0)), (1, .int x1), (2, .int z2)] []) : ∀ (n : Nat) (x3 : Int32) (σ : MS), VF (OM P) X 4 4 109 S0 f_mv (M_centers_23 F k7 x1 x2 n x3 σ) σ 23 [(0, .ref (mad P 0)), (1, .int x1), (2, .int x2), (3, .int x3)] [] := by
  intro n
  induction n with
  | zero => intro x3 σ; exact VF.none
  | succ n ih =>
    intro x3 σ
    unfold M_centers_23
    refine v_iload_n C dX4_centers_23 3 rfl ?_
    refine v_aload_n C dX4_centers_24 0 rfl ?_
    refine mg_crossMany C dX4_centers_25 ?_
    refine v_icmp_ge C (tgt := 92) dX4_centers_28 rfl (fun _ => ?_) (fun _ => ?_)
    · exact v_sub [0, 1, 2] rfl (w_centers_92 C hm k7 hk7 σ)
    · refine v_aload_n C dX4_centers_31 0 rfl ?_
      refine v_iload_n C dX4_centers_32 2 rfl ?_
      refine v_aload_n C dX4_centers_33 0 rfl ?_
      refine mg_crossP C dX4_centers_34 ?_
      refine v_iload_n C dX4_centers_37 3 rfl ?_
      refine ml_crossP C dX4_centers_38 (fun y4 hy4 => ?_)
      refine v_aload_n C dX4_centers_39 0 rfl ?_
      refine mg_crossQ C dX4_centers_40 ?_
      refine v_iload_n C dX4_centers_43 3 rfl ?_
      refine ml_crossQ C dX4_centers_44 (fun y5 hy5 => ?_)
      refine v_callV_ri C (As := [.int x2, .long y4, .long y5]) (st := []) lkX4_160 dX4_centers_45 rfl (Nat.le_of_ble_eq_true rfl) (Nat.le_of_ble_eq_true rfl) (Nat.le_of_ble_eq_true rfl) (mRecv C) (fun _ z => met_X4_mayLie F σ x2 y4 y5 z) (fun r6 hr6 => ?_)
      refine v_if_eq C (tgt := 86) dX4_centers_48 rfl (fun _ => ?_) (fun _ => ?_)
      · exact v_sub [0, 1, 2, 3] rfl (w_centers_86 C hm k7 hk7 (M_centers_23 F k7 x1 x2 n) ih σ)
      · refine v_aload_n C dX4_centers_51 0 rfl ?_
        refine v_iload_n C dX4_centers_52 2 rfl ?_
        refine v_aload_n C dX4_centers_53 0 rfl ?_
        refine mg_crossP C dX4_centers_54 ?_
        refine v_iload_n C dX4_centers_57 3 rfl ?_
        refine ml_crossP C dX4_centers_58 (fun y7 hy7 => ?_)
        refine v_aload_n C dX4_centers_59 0 rfl ?_
        refine mg_crossQ C dX4_centers_60 ?_
        refine v_iload_n C dX4_centers_63 3 rfl ?_
        refine ml_crossQ C dX4_centers_64 (fun y8 hy8 => ?_)
        refine v_aload_n C dX4_centers_65 0 rfl ?_
        refine v_iload_n C dX4_centers_66 1 rfl ?_
        refine v_iload_n C dX4_centers_67 2 rfl ?_
        refine v_aload_n C dX4_centers_68 0 rfl ?_
        refine mg_crossP C dX4_centers_69 ?_
        refine v_iload_n C dX4_centers_72 3 rfl ?_
        refine ml_crossP C dX4_centers_73 (fun y9 hy9 => ?_)
        refine v_aload_n C dX4_centers_74 0 rfl ?_
        refine mg_crossQ C dX4_centers_75 ?_
        refine v_iload_n C dX4_centers_78 3 rfl ?_
        refine ml_crossQ C dX4_centers_79 (fun y10 hy10 => ?_)
        refine v_callV_rl C (As := [.int x1, .int x2, .long y9, .long y10]) (st := [.long y8, .long y7, .int x2, .ref (mad P 0)]) lkX4_173 dX4_centers_80 rfl (Nat.le_of_ble_eq_true rfl) (Nat.le_of_ble_eq_true rfl) (Nat.le_of_ble_eq_true rfl) (mRecv C) (fun _ z => met_X4_heightAt F σ x1 x2 y9 y10 z) (fun r11 hr11 => ?_)
        refine v_callV_mv C (As := [.int x2, .long y7, .long y8, .long r11]) (st := []) lkX4_212 dX4_centers_83 rfl (Nat.le_of_ble_eq_true rfl) (Nat.le_of_ble_eq_true rfl) (Nat.le_of_ble_eq_true rfl) (mRecv C) (fun _ z => met_X4_tries σ x2 y7 y8 r11 z) (fun r12 hr12 => ?_)
        exact v_sub [0, 1, 2, 3] rfl (w_centers_86 C hm k7 hk7 (M_centers_23 F k7 x1 x2 n) ih r12)
theorem w_centers_7 {P : MP} {X : Ctx} {l : Launch} {S0 : MS} {F : Nat} (C : CX (OM P) X l cX4_centers 4 RX4 none) (hm : X.2.2.2.2.2.2.2.2.2 = none) {x1 : Int32}  : ∀ (n : Nat) (x2 : Int32) (σ : MS), VF (OM P) X 4 4 109 S0 f_mv (M_centers_7 F x1 n x2 σ) σ 7 [(0, .ref (mad P 0)), (1, .int x1), (2, .int x2)] [] := by
  intro n
  induction n with
  | zero => intro x2 σ; exact VF.none
  | succ n ih =>
    intro x2 σ
    unfold M_centers_7
    refine v_iload_n C dX4_centers_7 2 rfl ?_
    refine v_aload_n C dX4_centers_8 0 rfl ?_
    refine v_callV_ri C (As := []) (st := [.int x2]) lkX4_73 dX4_centers_9 rfl (Nat.le_of_ble_eq_true rfl) (Nat.le_of_ble_eq_true rfl) (Nat.le_of_ble_eq_true rfl) (mRecv C) (fun _ z => met_X4_edgeMany σ z) (fun r2 hr2 => ?_)
    refine v_icmp_ge C (tgt := 98) dX4_centers_12 rfl (fun _ => ?_) (fun _ => ?_)
    · exact v_vreturn C hm dX4_centers_98 rfl
    · refine v_aload_n C dX4_centers_15 0 rfl ?_
      refine v_iload_n C dX4_centers_16 1 rfl ?_
      refine v_iload_n C dX4_centers_17 2 rfl ?_
      refine v_callV_mv C (As := [.int x1, .int x2]) (st := []) lkX4_208 dX4_centers_18 rfl (Nat.le_of_ble_eq_true rfl) (Nat.le_of_ble_eq_true rfl) (Nat.le_of_ble_eq_true rfl) (mRecv C) (fun _ z => met_X4_laysCrossings F σ x1 x2 z) (fun r3 hr3 => ?_)
      refine v_iconst C dX4_centers_21 ci_0 ?_
      refine v_istore_n C (lv' := [(3, .int 0), (0, .ref (mad P 0)), (1, .int x1), (2, .int x2)]) dX4_centers_22 (Nat.le_of_ble_eq_true rfl) rfl ?_
      exact v_sub [1, 2, 3, 0] rfl (w_centers_23 C hm (M_centers_7 F x1 n) ih F 0 r3)
theorem met_X4_centers {P : MP} {l : Launch} (F : Nat) (σ : MS) (x1 : Int32) {r : MS} (h : M_centers F σ x1 = some r) : FM l (OM P) yX4_centers (ws_ yX4_centers cX4_centers 4 none) 4 109 [.ref (mad P 0), .int x1] σ (f_mv r) := by
  refine FM.of (own := RX4) (lv := [(0, .ref (mad P 0)), (1, .int x1)]) (OM_ok P) pl_X4 rfl (Nat.le_of_ble_eq_true rfl) rfl h OM_le (fun X C hm => ?_)
  unfold M_centers
  refine v_aload_n C dX4_centers_0 0 rfl ?_
  refine v_iconst C dX4_centers_1 ci_m1 ?_
  refine mp_bestEdge C dX4_centers_2 (fun σ1 hσ1 => ?_)
  refine v_iconst C dX4_centers_5 ci_0 ?_
  refine v_istore_n C (lv' := [(2, .int 0), (0, .ref (mad P 0)), (1, .int x1)]) dX4_centers_6 (Nat.le_of_ble_eq_true rfl) rfl ?_
  exact v_sub [1, 2, 0] rfl (w_centers_7 C hm F 0 σ1)
theorem w_refusedCenter_34 {P : MP} {X : Ctx} {l : Launch} {S0 : MS} {F : Nat} (C : CX (OM P) X l cX4_refusedCenter 4 RX4 (some .boolean)) (hm : X.2.2.2.2.2.2.2.2.2 = none) {x1 : Int32} (s1 : Int32) (σ : MS) : VF (OM P) X 4 5 132 S0 f_mi (M_refusedCenter_34 F x1 s1 σ) σ 34 [(0, .ref (mad P 0)), (1, .int x1)] [.int s1, .ref (mad P 0)] := by
  unfold M_refusedCenter_34
  refine v_callV_mi C (As := [.int s1]) (st := []) lkX4_61 dX4_refusedCenter_34 rfl (Nat.le_of_ble_eq_true rfl) (Nat.le_of_ble_eq_true rfl) (Nat.le_of_ble_eq_true rfl) (mRecv C) (fun _ z => met_X4_refused σ s1 z) (fun r4 hr4 => ?_)
  refine v_if_eq C (tgt := 42) dX4_refusedCenter_37 rfl (fun _ => ?_) (fun _ => ?_)
  · refine v_aload_n C dX4_refusedCenter_42 0 rfl ?_
    refine v_iconst C dX4_refusedCenter_43 ci_0 ?_
    refine v_callV_mv C (As := [.int 0]) (st := []) lkX4_170 dX4_refusedCenter_44 rfl (Nat.le_of_ble_eq_true rfl) (Nat.le_of_ble_eq_true rfl) (Nat.le_of_ble_eq_true rfl) (mRecv C) (fun _ z => met_X4_weighs F r4.2 0 z) (fun r5 hr5 => ?_)
    refine v_aload_n C dX4_refusedCenter_47 0 rfl ?_
    refine v_iload_n C dX4_refusedCenter_48 1 rfl ?_
    refine v_callV_mv C (As := [.int x1]) (st := []) lkX4_236 dX4_refusedCenter_49 rfl (Nat.le_of_ble_eq_true rfl) (Nat.le_of_ble_eq_true rfl) (Nat.le_of_ble_eq_true rfl) (mRecv C) (fun _ z => met_X4_centers F r5 x1 z) (fun r6 hr6 => ?_)
    refine v_iconst C dX4_refusedCenter_52 ci_0 ?_
    exact v_zreturn C hm dX4_refusedCenter_53 (Or.inl rfl) rfl
  · refine v_iconst C dX4_refusedCenter_40 ci_1 ?_
    exact v_zreturn C hm dX4_refusedCenter_41 (Or.inr rfl) rfl
theorem w_refusedCenter_18 {P : MP} {X : Ctx} {l : Launch} {S0 : MS} {F : Nat} (C : CX (OM P) X l cX4_refusedCenter 4 RX4 (some .boolean)) (hm : X.2.2.2.2.2.2.2.2.2 = none) {x1 : Int32} (σ : MS) : VF (OM P) X 4 5 132 S0 f_mi (M_refusedCenter_18 F x1 σ) σ 18 [(0, .ref (mad P 0)), (1, .int x1)] [.ref (mad P 0)] := by
  unfold M_refusedCenter_18
  refine v_iconst C dX4_refusedCenter_18 ci_1 ?_
  refine v_goto C (tgt := 34) dX4_refusedCenter_19 rfl ?_
  exact v_sub [0, 1] rfl (w_refusedCenter_34 C hm 1 σ)
theorem met_X4_refusedCenter {P : MP} {l : Launch} (F : Nat) (σ : MS) (x1 : Int32) (x2 : Int32) (x3 : Int32) {r : Int32 × MS} (h : M_refusedCenter F σ x1 x2 x3 = some r) : FM l (OM P) yX4_refusedCenter (ws_ yX4_refusedCenter cX4_refusedCenter 4 (some .boolean)) 5 132 [.ref (mad P 0), .int x1, .int x2, .int x3] σ (f_mi r) := by
  refine FM.of (own := RX4) (lv := [(0, .ref (mad P 0)), (1, .int x1), (2, .int x2), (3, .int x3)]) (OM_ok P) pl_X4 rfl (Nat.le_of_ble_eq_true rfl) rfl h OM_le (fun X C hm => ?_)
  unfold M_refusedCenter
  refine v_aload_n C dX4_refusedCenter_0 0 rfl ?_
  refine v_aload_n C dX4_refusedCenter_1 0 rfl ?_
  refine v_iload_n C dX4_refusedCenter_2 1 rfl ?_
  refine v_callV_ri C (As := [.int x1]) (st := [.ref (mad P 0)]) lkX4_167 dX4_refusedCenter_3 rfl (Nat.le_of_ble_eq_true rfl) (Nat.le_of_ble_eq_true rfl) (Nat.le_of_ble_eq_true rfl) (mRecv C) (fun _ z => met_X4_isSet σ x1 z) (fun r1 hr1 => ?_)
  refine v_if_eq C (tgt := 18) dX4_refusedCenter_6 rfl (fun _ => ?_) (fun _ => ?_)
  · exact v_sub [0, 1] rfl (w_refusedCenter_18 C hm σ)
  · refine v_iload_n C dX4_refusedCenter_9 2 rfl ?_
    refine v_iconst C dX4_refusedCenter_10 ci_0 ?_
    refine v_iload_n C dX4_refusedCenter_11 3 rfl ?_
    refine v_callS_ri C (As := [.int x2, .int 0, .int x3]) (st := [.ref (mad P 0)]) lkX4_69 dX4_refusedCenter_12 rfl (Nat.le_of_ble_eq_true rfl) (Nat.le_of_ble_eq_true rfl) (Nat.le_of_ble_eq_true rfl) (fun _ z => met_X4_within σ x2 0 x3 z) (fun r2 hr2 => ?_)
    refine v_if_ne C (tgt := 22) dX4_refusedCenter_15 rfl (fun _ => ?_) (fun _ => ?_)
    · exact v_sub [0, 1] rfl (w_refusedCenter_18 C hm σ)
    · refine v_aload_n C dX4_refusedCenter_22 0 rfl ?_
      refine v_callV_mi C (As := []) (st := [.ref (mad P 0)]) lkX4_233 dX4_refusedCenter_23 rfl (Nat.le_of_ble_eq_true rfl) (Nat.le_of_ble_eq_true rfl) (Nat.le_of_ble_eq_true rfl) (mRecv C) (fun _ z => met_X4_canHave F σ z) (fun r3 hr3 => ?_)
      refine v_if_ne C (tgt := 33) dX4_refusedCenter_26 rfl (fun _ => ?_) (fun _ => ?_)
      · refine v_iconst C dX4_refusedCenter_29 ci_2 ?_
        refine v_goto C (tgt := 34) dX4_refusedCenter_30 rfl ?_
        exact v_sub [0, 1] rfl (w_refusedCenter_34 C hm 2 r3.2)
      · refine v_iconst C dX4_refusedCenter_33 ci_0 ?_
        exact v_sub [0, 1] rfl (w_refusedCenter_34 C hm 0 r3.2)
theorem met_X4_radius {P : MP} {l : Launch} (F : Nat) (σ : MS) (x1 : Int32) (x2 : Int32) {r : Int32 × MS} (h : M_radius F σ x1 x2 = some r) : FM l (OM P) yX4_radius (ws_ yX4_radius cX4_radius 3 (some .int)) 6 155 [.ref (mad P 0), .int x1, .int x2] σ (f_mi r) := by
  refine FM.of (own := RX4) (lv := [(0, .ref (mad P 0)), (1, .int x1), (2, .int x2)]) (OM_ok P) pl_X4 rfl (Nat.le_of_ble_eq_true rfl) rfl h OM_le (fun X C hm => ?_)
  unfold M_radius
  refine v_aload_n C dX4_radius_0 0 rfl ?_
  refine v_iload_n C dX4_radius_1 1 rfl ?_
  refine v_iload_n C dX4_radius_2 2 rfl ?_
  refine v_iconst C dX4_radius_3 ci_1 ?_
  refine v_callV_mi C (As := [.int x1, .int x2, .int 1]) (st := []) lkX4_239 dX4_radius_4 rfl (Nat.le_of_ble_eq_true rfl) (Nat.le_of_ble_eq_true rfl) (Nat.le_of_ble_eq_true rfl) (mRecv C) (fun _ z => met_X4_refusedCenter F σ x1 x2 1 z) (fun r1 hr1 => ?_)
  refine v_if_eq C (tgt := 14) dX4_radius_7 rfl (fun _ => ?_) (fun _ => ?_)
  · refine v_aload_n C dX4_radius_14 0 rfl ?_
    refine mg_bestHeight C dX4_radius_15 ?_
    refine v_aload_n C dX4_radius_18 0 rfl ?_
    refine mg_bestQ C dX4_radius_19 ?_
    refine v_iload_n C dX4_radius_22 2 rfl ?_
    refine v_callS_ri C (As := [.long (mL r1.2 2), .long (mL r1.2 1), .int x2]) (st := []) lkX4_156 dX4_radius_23 rfl (Nat.le_of_ble_eq_true rfl) (Nat.le_of_ble_eq_true rfl) (Nat.le_of_ble_eq_true rfl) (fun _ z => met_X4_reduced F r1.2 (mL r1.2 2) (mL r1.2 1) x2 z) (fun r2 hr2 => ?_)
    exact v_ireturn C hm dX4_radius_26 rfl
  · refine v_iconst C dX4_radius_10 ci_0 ?_
    refine v_goto C (tgt := 26) dX4_radius_11 rfl ?_
    exact v_ireturn C hm dX4_radius_26 rfl
theorem met_X4_centerTold {P : MP} {l : Launch} (F : Nat) (σ : MS) (x1 : Int32) {r : Int32} (h : M_centerTold F σ x1 = some r) : FM l (OM P) yX4_centerTold (ws_ yX4_centerTold cX4_centerTold 2 (some .int)) 2 55 [.ref (mad P 0), .int x1] σ ((f_ri σ) r) := by
  refine FM.of (own := RX4) (lv := [(0, .ref (mad P 0)), (1, .int x1)]) (OM_ok P) pl_X4 rfl (Nat.le_of_ble_eq_true rfl) rfl h OM_le (fun X C hm => ?_)
  unfold M_centerTold
  refine v_iload_n C dX4_centerTold_0 1 rfl ?_
  refine v_if_ne C (tgt := 11) dX4_centerTold_1 rfl (fun _ => ?_) (fun _ => ?_)
  · refine v_aload_n C dX4_centerTold_4 0 rfl ?_
    refine mg_bestEdge C dX4_centerTold_5 ?_
    refine v_goto C (tgt := 25) dX4_centerTold_8 rfl ?_
    exact v_ireturn C hm dX4_centerTold_25 rfl
  · refine v_aload_n C dX4_centerTold_11 0 rfl ?_
    refine mg_bestP C dX4_centerTold_12 ?_
    refine v_aload_n C dX4_centerTold_15 0 rfl ?_
    refine mg_bestQ C dX4_centerTold_16 ?_
    refine v_iload_n C dX4_centerTold_19 1 rfl ?_
    refine v_iconst C dX4_centerTold_20 ci_1 ?_
    refine v_isub C dX4_centerTold_21 ?_
    refine v_callS_ri C (As := [.long (mL σ 0), .long (mL σ 1), .int (x1 - 1)]) (st := []) lkX4_156 dX4_centerTold_22 rfl (Nat.le_of_ble_eq_true rfl) (Nat.le_of_ble_eq_true rfl) (Nat.le_of_ble_eq_true rfl) (fun _ z => met_X4_reduced F σ (mL σ 0) (mL σ 1) (x1 - 1) z) (fun r1 hr1 => ?_)
    exact v_ireturn C hm dX4_centerTold_25 rfl
theorem met_X4_center {P : MP} {l : Launch} (F : Nat) (σ : MS) (x1 : Int32) (x2 : Int32) {r : Int32 × MS} (h : M_center F σ x1 x2 = some r) : FM l (OM P) yX4_center (ws_ yX4_center cX4_center 3 (some .int)) 6 155 [.ref (mad P 0), .int x1, .int x2] σ (f_mi r) := by
  refine FM.of (own := RX4) (lv := [(0, .ref (mad P 0)), (1, .int x1), (2, .int x2)]) (OM_ok P) pl_X4 rfl (Nat.le_of_ble_eq_true rfl) rfl h OM_le (fun X C hm => ?_)
  unfold M_center
  refine v_aload_n C dX4_center_0 0 rfl ?_
  refine v_iload_n C dX4_center_1 1 rfl ?_
  refine v_iload_n C dX4_center_2 2 rfl ?_
  refine v_iconst C dX4_center_3 ci_2 ?_
  refine v_callV_mi C (As := [.int x1, .int x2, .int 2]) (st := []) lkX4_239 dX4_center_4 rfl (Nat.le_of_ble_eq_true rfl) (Nat.le_of_ble_eq_true rfl) (Nat.le_of_ble_eq_true rfl) (mRecv C) (fun _ z => met_X4_refusedCenter F σ x1 x2 2 z) (fun r1 hr1 => ?_)
  refine v_if_eq C (tgt := 14) dX4_center_7 rfl (fun _ => ?_) (fun _ => ?_)
  · refine v_aload_n C dX4_center_14 0 rfl ?_
    refine v_iload_n C dX4_center_15 2 rfl ?_
    refine v_callV_ri C (As := [.int x2]) (st := []) lkX4_242 dX4_center_16 rfl (Nat.le_of_ble_eq_true rfl) (Nat.le_of_ble_eq_true rfl) (Nat.le_of_ble_eq_true rfl) (mRecv C) (fun _ z => met_X4_centerTold F r1.2 x2 z) (fun r2 hr2 => ?_)
    exact v_ireturn C hm dX4_center_19 rfl
  · refine v_iconst C dX4_center_10 ci_0 ?_
    refine v_goto C (tgt := 19) dX4_center_11 rfl ?_
    exact v_ireturn C hm dX4_center_19 rfl
theorem w_criticalNow_61 {P : MP} {X : Ctx} {l : Launch} {F : Nat} {σ : MS} (C : CX (OM P) X l cX4_criticalNow 4 RX4 (some .int)) (hm : X.2.2.2.2.2.2.2.2.2 = none) {x1 : Int32} {x3 : Int32} (k4 : Int32 → Int32 → Option Int32) (hk4 : ∀ (z2 : Int32) (z3 : Int32), VF (OM P) X 4 3 78 σ (f_ri σ) (k4 z2 z3) σ 4 [(0, .ref (mad P 0)), (1, .int x1), (2, .int z2), (3, .int z3)] []) (s0 : Int32) (s1 : Int32) : VF (OM P) X 4 3 78 σ (f_ri σ) (M_criticalNow_61 F k4 σ x1 x3 s0 s1) σ 61 [(0, .ref (mad P 0)), (1, .int x1), (3, .int x3)] [.int s1, .int s0] := by
  unfold M_criticalNow_61
  refine v_ior C dX4_criticalNow_61 ?_
  refine v_leti (fun y5 hy5 => ?_)
  refine v_istore_n C (lv' := [(2, .int y5), (0, .ref (mad P 0)), (1, .int x1), (3, .int x3)]) dX4_criticalNow_62 (Nat.le_of_ble_eq_true rfl) rfl ?_
  refine v_iincN C (lv' := fun y6 => [(3, .int y6), (2, .int y5), (0, .ref (mad P 0)), (1, .int x1)]) dX4_criticalNow_63 3 rfl ci_1 (Nat.le_of_ble_eq_true rfl) (fun _ => rfl) (fun y6 hy6 => ?_)
  refine v_goto C (tgt := 4) dX4_criticalNow_66 rfl ?_
  exact v_sub [2, 3, 1, 0] rfl (hk4 y5 y6)
theorem w_criticalNow_60 {P : MP} {X : Ctx} {l : Launch} {F : Nat} {σ : MS} (C : CX (OM P) X l cX4_criticalNow 4 RX4 (some .int)) (hm : X.2.2.2.2.2.2.2.2.2 = none) {x1 : Int32} {x3 : Int32} (k4 : Int32 → Int32 → Option Int32) (hk4 : ∀ (z2 : Int32) (z3 : Int32), VF (OM P) X 4 3 78 σ (f_ri σ) (k4 z2 z3) σ 4 [(0, .ref (mad P 0)), (1, .int x1), (2, .int z2), (3, .int z3)] []) (s0 : Int32) : VF (OM P) X 4 3 78 σ (f_ri σ) (M_criticalNow_60 F k4 σ x1 x3 s0) σ 60 [(0, .ref (mad P 0)), (1, .int x1), (3, .int x3)] [.int s0] := by
  unfold M_criticalNow_60
  refine v_iconst C dX4_criticalNow_60 ci_0 ?_
  exact v_sub [0, 1, 2] rfl (w_criticalNow_61 C hm k4 hk4 s0 0)
theorem w_criticalNow_4 {P : MP} {X : Ctx} {l : Launch} {F : Nat} {σ : MS} (C : CX (OM P) X l cX4_criticalNow 4 RX4 (some .int)) (hm : X.2.2.2.2.2.2.2.2.2 = none) {x1 : Int32}  : ∀ (n : Nat) (x2 : Int32) (x3 : Int32), VF (OM P) X 4 3 78 σ (f_ri σ) (M_criticalNow_4 F σ x1 n x2 x3) σ 4 [(0, .ref (mad P 0)), (1, .int x1), (2, .int x2), (3, .int x3)] [] := by
  intro n
  induction n with
  | zero => intro x2 x3; exact VF.none
  | succ n ih =>
    intro x2 x3
    unfold M_criticalNow_4
    refine v_iload_n C dX4_criticalNow_4 3 rfl ?_
    refine v_aload_n C dX4_criticalNow_5 0 rfl ?_
    refine v_callV_ri C (As := []) (st := [.int x3]) lkX4_65 dX4_criticalNow_6 rfl (Nat.le_of_ble_eq_true rfl) (Nat.le_of_ble_eq_true rfl) (Nat.le_of_ble_eq_true rfl) (mRecv C) (fun _ z => met_X4_many σ z) (fun r1 hr1 => ?_)
    refine v_icmp_ge C (tgt := 69) dX4_criticalNow_9 rfl (fun _ => ?_) (fun _ => ?_)
    · refine v_iload_n C dX4_criticalNow_69 2 rfl ?_
      exact v_ireturn C hm dX4_criticalNow_70 rfl
    · refine v_iload_n C dX4_criticalNow_12 2 rfl ?_
      refine v_iload_n C dX4_criticalNow_13 1 rfl ?_
      refine v_iload_n C dX4_criticalNow_14 3 rfl ?_
      refine v_callS_ri C (As := [.int x1, .int x3]) (st := [.int x2]) lkX4_164 dX4_criticalNow_15 rfl (Nat.le_of_ble_eq_true rfl) (Nat.le_of_ble_eq_true rfl) (Nat.le_of_ble_eq_true rfl) (fun _ z => met_X4_has σ x1 x3 z) (fun r2 hr2 => ?_)
      refine v_if_eq C (tgt := 60) dX4_criticalNow_18 rfl (fun _ => ?_) (fun _ => ?_)
      · exact v_sub [0, 1, 3] rfl (w_criticalNow_60 C hm (M_criticalNow_4 F σ x1 n) ih x2)
      · refine v_aload_n C dX4_criticalNow_21 0 rfl ?_
        refine mg_weights C dX4_criticalNow_22 ?_
        refine v_iload_n C dX4_criticalNow_25 3 rfl ?_
        refine ml_weights C dX4_criticalNow_26 (fun y3 hy3 => ?_)
        refine v_i2l C dX4_criticalNow_27 ?_
        refine v_aload_n C dX4_criticalNow_28 0 rfl ?_
        refine v_iload_n C dX4_criticalNow_29 3 rfl ?_
        refine v_aload_n C dX4_criticalNow_30 0 rfl ?_
        refine mg_bestEdge C dX4_criticalNow_31 ?_
        refine v_aload_n C dX4_criticalNow_34 0 rfl ?_
        refine mg_bestP C dX4_criticalNow_35 ?_
        refine v_aload_n C dX4_criticalNow_38 0 rfl ?_
        refine mg_bestQ C dX4_criticalNow_39 ?_
        refine v_callV_rl C (As := [.int x3, .int (mI σ 4), .long (mL σ 0), .long (mL σ 1)]) (st := [.long (y3.toInt64), .int x2]) lkX4_153 dX4_criticalNow_42 rfl (Nat.le_of_ble_eq_true rfl) (Nat.le_of_ble_eq_true rfl) (Nat.le_of_ble_eq_true rfl) (mRecv C) (fun _ z => met_X4_away σ x3 (mI σ 4) (mL σ 0) (mL σ 1) z) (fun r4 hr4 => ?_)
        refine v_lmul C dX4_criticalNow_45 ?_
        refine v_aload_n C dX4_criticalNow_46 0 rfl ?_
        refine mg_bestHeight C dX4_criticalNow_47 ?_
        refine v_lcmp_ne C (tgt := 60) dX4_criticalNow_50 dX4_criticalNow_51 rfl (fun _ => ?_) (fun _ => ?_)
        · refine v_iconst C dX4_criticalNow_54 ci_1 ?_
          refine v_iload_n C dX4_criticalNow_55 3 rfl ?_
          refine v_ishl C dX4_criticalNow_56 ?_
          refine v_goto C (tgt := 61) dX4_criticalNow_57 rfl ?_
          exact v_sub [0, 1, 3] rfl (w_criticalNow_61 C hm (M_criticalNow_4 F σ x1 n) ih x2 (1 <<< (x3 &&& 31)))
        · exact v_sub [0, 1, 3] rfl (w_criticalNow_60 C hm (M_criticalNow_4 F σ x1 n) ih x2)
theorem met_X4_criticalNow {P : MP} {l : Launch} (F : Nat) (σ : MS) (x1 : Int32) {r : Int32} (h : M_criticalNow F σ x1 = some r) : FM l (OM P) yX4_criticalNow (ws_ yX4_criticalNow cX4_criticalNow 4 (some .int)) 3 78 [.ref (mad P 0), .int x1] σ ((f_ri σ) r) := by
  refine FM.of (own := RX4) (lv := [(0, .ref (mad P 0)), (1, .int x1)]) (OM_ok P) pl_X4 rfl (Nat.le_of_ble_eq_true rfl) rfl h OM_le (fun X C hm => ?_)
  unfold M_criticalNow
  refine v_iconst C dX4_criticalNow_0 ci_0 ?_
  refine v_istore_n C (lv' := [(2, .int 0), (0, .ref (mad P 0)), (1, .int x1)]) dX4_criticalNow_1 (Nat.le_of_ble_eq_true rfl) rfl ?_
  refine v_iconst C dX4_criticalNow_2 ci_0 ?_
  refine v_istore_n C (lv' := [(3, .int 0), (2, .int 0), (0, .ref (mad P 0)), (1, .int x1)]) dX4_criticalNow_3 (Nat.le_of_ble_eq_true rfl) rfl ?_
  exact v_sub [2, 3, 1, 0] rfl (w_criticalNow_4 C hm F 0 0)
theorem met_X4_critical {P : MP} {l : Launch} (F : Nat) (σ : MS) (x1 : Int32) {r : Int32 × MS} (h : M_critical F σ x1 = some r) : FM l (OM P) yX4_critical (ws_ yX4_critical cX4_critical 2 (some .int)) 6 155 [.ref (mad P 0), .int x1] σ (f_mi r) := by
  refine FM.of (own := RX4) (lv := [(0, .ref (mad P 0)), (1, .int x1)]) (OM_ok P) pl_X4 rfl (Nat.le_of_ble_eq_true rfl) rfl h OM_le (fun X C hm => ?_)
  unfold M_critical
  refine v_aload_n C dX4_critical_0 0 rfl ?_
  refine v_iload_n C dX4_critical_1 1 rfl ?_
  refine v_iconst C dX4_critical_2 ci_0 ?_
  refine v_iconst C dX4_critical_3 ci_0 ?_
  refine v_callV_mi C (As := [.int x1, .int 0, .int 0]) (st := []) lkX4_239 dX4_critical_4 rfl (Nat.le_of_ble_eq_true rfl) (Nat.le_of_ble_eq_true rfl) (Nat.le_of_ble_eq_true rfl) (mRecv C) (fun _ z => met_X4_refusedCenter F σ x1 0 0 z) (fun r1 hr1 => ?_)
  refine v_if_eq C (tgt := 14) dX4_critical_7 rfl (fun _ => ?_) (fun _ => ?_)
  · refine v_aload_n C dX4_critical_14 0 rfl ?_
    refine v_iload_n C dX4_critical_15 1 rfl ?_
    refine v_callV_ri C (As := [.int x1]) (st := []) lkX4_245 dX4_critical_16 rfl (Nat.le_of_ble_eq_true rfl) (Nat.le_of_ble_eq_true rfl) (Nat.le_of_ble_eq_true rfl) (mRecv C) (fun _ z => met_X4_criticalNow F r1.2 x1 z) (fun r2 hr2 => ?_)
    exact v_ireturn C hm dX4_critical_19 rfl
  · refine v_iconst C dX4_critical_10 ci_0 ?_
    refine v_goto C (tgt := 19) dX4_critical_11 rfl ?_
    exact v_ireturn C hm dX4_critical_19 rfl
theorem met_X4_medianTold {P : MP} {l : Launch} (F : Nat) (σ : MS) (x1 : Int32) {r : Int32} (h : M_medianTold F σ x1 = some r) : FM l (OM P) yX4_medianTold (ws_ yX4_medianTold cX4_medianTold 2 (some .int)) 3 76 [.ref (mad P 0), .int x1] σ ((f_ri σ) r) := by
  refine FM.of (own := RX4) (lv := [(0, .ref (mad P 0)), (1, .int x1)]) (OM_ok P) pl_X4 rfl (Nat.le_of_ble_eq_true rfl) rfl h OM_le (fun X C hm => ?_)
  unfold M_medianTold
  refine v_iload_n C dX4_medianTold_0 1 rfl ?_
  refine v_iconst C dX4_medianTold_1 ci_3 ?_
  refine v_icmp_ge C (tgt := 13) dX4_medianTold_2 rfl (fun _ => ?_) (fun _ => ?_)
  · refine v_aload_n C dX4_medianTold_13 0 rfl ?_
    refine mg_bestHeight C dX4_medianTold_14 ?_
    refine v_aload_n C dX4_medianTold_17 0 rfl ?_
    refine mg_bestQ C dX4_medianTold_18 ?_
    refine v_iload_n C dX4_medianTold_21 1 rfl ?_
    refine v_iconst C dX4_medianTold_22 ci_3 ?_
    refine v_isub C dX4_medianTold_23 ?_
    refine v_callS_ri C (As := [.long (mL σ 2), .long (mL σ 1), .int (x1 - 3)]) (st := []) lkX4_156 dX4_medianTold_24 rfl (Nat.le_of_ble_eq_true rfl) (Nat.le_of_ble_eq_true rfl) (Nat.le_of_ble_eq_true rfl) (fun _ z => met_X4_reduced F σ (mL σ 2) (mL σ 1) (x1 - 3) z) (fun r1 hr1 => ?_)
    exact v_ireturn C hm dX4_medianTold_27 rfl
  · refine v_aload_n C dX4_medianTold_5 0 rfl ?_
    refine v_iload_n C dX4_medianTold_6 1 rfl ?_
    refine v_callV_ri C (As := [.int x1]) (st := []) lkX4_242 dX4_medianTold_7 rfl (Nat.le_of_ble_eq_true rfl) (Nat.le_of_ble_eq_true rfl) (Nat.le_of_ble_eq_true rfl) (mRecv C) (fun _ z => met_X4_centerTold F σ x1 z) (fun r2 hr2 => ?_)
    refine v_goto C (tgt := 27) dX4_medianTold_10 rfl ?_
    exact v_ireturn C hm dX4_medianTold_27 rfl
theorem w_medians_92 {P : MP} {X : Ctx} {l : Launch} {S0 : MS} {F : Nat} (C : CX (OM P) X l cX4_medians 3 RX4 none) (hm : X.2.2.2.2.2.2.2.2.2 = none) {x1 : Int32} {x2 : Int32} (k7 : Int32 → MS → Option MS) (hk7 : ∀ (z1 : Int32) (τ : MS), VF (OM P) X 3 4 106 S0 f_mv (k7 z1 τ) τ 7 [(0, .ref (mad P 0)), (1, .int z1)] []) (k30 : Int32 → MS → Option MS) (hk30 : ∀ (z2 : Int32) (τ : MS), VF (OM P) X 3 4 106 S0 f_mv (k30 z2 τ) τ 30 [(0, .ref (mad P 0)), (1, .int x1), (2, .int z2)] []) (σ : MS) : VF (OM P) X 3 4 106 S0 f_mv (M_medians_92 F k7 k30 x1 x2 σ) σ 92 [(0, .ref (mad P 0)), (1, .int x1), (2, .int x2)] [] := by
  unfold M_medians_92
  refine v_iincN C (lv' := fun y15 => [(2, .int y15), (0, .ref (mad P 0)), (1, .int x1)]) dX4_medians_92 2 rfl ci_1 (Nat.le_of_ble_eq_true rfl) (fun _ => rfl) (fun y15 hy15 => ?_)
  refine v_goto C (tgt := 30) dX4_medians_95 rfl ?_
  exact v_sub [1, 2, 0] rfl (hk30 y15 σ)
theorem w_medians_98 {P : MP} {X : Ctx} {l : Launch} {S0 : MS} {F : Nat} (C : CX (OM P) X l cX4_medians 3 RX4 none) (hm : X.2.2.2.2.2.2.2.2.2 = none) {x1 : Int32} (k7 : Int32 → MS → Option MS) (hk7 : ∀ (z1 : Int32) (τ : MS), VF (OM P) X 3 4 106 S0 f_mv (k7 z1 τ) τ 7 [(0, .ref (mad P 0)), (1, .int z1)] []) (σ : MS) : VF (OM P) X 3 4 106 S0 f_mv (M_medians_98 F k7 x1 σ) σ 98 [(0, .ref (mad P 0)), (1, .int x1)] [] := by
  unfold M_medians_98
  refine v_iincN C (lv' := fun y14 => [(1, .int y14), (0, .ref (mad P 0))]) dX4_medians_98 1 rfl ci_1 (Nat.le_of_ble_eq_true rfl) (fun _ => rfl) (fun y14 hy14 => ?_)
  refine v_goto C (tgt := 7) dX4_medians_101 rfl ?_
  exact v_sub [1, 0] rfl (hk7 y14 σ)
theorem w_medians_30 {P : MP} {X : Ctx} {l : Launch} {S0 : MS} {F : Nat} (C : CX (OM P) X l cX4_medians 3 RX4 none) (hm : X.2.2.2.2.2.2.2.2.2 = none) {x1 : Int32} (k7 : Int32 → MS → Option MS) (hk7 : ∀ (z1 : Int32) (τ : MS), VF (OM P) X 3 4 106 S0 f_mv (k7 z1 τ) τ 7 [(0, .ref (mad P 0)), (1, .int z1)] []) : ∀ (n : Nat) (x2 : Int32) (σ : MS), VF (OM P) X 3 4 106 S0 f_mv (M_medians_30 F k7 x1 n x2 σ) σ 30 [(0, .ref (mad P 0)), (1, .int x1), (2, .int x2)] [] := by
  intro n
  induction n with
  | zero => intro x2 σ; exact VF.none
  | succ n ih =>
    intro x2 σ
    unfold M_medians_30
    refine v_iload_n C dX4_medians_30 2 rfl ?_
    refine v_aload_n C dX4_medians_31 0 rfl ?_
    refine mg_crossMany C dX4_medians_32 ?_
    refine v_icmp_ge C (tgt := 98) dX4_medians_35 rfl (fun _ => ?_) (fun _ => ?_)
    · exact v_sub [0, 1] rfl (w_medians_98 C hm k7 hk7 σ)
    · refine v_aload_n C dX4_medians_38 0 rfl ?_
      refine v_iload_n C dX4_medians_39 1 rfl ?_
      refine v_aload_n C dX4_medians_40 0 rfl ?_
      refine mg_crossP C dX4_medians_41 ?_
      refine v_iload_n C dX4_medians_44 2 rfl ?_
      refine ml_crossP C dX4_medians_45 (fun y5 hy5 => ?_)
      refine v_aload_n C dX4_medians_46 0 rfl ?_
      refine mg_crossQ C dX4_medians_47 ?_
      refine v_iload_n C dX4_medians_50 2 rfl ?_
      refine ml_crossQ C dX4_medians_51 (fun y6 hy6 => ?_)
      refine v_callV_ri C (As := [.int x1, .long y5, .long y6]) (st := []) lkX4_160 dX4_medians_52 rfl (Nat.le_of_ble_eq_true rfl) (Nat.le_of_ble_eq_true rfl) (Nat.le_of_ble_eq_true rfl) (mRecv C) (fun _ z => met_X4_mayLie F σ x1 y5 y6 z) (fun r7 hr7 => ?_)
      refine v_if_eq C (tgt := 92) dX4_medians_55 rfl (fun _ => ?_) (fun _ => ?_)
      · exact v_sub [0, 1, 2] rfl (w_medians_92 C hm k7 hk7 (M_medians_30 F k7 x1 n) ih σ)
      · refine v_aload_n C dX4_medians_58 0 rfl ?_
        refine v_iload_n C dX4_medians_59 1 rfl ?_
        refine v_aload_n C dX4_medians_60 0 rfl ?_
        refine mg_crossP C dX4_medians_61 ?_
        refine v_iload_n C dX4_medians_64 2 rfl ?_
        refine ml_crossP C dX4_medians_65 (fun y8 hy8 => ?_)
        refine v_aload_n C dX4_medians_66 0 rfl ?_
        refine mg_crossQ C dX4_medians_67 ?_
        refine v_iload_n C dX4_medians_70 2 rfl ?_
        refine ml_crossQ C dX4_medians_71 (fun y9 hy9 => ?_)
        refine v_aload_n C dX4_medians_72 0 rfl ?_
        refine v_iload_n C dX4_medians_73 1 rfl ?_
        refine v_aload_n C dX4_medians_74 0 rfl ?_
        refine mg_crossP C dX4_medians_75 ?_
        refine v_iload_n C dX4_medians_78 2 rfl ?_
        refine ml_crossP C dX4_medians_79 (fun y10 hy10 => ?_)
        refine v_aload_n C dX4_medians_80 0 rfl ?_
        refine mg_crossQ C dX4_medians_81 ?_
        refine v_iload_n C dX4_medians_84 2 rfl ?_
        refine ml_crossQ C dX4_medians_85 (fun y11 hy11 => ?_)
        refine v_callV_rl C (As := [.int x1, .long y10, .long y11]) (st := [.long y9, .long y8, .int x1, .ref (mad P 0)]) lkX4_176 dX4_medians_86 rfl (Nat.le_of_ble_eq_true rfl) (Nat.le_of_ble_eq_true rfl) (Nat.le_of_ble_eq_true rfl) (mRecv C) (fun _ z => met_X4_costAt F σ x1 y10 y11 z) (fun r12 hr12 => ?_)
        refine v_callV_mv C (As := [.int x1, .long y8, .long y9, .long r12]) (st := []) lkX4_212 dX4_medians_89 rfl (Nat.le_of_ble_eq_true rfl) (Nat.le_of_ble_eq_true rfl) (Nat.le_of_ble_eq_true rfl) (mRecv C) (fun _ z => met_X4_tries σ x1 y8 y9 r12 z) (fun r13 hr13 => ?_)
        exact v_sub [0, 1, 2] rfl (w_medians_92 C hm k7 hk7 (M_medians_30 F k7 x1 n) ih r13)
theorem w_medians_7 {P : MP} {X : Ctx} {l : Launch} {S0 : MS} {F : Nat} (C : CX (OM P) X l cX4_medians 3 RX4 none) (hm : X.2.2.2.2.2.2.2.2.2 = none)   : ∀ (n : Nat) (x1 : Int32) (σ : MS), VF (OM P) X 3 4 106 S0 f_mv (M_medians_7 F n x1 σ) σ 7 [(0, .ref (mad P 0)), (1, .int x1)] [] := by
  intro n
  induction n with
  | zero => intro x1 σ; exact VF.none
  | succ n ih =>
    intro x1 σ
    unfold M_medians_7
    refine v_iload_n C dX4_medians_7 1 rfl ?_
    refine v_aload_n C dX4_medians_8 0 rfl ?_
    refine v_callV_ri C (As := []) (st := [.int x1]) lkX4_73 dX4_medians_9 rfl (Nat.le_of_ble_eq_true rfl) (Nat.le_of_ble_eq_true rfl) (Nat.le_of_ble_eq_true rfl) (mRecv C) (fun _ z => met_X4_edgeMany σ z) (fun r2 hr2 => ?_)
    refine v_icmp_ge C (tgt := 104) dX4_medians_12 rfl (fun _ => ?_) (fun _ => ?_)
    · exact v_vreturn C hm dX4_medians_104 rfl
    · refine v_aload_n C dX4_medians_15 0 rfl ?_
      refine v_iconst C dX4_medians_16 ci_1 ?_
      refine v_aload_n C dX4_medians_17 0 rfl ?_
      refine v_callV_ri C (As := []) (st := [.int 1, .ref (mad P 0)]) lkX4_65 dX4_medians_18 rfl (Nat.le_of_ble_eq_true rfl) (Nat.le_of_ble_eq_true rfl) (Nat.le_of_ble_eq_true rfl) (mRecv C) (fun _ z => met_X4_many σ z) (fun r3 hr3 => ?_)
      refine v_ishl C dX4_medians_21 ?_
      refine v_iconst C dX4_medians_22 ci_1 ?_
      refine v_isub C dX4_medians_23 ?_
      refine v_iload_n C dX4_medians_24 1 rfl ?_
      refine v_callV_mv C (As := [.int ((1 <<< (r3 &&& 31)) - 1), .int x1]) (st := []) lkX4_208 dX4_medians_25 rfl (Nat.le_of_ble_eq_true rfl) (Nat.le_of_ble_eq_true rfl) (Nat.le_of_ble_eq_true rfl) (mRecv C) (fun _ z => met_X4_laysCrossings F σ ((1 <<< (r3 &&& 31)) - 1) x1 z) (fun r4 hr4 => ?_)
      refine v_iconst C dX4_medians_28 ci_0 ?_
      refine v_istore_n C (lv' := [(2, .int 0), (0, .ref (mad P 0)), (1, .int x1)]) dX4_medians_29 (Nat.le_of_ble_eq_true rfl) rfl ?_
      exact v_sub [1, 2, 0] rfl (w_medians_30 C hm (M_medians_7 F n) ih F 0 r4)
theorem met_X4_medians {P : MP} {l : Launch} (F : Nat) (σ : MS) {r : MS} (h : M_medians F σ = some r) : FM l (OM P) yX4_medians (ws_ yX4_medians cX4_medians 3 none) 4 106 [.ref (mad P 0)] σ (f_mv r) := by
  refine FM.of (own := RX4) (lv := [(0, .ref (mad P 0))]) (OM_ok P) pl_X4 rfl (Nat.le_of_ble_eq_true rfl) rfl h OM_le (fun X C hm => ?_)
  unfold M_medians
  refine v_aload_n C dX4_medians_0 0 rfl ?_
  refine v_iconst C dX4_medians_1 ci_m1 ?_
  refine mp_bestEdge C dX4_medians_2 (fun σ1 hσ1 => ?_)
  refine v_iconst C dX4_medians_5 ci_0 ?_
  refine v_istore_n C (lv' := [(1, .int 0), (0, .ref (mad P 0))]) dX4_medians_6 (Nat.le_of_ble_eq_true rfl) rfl ?_
  exact v_sub [1, 0] rfl (w_medians_7 C hm F 0 σ1)
theorem w_median_26 {P : MP} {X : Ctx} {l : Launch} {S0 : MS} {F : Nat} (C : CX (OM P) X l cX4_median 2 RX4 (some .int)) (hm : X.2.2.2.2.2.2.2.2.2 = none) {x1 : Int32} (s1 : Int32) (σ : MS) : VF (OM P) X 2 5 128 S0 f_mi (M_median_26 F x1 s1 σ) σ 26 [(0, .ref (mad P 0)), (1, .int x1)] [.int s1, .ref (mad P 0)] := by
  unfold M_median_26
  refine v_callV_mi C (As := [.int s1]) (st := []) lkX4_61 dX4_median_26 rfl (Nat.le_of_ble_eq_true rfl) (Nat.le_of_ble_eq_true rfl) (Nat.le_of_ble_eq_true rfl) (mRecv C) (fun _ z => met_X4_refused σ s1 z) (fun r3 hr3 => ?_)
  refine v_if_eq C (tgt := 34) dX4_median_29 rfl (fun _ => ?_) (fun _ => ?_)
  · refine v_aload_n C dX4_median_34 0 rfl ?_
    refine v_iconst C dX4_median_35 ci_0 ?_
    refine v_callV_mv C (As := [.int 0]) (st := []) lkX4_170 dX4_median_36 rfl (Nat.le_of_ble_eq_true rfl) (Nat.le_of_ble_eq_true rfl) (Nat.le_of_ble_eq_true rfl) (mRecv C) (fun _ z => met_X4_weighs F r3.2 0 z) (fun r4 hr4 => ?_)
    refine v_aload_n C dX4_median_39 0 rfl ?_
    refine v_callV_mv C (As := []) (st := []) lkX4_248 dX4_median_40 rfl (Nat.le_of_ble_eq_true rfl) (Nat.le_of_ble_eq_true rfl) (Nat.le_of_ble_eq_true rfl) (mRecv C) (fun _ z => met_X4_medians F r4 z) (fun r5 hr5 => ?_)
    refine v_aload_n C dX4_median_43 0 rfl ?_
    refine v_iload_n C dX4_median_44 1 rfl ?_
    refine v_callV_ri C (As := [.int x1]) (st := []) lkX4_251 dX4_median_45 rfl (Nat.le_of_ble_eq_true rfl) (Nat.le_of_ble_eq_true rfl) (Nat.le_of_ble_eq_true rfl) (mRecv C) (fun _ z => met_X4_medianTold F r5 x1 z) (fun r6 hr6 => ?_)
    exact v_ireturn C hm dX4_median_48 rfl
  · refine v_iconst C dX4_median_32 ci_0 ?_
    exact v_ireturn C hm dX4_median_33 rfl
theorem met_X4_median {P : MP} {l : Launch} (F : Nat) (σ : MS) (x1 : Int32) {r : Int32 × MS} (h : M_median F σ x1 = some r) : FM l (OM P) yX4_median (ws_ yX4_median cX4_median 2 (some .int)) 5 128 [.ref (mad P 0), .int x1] σ (f_mi r) := by
  refine FM.of (own := RX4) (lv := [(0, .ref (mad P 0)), (1, .int x1)]) (OM_ok P) pl_X4 rfl (Nat.le_of_ble_eq_true rfl) rfl h OM_le (fun X C hm => ?_)
  unfold M_median
  refine v_aload_n C dX4_median_0 0 rfl ?_
  refine v_iload_n C dX4_median_1 1 rfl ?_
  refine v_iconst C dX4_median_2 ci_0 ?_
  refine v_iconst C dX4_median_3 ci_4 ?_
  refine v_callS_ri C (As := [.int x1, .int 0, .int 4]) (st := [.ref (mad P 0)]) lkX4_69 dX4_median_4 rfl (Nat.le_of_ble_eq_true rfl) (Nat.le_of_ble_eq_true rfl) (Nat.le_of_ble_eq_true rfl) (fun _ z => met_X4_within σ x1 0 4 z) (fun r1 hr1 => ?_)
  refine v_if_ne C (tgt := 14) dX4_median_7 rfl (fun _ => ?_) (fun _ => ?_)
  · refine v_iconst C dX4_median_10 ci_1 ?_
    refine v_goto C (tgt := 26) dX4_median_11 rfl ?_
    exact v_sub [0, 1] rfl (w_median_26 C hm 1 σ)
  · refine v_aload_n C dX4_median_14 0 rfl ?_
    refine v_callV_mi C (As := []) (st := [.ref (mad P 0)]) lkX4_233 dX4_median_15 rfl (Nat.le_of_ble_eq_true rfl) (Nat.le_of_ble_eq_true rfl) (Nat.le_of_ble_eq_true rfl) (mRecv C) (fun _ z => met_X4_canHave F σ z) (fun r2 hr2 => ?_)
    refine v_if_ne C (tgt := 25) dX4_median_18 rfl (fun _ => ?_) (fun _ => ?_)
    · refine v_iconst C dX4_median_21 ci_2 ?_
      refine v_goto C (tgt := 26) dX4_median_22 rfl ?_
      exact v_sub [0, 1] rfl (w_median_26 C hm 2 r2.2)
    · refine v_iconst C dX4_median_25 ci_0 ?_
      exact v_sub [0, 1] rfl (w_median_26 C hm 0 r2.2)
theorem w_laysRadii_7 {P : MP} {X : Ctx} {l : Launch} {S0 : MS} {F : Nat} (C : CX (OM P) X l cX4_laysRadii 2 RX4 none) (hm : X.2.2.2.2.2.2.2.2.2 = none)   : ∀ (n : Nat) (x1 : Int32) (σ : MS), VF (OM P) X 2 5 132 S0 f_mv (M_laysRadii_7 F n x1 σ) σ 7 [(0, .ref (mad P 0)), (1, .int x1)] [] := by
  intro n
  induction n with
  | zero => intro x1 σ; exact VF.none
  | succ n ih =>
    intro x1 σ
    unfold M_laysRadii_7
    refine v_iload_n C dX4_laysRadii_7 1 rfl ?_
    refine v_iconst C dX4_laysRadii_8 ci_1 ?_
    refine v_aload_n C dX4_laysRadii_9 0 rfl ?_
    refine v_callV_ri C (As := []) (st := [.int 1, .int x1]) lkX4_65 dX4_laysRadii_10 rfl (Nat.le_of_ble_eq_true rfl) (Nat.le_of_ble_eq_true rfl) (Nat.le_of_ble_eq_true rfl) (mRecv C) (fun _ z => met_X4_many σ z) (fun r2 hr2 => ?_)
    refine v_ishl C dX4_laysRadii_13 ?_
    refine v_icmp_ge C (tgt := 48) dX4_laysRadii_14 rfl (fun _ => ?_) (fun _ => ?_)
    · exact v_vreturn C hm dX4_laysRadii_48 rfl
    · refine v_aload_n C dX4_laysRadii_17 0 rfl ?_
      refine v_iload_n C dX4_laysRadii_18 1 rfl ?_
      refine v_callV_mv C (As := [.int x1]) (st := []) lkX4_236 dX4_laysRadii_19 rfl (Nat.le_of_ble_eq_true rfl) (Nat.le_of_ble_eq_true rfl) (Nat.le_of_ble_eq_true rfl) (mRecv C) (fun _ z => met_X4_centers F σ x1 z) (fun r3 hr3 => ?_)
      refine v_aload_n C dX4_laysRadii_22 0 rfl ?_
      refine mg_radiusP C dX4_laysRadii_23 ?_
      refine v_iload_n C dX4_laysRadii_26 1 rfl ?_
      refine v_aload_n C dX4_laysRadii_27 0 rfl ?_
      refine mg_bestHeight C dX4_laysRadii_28 ?_
      refine ms_radiusP C dX4_laysRadii_31 (fun σ4 hσ4 => ?_)
      refine v_aload_n C dX4_laysRadii_32 0 rfl ?_
      refine mg_radiusQ C dX4_laysRadii_33 ?_
      refine v_iload_n C dX4_laysRadii_36 1 rfl ?_
      refine v_aload_n C dX4_laysRadii_37 0 rfl ?_
      refine mg_bestQ C dX4_laysRadii_38 ?_
      refine ms_radiusQ C dX4_laysRadii_41 (fun σ5 hσ5 => ?_)
      refine v_iincN C (lv' := fun y6 => [(1, .int y6), (0, .ref (mad P 0))]) dX4_laysRadii_42 1 rfl ci_1 (Nat.le_of_ble_eq_true rfl) (fun _ => rfl) (fun y6 hy6 => ?_)
      refine v_goto C (tgt := 7) dX4_laysRadii_45 rfl ?_
      exact v_sub [1, 0] rfl (ih y6 σ5)
theorem met_X4_laysRadii {P : MP} {l : Launch} (F : Nat) (σ : MS) {r : MS} (h : M_laysRadii F σ = some r) : FM l (OM P) yX4_laysRadii (ws_ yX4_laysRadii cX4_laysRadii 2 none) 5 132 [.ref (mad P 0)] σ (f_mv r) := by
  refine FM.of (own := RX4) (lv := [(0, .ref (mad P 0))]) (OM_ok P) pl_X4 rfl (Nat.le_of_ble_eq_true rfl) rfl h OM_le (fun X C hm => ?_)
  unfold M_laysRadii
  refine v_aload_n C dX4_laysRadii_0 0 rfl ?_
  refine v_iconst C dX4_laysRadii_1 ci_0 ?_
  refine v_callV_mv C (As := [.int 0]) (st := []) lkX4_170 dX4_laysRadii_2 rfl (Nat.le_of_ble_eq_true rfl) (Nat.le_of_ble_eq_true rfl) (Nat.le_of_ble_eq_true rfl) (mRecv C) (fun _ z => met_X4_weighs F σ 0 z) (fun r1 hr1 => ?_)
  refine v_iconst C dX4_laysRadii_5 ci_0 ?_
  refine v_istore_n C (lv' := [(1, .int 0), (0, .ref (mad P 0))]) dX4_laysRadii_6 (Nat.le_of_ble_eq_true rfl) rfl ?_
  exact v_sub [1, 0] rfl (w_laysRadii_7 C hm F 0 r1)
theorem w_laysTwo_147 {P : MP} {X : Ctx} {l : Launch} {S0 : MS} {F : Nat} (C : CX (OM P) X l cX4_laysTwo 4 RX4 none) (hm : X.2.2.2.2.2.2.2.2.2 = none) {x1 : Int32} {x2 : Int32} (k2 : Int32 → MS → Option MS) (hk2 : ∀ (z1 : Int32) (τ : MS), VF (OM P) X 4 1 20 S0 f_mv (k2 z1 τ) τ 2 [(0, .ref (mad P 0)), (1, .int z1)] []) (k21 : Int32 → MS → Option MS) (hk21 : ∀ (z2 : Int32) (τ : MS), VF (OM P) X 4 1 20 S0 f_mv (k21 z2 τ) τ 21 [(0, .ref (mad P 0)), (1, .int x1), (2, .int z2)] []) (σ : MS) : VF (OM P) X 4 1 20 S0 f_mv (M_laysTwo_147 F k2 k21 x1 x2 σ) σ 147 [(0, .ref (mad P 0)), (1, .int x1), (2, .int x2)] [] := by
  unfold M_laysTwo_147
  refine v_iincN C (lv' := fun y13 => [(2, .int y13), (0, .ref (mad P 0)), (1, .int x1)]) dX4_laysTwo_147 2 rfl ci_1 (Nat.le_of_ble_eq_true rfl) (fun _ => rfl) (fun y13 hy13 => ?_)
  refine v_goto C (tgt := 21) dX4_laysTwo_150 rfl ?_
  exact v_sub [1, 2, 0] rfl (hk21 y13 σ)
theorem w_laysTwo_123 {P : MP} {X : Ctx} {l : Launch} {S0 : MS} {F : Nat} (C : CX (OM P) X l cX4_laysTwo 4 RX4 none) (hm : X.2.2.2.2.2.2.2.2.2 = none) {x1 : Int32} {x2 : Int32} {x3 : Int32} (k2 : Int32 → MS → Option MS) (hk2 : ∀ (z1 : Int32) (τ : MS), VF (OM P) X 4 1 20 S0 f_mv (k2 z1 τ) τ 2 [(0, .ref (mad P 0)), (1, .int z1)] []) (k21 : Int32 → MS → Option MS) (hk21 : ∀ (z2 : Int32) (τ : MS), VF (OM P) X 4 1 20 S0 f_mv (k21 z2 τ) τ 21 [(0, .ref (mad P 0)), (1, .int x1), (2, .int z2)] []) (σ : MS) : VF (OM P) X 4 1 20 S0 f_mv (M_laysTwo_123 F k2 k21 x1 x2 x3 σ) σ 123 [(0, .ref (mad P 0)), (1, .int x1), (2, .int x2), (3, .int x3)] [] := by
  unfold M_laysTwo_123
  refine v_aload_n C dX4_laysTwo_123 0 rfl ?_
  refine mg_twoP C dX4_laysTwo_124 ?_
  refine v_iload_n C dX4_laysTwo_127 1 rfl ?_
  refine v_aload_n C dX4_laysTwo_128 0 rfl ?_
  refine mg_radiusP C dX4_laysTwo_129 ?_
  refine v_iload_n C dX4_laysTwo_132 3 rfl ?_
  refine ml_radiusP C dX4_laysTwo_133 (fun y14 hy14 => ?_)
  refine ms_twoP C dX4_laysTwo_134 (fun σ15 hσ15 => ?_)
  refine v_aload_n C dX4_laysTwo_135 0 rfl ?_
  refine mg_twoQ C dX4_laysTwo_136 ?_
  refine v_iload_n C dX4_laysTwo_139 1 rfl ?_
  refine v_aload_n C dX4_laysTwo_140 0 rfl ?_
  refine mg_radiusQ C dX4_laysTwo_141 ?_
  refine v_iload_n C dX4_laysTwo_144 3 rfl ?_
  refine ml_radiusQ C dX4_laysTwo_145 (fun y16 hy16 => ?_)
  refine ms_twoQ C dX4_laysTwo_146 (fun σ17 hσ17 => ?_)
  exact v_sub [0, 1, 2] rfl (w_laysTwo_147 C hm k2 hk2 k21 hk21 σ17)
theorem w_laysTwo_81 {P : MP} {X : Ctx} {l : Launch} {S0 : MS} {F : Nat} (C : CX (OM P) X l cX4_laysTwo 4 RX4 none) (hm : X.2.2.2.2.2.2.2.2.2 = none) {x1 : Int32} {x2 : Int32} (k2 : Int32 → MS → Option MS) (hk2 : ∀ (z1 : Int32) (τ : MS), VF (OM P) X 4 1 20 S0 f_mv (k2 z1 τ) τ 2 [(0, .ref (mad P 0)), (1, .int z1)] []) (k21 : Int32 → MS → Option MS) (hk21 : ∀ (z2 : Int32) (τ : MS), VF (OM P) X 4 1 20 S0 f_mv (k21 z2 τ) τ 21 [(0, .ref (mad P 0)), (1, .int x1), (2, .int z2)] []) (s0 : Int32) (σ : MS) : VF (OM P) X 4 1 20 S0 f_mv (M_laysTwo_81 F k2 k21 x1 x2 s0 σ) σ 81 [(0, .ref (mad P 0)), (1, .int x1), (2, .int x2)] [.int s0] := by
  unfold M_laysTwo_81
  refine v_istore_n C (lv' := [(3, .int s0), (0, .ref (mad P 0)), (1, .int x1), (2, .int x2)]) dX4_laysTwo_81 (Nat.le_of_ble_eq_true rfl) rfl ?_
  refine v_aload_n C dX4_laysTwo_82 1 rfl ?_
  refine mg_twoQ C dX4_laysTwo_83 ?_
  refine v_iload_n C dX4_laysTwo_86 2 rfl ?_
  refine ml_twoQ C dX4_laysTwo_87 (fun y8 hy8 => ?_)
  refine v_lconst C dX4_laysTwo_88 cl_0 ?_
  refine v_lcmp_eq C (tgt := 123) dX4_laysTwo_89 dX4_laysTwo_90 rfl (fun _ => ?_) (fun _ => ?_)
  · exact v_sub [1, 2, 3, 0] rfl (w_laysTwo_123 C hm k2 hk2 k21 hk21 σ)
  · refine v_aload_n C dX4_laysTwo_93 1 rfl ?_
    refine mg_radiusP C dX4_laysTwo_94 ?_
    refine v_iload_n C dX4_laysTwo_97 0 rfl ?_
    refine ml_radiusP C dX4_laysTwo_98 (fun y9 hy9 => ?_)
    refine v_aload_n C dX4_laysTwo_99 1 rfl ?_
    refine mg_twoQ C dX4_laysTwo_100 ?_
    refine v_iload_n C dX4_laysTwo_103 2 rfl ?_
    refine ml_twoQ C dX4_laysTwo_104 (fun y10 hy10 => ?_)
    refine v_lmul C dX4_laysTwo_105 ?_
    refine v_aload_n C dX4_laysTwo_106 1 rfl ?_
    refine mg_twoP C dX4_laysTwo_107 ?_
    refine v_iload_n C dX4_laysTwo_110 2 rfl ?_
    refine ml_twoP C dX4_laysTwo_111 (fun y11 hy11 => ?_)
    refine v_aload_n C dX4_laysTwo_112 1 rfl ?_
    refine mg_radiusQ C dX4_laysTwo_113 ?_
    refine v_iload_n C dX4_laysTwo_116 0 rfl ?_
    refine ml_radiusQ C dX4_laysTwo_117 (fun y12 hy12 => ?_)
    refine v_lmul C dX4_laysTwo_118 ?_
    refine v_lcmp_ge C (tgt := 147) dX4_laysTwo_119 dX4_laysTwo_120 rfl (fun _ => ?_) (fun _ => ?_)
    · exact v_sub [1, 2, 3] rfl (w_laysTwo_147 C hm k2 hk2 k21 hk21 σ)
    · exact v_sub [1, 2, 3, 0] rfl (w_laysTwo_123 C hm k2 hk2 k21 hk21 σ)
theorem w_laysTwo_153 {P : MP} {X : Ctx} {l : Launch} {S0 : MS} {F : Nat} (C : CX (OM P) X l cX4_laysTwo 4 RX4 none) (hm : X.2.2.2.2.2.2.2.2.2 = none) {x1 : Int32} (k2 : Int32 → MS → Option MS) (hk2 : ∀ (z1 : Int32) (τ : MS), VF (OM P) X 4 1 20 S0 f_mv (k2 z1 τ) τ 2 [(0, .ref (mad P 0)), (1, .int z1)] []) (σ : MS) : VF (OM P) X 4 1 20 S0 f_mv (M_laysTwo_153 F k2 x1 σ) σ 153 [(0, .ref (mad P 0)), (1, .int x1)] [] := by
  unfold M_laysTwo_153
  refine v_iincN C (lv' := fun y7 => [(1, .int y7), (0, .ref (mad P 0))]) dX4_laysTwo_153 1 rfl ci_1 (Nat.le_of_ble_eq_true rfl) (fun _ => rfl) (fun y7 hy7 => ?_)
  refine v_goto C (tgt := 2) dX4_laysTwo_156 rfl ?_
  exact v_sub [1, 0] rfl (hk2 y7 σ)
theorem w_laysTwo_21 {P : MP} {X : Ctx} {l : Launch} {S0 : MS} {F : Nat} (C : CX (OM P) X l cX4_laysTwo 4 RX4 none) (hm : X.2.2.2.2.2.2.2.2.2 = none) {x1 : Int32} (k2 : Int32 → MS → Option MS) (hk2 : ∀ (z1 : Int32) (τ : MS), VF (OM P) X 4 1 20 S0 f_mv (k2 z1 τ) τ 2 [(0, .ref (mad P 0)), (1, .int z1)] []) : ∀ (n : Nat) (x2 : Int32) (σ : MS), VF (OM P) X 4 1 20 S0 f_mv (M_laysTwo_21 F k2 x1 n x2 σ) σ 21 [(0, .ref (mad P 0)), (1, .int x1), (2, .int x2)] [] := by
  intro n
  induction n with
  | zero => intro x2 σ; exact VF.none
  | succ n ih =>
    intro x2 σ
    unfold M_laysTwo_21
    refine v_iload_n C dX4_laysTwo_21 2 rfl ?_
    refine v_iload_n C dX4_laysTwo_22 1 rfl ?_
    refine v_icmp_gt C (tgt := 153) dX4_laysTwo_23 rfl (fun _ => ?_) (fun _ => ?_)
    · exact v_sub [0, 1] rfl (w_laysTwo_153 C hm k2 hk2 σ)
    · refine v_iload_n C dX4_laysTwo_26 2 rfl ?_
      refine v_iload_n C dX4_laysTwo_27 1 rfl ?_
      refine v_iconst C dX4_laysTwo_28 ci_m1 ?_
      refine v_ixor C dX4_laysTwo_29 ?_
      refine v_iand C dX4_laysTwo_30 ?_
      refine v_if_ne C (tgt := 147) dX4_laysTwo_31 rfl (fun _ => ?_) (fun _ => ?_)
      · refine v_aload_n C dX4_laysTwo_34 0 rfl ?_
        refine mg_radiusP C dX4_laysTwo_35 ?_
        refine v_iload_n C dX4_laysTwo_38 2 rfl ?_
        refine ml_radiusP C dX4_laysTwo_39 (fun y3 hy3 => ?_)
        refine v_aload_n C dX4_laysTwo_40 0 rfl ?_
        refine mg_radiusQ C dX4_laysTwo_41 ?_
        refine v_iload_n C dX4_laysTwo_44 1 rfl ?_
        refine v_iload_n C dX4_laysTwo_45 2 rfl ?_
        refine v_iconst C dX4_laysTwo_46 ci_m1 ?_
        refine v_ixor C dX4_laysTwo_47 ?_
        refine v_iand C dX4_laysTwo_48 ?_
        refine ml_radiusQ C dX4_laysTwo_49 (fun y4 hy4 => ?_)
        refine v_lmul C dX4_laysTwo_50 ?_
        refine v_aload_n C dX4_laysTwo_51 0 rfl ?_
        refine mg_radiusP C dX4_laysTwo_52 ?_
        refine v_iload_n C dX4_laysTwo_55 1 rfl ?_
        refine v_iload_n C dX4_laysTwo_56 2 rfl ?_
        refine v_iconst C dX4_laysTwo_57 ci_m1 ?_
        refine v_ixor C dX4_laysTwo_58 ?_
        refine v_iand C dX4_laysTwo_59 ?_
        refine ml_radiusP C dX4_laysTwo_60 (fun y5 hy5 => ?_)
        refine v_aload_n C dX4_laysTwo_61 0 rfl ?_
        refine mg_radiusQ C dX4_laysTwo_62 ?_
        refine v_iload_n C dX4_laysTwo_65 2 rfl ?_
        refine ml_radiusQ C dX4_laysTwo_66 (fun y6 hy6 => ?_)
        refine v_lmul C dX4_laysTwo_67 ?_
        refine v_lcmp_lt C (tgt := 76) dX4_laysTwo_68 dX4_laysTwo_69 rfl (fun _ => ?_) (fun _ => ?_)
        · refine v_iload_n C dX4_laysTwo_76 1 rfl ?_
          refine v_iload_n C dX4_laysTwo_77 2 rfl ?_
          refine v_iconst C dX4_laysTwo_78 ci_m1 ?_
          refine v_ixor C dX4_laysTwo_79 ?_
          refine v_iand C dX4_laysTwo_80 ?_
          exact v_sub [0, 1, 2] rfl (w_laysTwo_81 C hm k2 hk2 (M_laysTwo_21 F k2 x1 n) ih (x1 &&& (x2 ^^^ (-1))) σ)
        · refine v_iload_n C dX4_laysTwo_72 2 rfl ?_
          refine v_goto C (tgt := 81) dX4_laysTwo_73 rfl ?_
          exact v_sub [0, 1, 2] rfl (w_laysTwo_81 C hm k2 hk2 (M_laysTwo_21 F k2 x1 n) ih x2 σ)
      · exact v_sub [0, 1, 2] rfl (w_laysTwo_147 C hm k2 hk2 (M_laysTwo_21 F k2 x1 n) ih σ)
theorem w_laysTwo_2 {P : MP} {X : Ctx} {l : Launch} {S0 : MS} {F : Nat} (C : CX (OM P) X l cX4_laysTwo 4 RX4 none) (hm : X.2.2.2.2.2.2.2.2.2 = none)   : ∀ (n : Nat) (x1 : Int32) (σ : MS), VF (OM P) X 4 1 20 S0 f_mv (M_laysTwo_2 F n x1 σ) σ 2 [(0, .ref (mad P 0)), (1, .int x1)] [] := by
  intro n
  induction n with
  | zero => intro x1 σ; exact VF.none
  | succ n ih =>
    intro x1 σ
    unfold M_laysTwo_2
    refine v_iload_n C dX4_laysTwo_2 1 rfl ?_
    refine v_iconst C dX4_laysTwo_3 ci_1 ?_
    refine v_aload_n C dX4_laysTwo_4 0 rfl ?_
    refine v_callV_ri C (As := []) (st := [.int 1, .int x1]) lkX4_65 dX4_laysTwo_5 rfl (Nat.le_of_ble_eq_true rfl) (Nat.le_of_ble_eq_true rfl) (Nat.le_of_ble_eq_true rfl) (mRecv C) (fun _ z => met_X4_many σ z) (fun r1 hr1 => ?_)
    refine v_ishl C dX4_laysTwo_8 ?_
    refine v_icmp_ge C (tgt := 159) dX4_laysTwo_9 rfl (fun _ => ?_) (fun _ => ?_)
    · exact v_vreturn C hm dX4_laysTwo_159 rfl
    · refine v_aload_n C dX4_laysTwo_12 0 rfl ?_
      refine mg_twoQ C dX4_laysTwo_13 ?_
      refine v_iload_n C dX4_laysTwo_16 1 rfl ?_
      refine v_lconst C dX4_laysTwo_17 cl_0 ?_
      refine ms_twoQ C dX4_laysTwo_18 (fun σ2 hσ2 => ?_)
      refine v_iconst C dX4_laysTwo_19 ci_0 ?_
      refine v_istore_n C (lv' := [(2, .int 0), (0, .ref (mad P 0)), (1, .int x1)]) dX4_laysTwo_20 (Nat.le_of_ble_eq_true rfl) rfl ?_
      exact v_sub [1, 2, 0] rfl (w_laysTwo_21 C hm (M_laysTwo_2 F n) ih F 0 σ2)
theorem met_X4_laysTwo {P : MP} {l : Launch} (F : Nat) (σ : MS) {r : MS} (h : M_laysTwo F σ = some r) : FM l (OM P) yX4_laysTwo (ws_ yX4_laysTwo cX4_laysTwo 4 none) 1 20 [.ref (mad P 0)] σ (f_mv r) := by
  refine FM.of (own := RX4) (lv := [(0, .ref (mad P 0))]) (OM_ok P) pl_X4 rfl (Nat.le_of_ble_eq_true rfl) rfl h OM_le (fun X C hm => ?_)
  unfold M_laysTwo
  refine v_iconst C dX4_laysTwo_0 ci_0 ?_
  refine v_istore_n C (lv' := [(1, .int 0), (0, .ref (mad P 0))]) dX4_laysTwo_1 (Nat.le_of_ble_eq_true rfl) rfl ?_
  exact v_sub [1, 0] rfl (w_laysTwo_2 C hm F 0 σ)
theorem w_laysBound_204 {P : MP} {X : Ctx} {l : Launch} {S0 : MS} {F : Nat} (C : CX (OM P) X l cX4_laysBound 9 RX4 none) (hm : X.2.2.2.2.2.2.2.2.2 = none) {x1 : Int32} {x2 : Int32} {x3 : Int32} (k67 : Int32 → MS → Option MS) (hk67 : ∀ (z3 : Int32) (τ : MS), VF (OM P) X 9 6 153 S0 f_mv (k67 z3 τ) τ 67 [(0, .ref (mad P 0)), (1, .int x1), (2, .int x2), (3, .int z3)] []) (σ : MS) : VF (OM P) X 9 6 153 S0 f_mv (M_laysBound_204 F k67 x1 x2 x3 σ) σ 204 [(0, .ref (mad P 0)), (1, .int x1), (2, .int x2), (3, .int x3)] [] := by
  unfold M_laysBound_204
  refine v_iincN C (lv' := fun y21 => [(3, .int y21), (0, .ref (mad P 0)), (1, .int x1), (2, .int x2)]) dX4_laysBound_204 3 rfl ci_1 (Nat.le_of_ble_eq_true rfl) (fun _ => rfl) (fun y21 hy21 => ?_)
  refine v_goto C (tgt := 67) dX4_laysBound_207 rfl ?_
  exact v_sub [1, 2, 3, 0] rfl (hk67 y21 σ)
theorem w_laysBound_172 {P : MP} {X : Ctx} {l : Launch} {S0 : MS} {F : Nat} (C : CX (OM P) X l cX4_laysBound 9 RX4 none) (hm : X.2.2.2.2.2.2.2.2.2 = none) {x1 : Int32} {x2 : Int32} {x3 : Int32} {x5 : Int64} (k67 : Int32 → MS → Option MS) (hk67 : ∀ (z3 : Int32) (τ : MS), VF (OM P) X 9 6 153 S0 f_mv (k67 z3 τ) τ 67 [(0, .ref (mad P 0)), (1, .int x1), (2, .int x2), (3, .int z3)] []) (s0 : Int64) (σ : MS) : VF (OM P) X 9 6 153 S0 f_mv (M_laysBound_172 F k67 x1 x2 x3 x5 s0 σ) σ 172 [(0, .ref (mad P 0)), (1, .int x1), (2, .int x2), (3, .int x3), (5, .long x5)] [.long s0] := by
  unfold M_laysBound_172
  refine v_lstore C (lv' := [(7, .long s0), (0, .ref (mad P 0)), (1, .int x1), (2, .int x2), (3, .int x3), (5, .long x5)]) dX4_laysBound_172 (Nat.le_of_ble_eq_true rfl) rfl ?_
  refine v_lload C dX4_laysBound_174 5 rfl ?_
  refine v_aload_n C dX4_laysBound_176 1 rfl ?_
  refine mg_boundQ C dX4_laysBound_177 ?_
  refine v_lmul C dX4_laysBound_180 ?_
  refine v_aload_n C dX4_laysBound_181 1 rfl ?_
  refine mg_boundP C dX4_laysBound_182 ?_
  refine v_lload C dX4_laysBound_185 0 rfl ?_
  refine v_lmul C dX4_laysBound_187 ?_
  refine v_lcmp_ge C (tgt := 204) dX4_laysBound_188 dX4_laysBound_189 rfl (fun _ => ?_) (fun _ => ?_)
  · exact v_sub [1, 2, 3, 4] rfl (w_laysBound_204 C hm k67 hk67 σ)
  · refine v_aload_n C dX4_laysBound_192 1 rfl ?_
    refine v_lload C dX4_laysBound_193 5 rfl ?_
    refine mp_boundP C dX4_laysBound_195 (fun σ19 hσ19 => ?_)
    refine v_aload_n C dX4_laysBound_198 1 rfl ?_
    refine v_lload C dX4_laysBound_199 0 rfl ?_
    refine mp_boundQ C dX4_laysBound_201 (fun σ20 hσ20 => ?_)
    exact v_sub [1, 2, 3, 4] rfl (w_laysBound_204 C hm k67 hk67 σ20)
theorem w_laysBound_146 {P : MP} {X : Ctx} {l : Launch} {S0 : MS} {F : Nat} (C : CX (OM P) X l cX4_laysBound 9 RX4 none) (hm : X.2.2.2.2.2.2.2.2.2 = none) {x1 : Int32} {x2 : Int32} {x3 : Int32} {x4 : Int32} (k67 : Int32 → MS → Option MS) (hk67 : ∀ (z3 : Int32) (τ : MS), VF (OM P) X 9 6 153 S0 f_mv (k67 z3 τ) τ 67 [(0, .ref (mad P 0)), (1, .int x1), (2, .int x2), (3, .int z3)] []) (s0 : Int64) (σ : MS) : VF (OM P) X 9 6 153 S0 f_mv (M_laysBound_146 F k67 x1 x2 x3 x4 s0 σ) σ 146 [(0, .ref (mad P 0)), (1, .int x1), (2, .int x2), (3, .int x3), (4, .int x4)] [.long s0] := by
  unfold M_laysBound_146
  refine v_lstore C (lv' := [(5, .long s0), (0, .ref (mad P 0)), (1, .int x1), (2, .int x2), (3, .int x3), (4, .int x4)]) dX4_laysBound_146 (Nat.le_of_ble_eq_true rfl) rfl ?_
  refine v_iload C dX4_laysBound_148 5 rfl ?_
  refine v_if_eq C (tgt := 162) dX4_laysBound_150 rfl (fun _ => ?_) (fun _ => ?_)
  · refine v_aload_n C dX4_laysBound_162 1 rfl ?_
    refine mg_twoQ C dX4_laysBound_163 ?_
    refine v_iload_n C dX4_laysBound_166 3 rfl ?_
    refine v_iload_n C dX4_laysBound_167 4 rfl ?_
    refine v_iconst C dX4_laysBound_168 ci_m1 ?_
    refine v_ixor C dX4_laysBound_169 ?_
    refine v_iand C dX4_laysBound_170 ?_
    refine ml_twoQ C dX4_laysBound_171 (fun y17 hy17 => ?_)
    exact v_sub [1, 2, 3, 4, 0] rfl (w_laysBound_172 C hm k67 hk67 y17 σ)
  · refine v_aload_n C dX4_laysBound_153 1 rfl ?_
    refine mg_radiusQ C dX4_laysBound_154 ?_
    refine v_iload_n C dX4_laysBound_157 4 rfl ?_
    refine ml_radiusQ C dX4_laysBound_158 (fun y18 hy18 => ?_)
    refine v_goto C (tgt := 172) dX4_laysBound_159 rfl ?_
    exact v_sub [1, 2, 3, 4, 0] rfl (w_laysBound_172 C hm k67 hk67 y18 σ)
theorem w_laysBound_120 {P : MP} {X : Ctx} {l : Launch} {S0 : MS} {F : Nat} (C : CX (OM P) X l cX4_laysBound 9 RX4 none) (hm : X.2.2.2.2.2.2.2.2.2 = none) {x1 : Int32} {x2 : Int32} {x3 : Int32} (k67 : Int32 → MS → Option MS) (hk67 : ∀ (z3 : Int32) (τ : MS), VF (OM P) X 9 6 153 S0 f_mv (k67 z3 τ) τ 67 [(0, .ref (mad P 0)), (1, .int x1), (2, .int x2), (3, .int z3)] []) (s0 : Int32) (σ : MS) : VF (OM P) X 9 6 153 S0 f_mv (M_laysBound_120 F k67 x1 x2 x3 s0 σ) σ 120 [(0, .ref (mad P 0)), (1, .int x1), (2, .int x2), (3, .int x3)] [.int s0] := by
  unfold M_laysBound_120
  refine v_istore C (lv' := [(4, .int s0), (0, .ref (mad P 0)), (1, .int x1), (2, .int x2), (3, .int x3)]) dX4_laysBound_120 (Nat.le_of_ble_eq_true rfl) rfl ?_
  refine v_iload C dX4_laysBound_122 0 rfl ?_
  refine v_if_eq C (tgt := 136) dX4_laysBound_124 rfl (fun _ => ?_) (fun _ => ?_)
  · refine v_aload_n C dX4_laysBound_136 1 rfl ?_
    refine mg_twoP C dX4_laysBound_137 ?_
    refine v_iload_n C dX4_laysBound_140 3 rfl ?_
    refine v_iload_n C dX4_laysBound_141 4 rfl ?_
    refine v_iconst C dX4_laysBound_142 ci_m1 ?_
    refine v_ixor C dX4_laysBound_143 ?_
    refine v_iand C dX4_laysBound_144 ?_
    refine ml_twoP C dX4_laysBound_145 (fun y15 hy15 => ?_)
    exact v_sub [1, 2, 3, 4, 0] rfl (w_laysBound_146 C hm k67 hk67 y15 σ)
  · refine v_aload_n C dX4_laysBound_127 1 rfl ?_
    refine mg_radiusP C dX4_laysBound_128 ?_
    refine v_iload_n C dX4_laysBound_131 4 rfl ?_
    refine ml_radiusP C dX4_laysBound_132 (fun y16 hy16 => ?_)
    refine v_goto C (tgt := 146) dX4_laysBound_133 rfl ?_
    exact v_sub [1, 2, 3, 4, 0] rfl (w_laysBound_146 C hm k67 hk67 y16 σ)
theorem w_laysBound_67 {P : MP} {X : Ctx} {l : Launch} {S0 : MS} {F : Nat} (C : CX (OM P) X l cX4_laysBound 9 RX4 none) (hm : X.2.2.2.2.2.2.2.2.2 = none) {x1 : Int32} {x2 : Int32}  : ∀ (n : Nat) (x3 : Int32) (σ : MS), VF (OM P) X 9 6 153 S0 f_mv (M_laysBound_67 F x1 x2 n x3 σ) σ 67 [(0, .ref (mad P 0)), (1, .int x1), (2, .int x2), (3, .int x3)] [] := by
  intro n
  induction n with
  | zero => intro x3 σ; exact VF.none
  | succ n ih =>
    intro x3 σ
    unfold M_laysBound_67
    refine v_iload_n C dX4_laysBound_67 3 rfl ?_
    refine v_iload_n C dX4_laysBound_68 2 rfl ?_
    refine v_icmp_gt C (tgt := 210) dX4_laysBound_69 rfl (fun _ => ?_) (fun _ => ?_)
    · exact v_vreturn C hm dX4_laysBound_210 rfl
    · refine v_iload_n C dX4_laysBound_72 1 rfl ?_
      refine v_iconst C dX4_laysBound_73 ci_3 ?_
      refine v_icmp_ne C (tgt := 210) dX4_laysBound_74 rfl (fun _ => ?_) (fun _ => ?_)
      · refine v_aload_n C dX4_laysBound_77 0 rfl ?_
        refine mg_radiusP C dX4_laysBound_78 ?_
        refine v_iload_n C dX4_laysBound_81 3 rfl ?_
        refine ml_radiusP C dX4_laysBound_82 (fun y11 hy11 => ?_)
        refine v_aload_n C dX4_laysBound_83 0 rfl ?_
        refine mg_twoQ C dX4_laysBound_84 ?_
        refine v_iload_n C dX4_laysBound_87 2 rfl ?_
        refine v_iload_n C dX4_laysBound_88 3 rfl ?_
        refine v_iconst C dX4_laysBound_89 ci_m1 ?_
        refine v_ixor C dX4_laysBound_90 ?_
        refine v_iand C dX4_laysBound_91 ?_
        refine ml_twoQ C dX4_laysBound_92 (fun y12 hy12 => ?_)
        refine v_lmul C dX4_laysBound_93 ?_
        refine v_aload_n C dX4_laysBound_94 0 rfl ?_
        refine mg_twoP C dX4_laysBound_95 ?_
        refine v_iload_n C dX4_laysBound_98 2 rfl ?_
        refine v_iload_n C dX4_laysBound_99 3 rfl ?_
        refine v_iconst C dX4_laysBound_100 ci_m1 ?_
        refine v_ixor C dX4_laysBound_101 ?_
        refine v_iand C dX4_laysBound_102 ?_
        refine ml_twoP C dX4_laysBound_103 (fun y13 hy13 => ?_)
        refine v_aload_n C dX4_laysBound_104 0 rfl ?_
        refine mg_radiusQ C dX4_laysBound_105 ?_
        refine v_iload_n C dX4_laysBound_108 3 rfl ?_
        refine ml_radiusQ C dX4_laysBound_109 (fun y14 hy14 => ?_)
        refine v_lmul C dX4_laysBound_110 ?_
        refine v_lcmp_lt C (tgt := 119) dX4_laysBound_111 dX4_laysBound_112 rfl (fun _ => ?_) (fun _ => ?_)
        · refine v_iconst C dX4_laysBound_119 ci_0 ?_
          exact v_sub [0, 1, 2, 3] rfl (w_laysBound_120 C hm (M_laysBound_67 F x1 x2 n) ih 0 σ)
        · refine v_iconst C dX4_laysBound_115 ci_1 ?_
          refine v_goto C (tgt := 120) dX4_laysBound_116 rfl ?_
          exact v_sub [0, 1, 2, 3] rfl (w_laysBound_120 C hm (M_laysBound_67 F x1 x2 n) ih 1 σ)
      · exact v_vreturn C hm dX4_laysBound_210 rfl
theorem w_laysBound_62 {P : MP} {X : Ctx} {l : Launch} {S0 : MS} {F : Nat} (C : CX (OM P) X l cX4_laysBound 9 RX4 none) (hm : X.2.2.2.2.2.2.2.2.2 = none) {x1 : Int32} {x2 : Int32} (s1 : Int64) (σ : MS) : VF (OM P) X 9 6 153 S0 f_mv (M_laysBound_62 F x1 x2 s1 σ) σ 62 [(0, .ref (mad P 0)), (1, .int x1), (2, .int x2)] [.long s1, .ref (mad P 0)] := by
  unfold M_laysBound_62
  refine mp_boundQ C dX4_laysBound_62 (fun σ10 hσ10 => ?_)
  refine v_iconst C dX4_laysBound_65 ci_0 ?_
  refine v_istore_n C (lv' := [(3, .int 0), (0, .ref (mad P 0)), (1, .int x1), (2, .int x2)]) dX4_laysBound_66 (Nat.le_of_ble_eq_true rfl) rfl ?_
  exact v_sub [1, 2, 3, 0] rfl (w_laysBound_67 C hm F 0 σ10)
theorem w_laysBound_38 {P : MP} {X : Ctx} {l : Launch} {S0 : MS} {F : Nat} (C : CX (OM P) X l cX4_laysBound 9 RX4 none) (hm : X.2.2.2.2.2.2.2.2.2 = none) {x1 : Int32} {x2 : Int32} (s1 : Int64) (σ : MS) : VF (OM P) X 9 6 153 S0 f_mv (M_laysBound_38 F x1 x2 s1 σ) σ 38 [(0, .ref (mad P 0)), (1, .int x1), (2, .int x2)] [.long s1, .ref (mad P 0)] := by
  unfold M_laysBound_38
  refine mp_boundP C dX4_laysBound_38 (fun σ7 hσ7 => ?_)
  refine v_aload_n C dX4_laysBound_41 0 rfl ?_
  refine v_iload_n C dX4_laysBound_42 1 rfl ?_
  refine v_iconst C dX4_laysBound_43 ci_1 ?_
  refine v_icmp_ne C (tgt := 56) dX4_laysBound_44 rfl (fun _ => ?_) (fun _ => ?_)
  · refine v_aload_n C dX4_laysBound_47 0 rfl ?_
    refine mg_radiusQ C dX4_laysBound_48 ?_
    refine v_iload_n C dX4_laysBound_51 2 rfl ?_
    refine ml_radiusQ C dX4_laysBound_52 (fun y8 hy8 => ?_)
    refine v_goto C (tgt := 62) dX4_laysBound_53 rfl ?_
    exact v_sub [0, 1, 2] rfl (w_laysBound_62 C hm y8 σ7)
  · refine v_aload_n C dX4_laysBound_56 0 rfl ?_
    refine mg_twoQ C dX4_laysBound_57 ?_
    refine v_iload_n C dX4_laysBound_60 2 rfl ?_
    refine ml_twoQ C dX4_laysBound_61 (fun y9 hy9 => ?_)
    exact v_sub [0, 1, 2] rfl (w_laysBound_62 C hm y9 σ7)
theorem met_X4_laysBound {P : MP} {l : Launch} (F : Nat) (σ : MS) (x1 : Int32) {r : MS} (h : M_laysBound F σ x1 = some r) : FM l (OM P) yX4_laysBound (ws_ yX4_laysBound cX4_laysBound 9 none) 6 153 [.ref (mad P 0), .int x1] σ (f_mv r) := by
  refine FM.of (own := RX4) (lv := [(0, .ref (mad P 0)), (1, .int x1)]) (OM_ok P) pl_X4 rfl (Nat.le_of_ble_eq_true rfl) rfl h OM_le (fun X C hm => ?_)
  unfold M_laysBound
  refine v_aload_n C dX4_laysBound_0 0 rfl ?_
  refine v_callV_mv C (As := []) (st := []) lkX4_254 dX4_laysBound_1 rfl (Nat.le_of_ble_eq_true rfl) (Nat.le_of_ble_eq_true rfl) (Nat.le_of_ble_eq_true rfl) (mRecv C) (fun _ z => met_X4_laysRadii F σ z) (fun r1 hr1 => ?_)
  refine v_aload_n C dX4_laysBound_4 0 rfl ?_
  refine v_callV_mv C (As := []) (st := []) lkX4_257 dX4_laysBound_5 rfl (Nat.le_of_ble_eq_true rfl) (Nat.le_of_ble_eq_true rfl) (Nat.le_of_ble_eq_true rfl) (mRecv C) (fun _ z => met_X4_laysTwo F r1 z) (fun r2 hr2 => ?_)
  refine v_iconst C dX4_laysBound_8 ci_1 ?_
  refine v_aload_n C dX4_laysBound_9 0 rfl ?_
  refine v_callV_ri C (As := []) (st := [.int 1]) lkX4_65 dX4_laysBound_10 rfl (Nat.le_of_ble_eq_true rfl) (Nat.le_of_ble_eq_true rfl) (Nat.le_of_ble_eq_true rfl) (mRecv C) (fun _ z => met_X4_many r2 z) (fun r3 hr3 => ?_)
  refine v_ishl C dX4_laysBound_13 ?_
  refine v_iconst C dX4_laysBound_14 ci_1 ?_
  refine v_isub C dX4_laysBound_15 ?_
  refine v_leti (fun y4 hy4 => ?_)
  refine v_istore_n C (lv' := [(2, .int y4), (0, .ref (mad P 0)), (1, .int x1)]) dX4_laysBound_16 (Nat.le_of_ble_eq_true rfl) rfl ?_
  refine v_aload_n C dX4_laysBound_17 1 rfl ?_
  refine v_iload_n C dX4_laysBound_18 2 rfl ?_
  refine v_iconst C dX4_laysBound_19 ci_1 ?_
  refine v_icmp_ne C (tgt := 32) dX4_laysBound_20 rfl (fun _ => ?_) (fun _ => ?_)
  · refine v_aload_n C dX4_laysBound_23 1 rfl ?_
    refine mg_radiusP C dX4_laysBound_24 ?_
    refine v_iload_n C dX4_laysBound_27 0 rfl ?_
    refine ml_radiusP C dX4_laysBound_28 (fun y5 hy5 => ?_)
    refine v_goto C (tgt := 38) dX4_laysBound_29 rfl ?_
    exact v_sub [1, 2, 0] rfl (w_laysBound_38 C hm y5 r2)
  · refine v_aload_n C dX4_laysBound_32 1 rfl ?_
    refine mg_twoP C dX4_laysBound_33 ?_
    refine v_iload_n C dX4_laysBound_36 0 rfl ?_
    refine ml_twoP C dX4_laysBound_37 (fun y6 hy6 => ?_)
    exact v_sub [1, 2, 0] rfl (w_laysBound_38 C hm y6 r2)
theorem w_radiusOf_35 {P : MP} {X : Ctx} {l : Launch} {S0 : MS} {F : Nat} (C : CX (OM P) X l cX4_radiusOf 3 RX4 (some .int)) (hm : X.2.2.2.2.2.2.2.2.2 = none) {x1 : Int32} {x2 : Int32} (s1 : Int32) (σ : MS) : VF (OM P) X 3 7 181 S0 f_mi (M_radiusOf_35 F x1 x2 s1 σ) σ 35 [(0, .ref (mad P 0)), (1, .int x1), (2, .int x2)] [.int s1, .ref (mad P 0)] := by
  unfold M_radiusOf_35
  refine v_callV_mi C (As := [.int s1]) (st := []) lkX4_61 dX4_radiusOf_35 rfl (Nat.le_of_ble_eq_true rfl) (Nat.le_of_ble_eq_true rfl) (Nat.le_of_ble_eq_true rfl) (mRecv C) (fun _ z => met_X4_refused σ s1 z) (fun r4 hr4 => ?_)
  refine v_if_eq C (tgt := 43) dX4_radiusOf_38 rfl (fun _ => ?_) (fun _ => ?_)
  · refine v_aload_n C dX4_radiusOf_43 0 rfl ?_
    refine v_iload_n C dX4_radiusOf_44 1 rfl ?_
    refine v_callV_mv C (As := [.int x1]) (st := []) lkX4_266 dX4_radiusOf_45 rfl (Nat.le_of_ble_eq_true rfl) (Nat.le_of_ble_eq_true rfl) (Nat.le_of_ble_eq_true rfl) (mRecv C) (fun _ z => met_X4_laysBound F r4.2 x1 z) (fun r5 hr5 => ?_)
    refine v_aload_n C dX4_radiusOf_48 0 rfl ?_
    refine mg_boundP C dX4_radiusOf_49 ?_
    refine v_aload_n C dX4_radiusOf_52 0 rfl ?_
    refine mg_boundQ C dX4_radiusOf_53 ?_
    refine v_iload_n C dX4_radiusOf_56 2 rfl ?_
    refine v_callS_ri C (As := [.long (mL r5 3), .long (mL r5 4), .int x2]) (st := []) lkX4_156 dX4_radiusOf_57 rfl (Nat.le_of_ble_eq_true rfl) (Nat.le_of_ble_eq_true rfl) (Nat.le_of_ble_eq_true rfl) (fun _ z => met_X4_reduced F r5 (mL r5 3) (mL r5 4) x2 z) (fun r6 hr6 => ?_)
    exact v_ireturn C hm dX4_radiusOf_60 rfl
  · refine v_iconst C dX4_radiusOf_41 ci_0 ?_
    exact v_ireturn C hm dX4_radiusOf_42 rfl
theorem w_radiusOf_19 {P : MP} {X : Ctx} {l : Launch} {S0 : MS} {F : Nat} (C : CX (OM P) X l cX4_radiusOf 3 RX4 (some .int)) (hm : X.2.2.2.2.2.2.2.2.2 = none) {x1 : Int32} {x2 : Int32} (σ : MS) : VF (OM P) X 3 7 181 S0 f_mi (M_radiusOf_19 F x1 x2 σ) σ 19 [(0, .ref (mad P 0)), (1, .int x1), (2, .int x2)] [.ref (mad P 0)] := by
  unfold M_radiusOf_19
  refine v_iconst C dX4_radiusOf_19 ci_1 ?_
  refine v_goto C (tgt := 35) dX4_radiusOf_20 rfl ?_
  exact v_sub [0, 1, 2] rfl (w_radiusOf_35 C hm 1 σ)
theorem met_X4_radiusOf {P : MP} {l : Launch} (F : Nat) (σ : MS) (x1 : Int32) (x2 : Int32) {r : Int32 × MS} (h : M_radiusOf F σ x1 x2 = some r) : FM l (OM P) yX4_radiusOf (ws_ yX4_radiusOf cX4_radiusOf 3 (some .int)) 7 181 [.ref (mad P 0), .int x1, .int x2] σ (f_mi r) := by
  refine FM.of (own := RX4) (lv := [(0, .ref (mad P 0)), (1, .int x1), (2, .int x2)]) (OM_ok P) pl_X4 rfl (Nat.le_of_ble_eq_true rfl) rfl h OM_le (fun X C hm => ?_)
  unfold M_radiusOf
  refine v_aload_n C dX4_radiusOf_0 0 rfl ?_
  refine v_iload_n C dX4_radiusOf_1 1 rfl ?_
  refine v_iconst C dX4_radiusOf_2 ci_1 ?_
  refine v_iconst C dX4_radiusOf_3 ci_3 ?_
  refine v_callS_ri C (As := [.int x1, .int 1, .int 3]) (st := [.ref (mad P 0)]) lkX4_69 dX4_radiusOf_4 rfl (Nat.le_of_ble_eq_true rfl) (Nat.le_of_ble_eq_true rfl) (Nat.le_of_ble_eq_true rfl) (fun _ z => met_X4_within σ x1 1 3 z) (fun r1 hr1 => ?_)
  refine v_if_eq C (tgt := 19) dX4_radiusOf_7 rfl (fun _ => ?_) (fun _ => ?_)
  · exact v_sub [0, 1, 2] rfl (w_radiusOf_19 C hm σ)
  · refine v_iload_n C dX4_radiusOf_10 2 rfl ?_
    refine v_iconst C dX4_radiusOf_11 ci_0 ?_
    refine v_iconst C dX4_radiusOf_12 ci_1 ?_
    refine v_callS_ri C (As := [.int x2, .int 0, .int 1]) (st := [.ref (mad P 0)]) lkX4_69 dX4_radiusOf_13 rfl (Nat.le_of_ble_eq_true rfl) (Nat.le_of_ble_eq_true rfl) (Nat.le_of_ble_eq_true rfl) (fun _ z => met_X4_within σ x2 0 1 z) (fun r2 hr2 => ?_)
    refine v_if_ne C (tgt := 23) dX4_radiusOf_16 rfl (fun _ => ?_) (fun _ => ?_)
    · exact v_sub [0, 1, 2] rfl (w_radiusOf_19 C hm σ)
    · refine v_aload_n C dX4_radiusOf_23 0 rfl ?_
      refine v_callV_mi C (As := []) (st := [.ref (mad P 0)]) lkX4_233 dX4_radiusOf_24 rfl (Nat.le_of_ble_eq_true rfl) (Nat.le_of_ble_eq_true rfl) (Nat.le_of_ble_eq_true rfl) (mRecv C) (fun _ z => met_X4_canHave F σ z) (fun r3 hr3 => ?_)
      refine v_if_ne C (tgt := 34) dX4_radiusOf_27 rfl (fun _ => ?_) (fun _ => ?_)
      · refine v_iconst C dX4_radiusOf_30 ci_2 ?_
        refine v_goto C (tgt := 35) dX4_radiusOf_31 rfl ?_
        exact v_sub [0, 1, 2] rfl (w_radiusOf_35 C hm 2 r3.2)
      · refine v_iconst C dX4_radiusOf_34 ci_0 ?_
        exact v_sub [0, 1, 2] rfl (w_radiusOf_35 C hm 0 r3.2)
theorem met_X4_isEnough {P : MP} {l : Launch} (σ : MS) (x1 : Int32) (x2 : Int32) {r : Int32} (h : M_isEnough σ x1 x2 = some r) : FM l (OM P) yX4_isEnough (ws_ yX4_isEnough cX4_isEnough 3 (some .boolean)) 0 0 [.ref (mad P 0), .int x1, .int x2] σ ((f_ri σ) r) := by
  refine FM.of (own := RX4) (lv := [(0, .ref (mad P 0)), (1, .int x1), (2, .int x2)]) (OM_ok P) pl_X4 rfl (Nat.le_of_ble_eq_true rfl) rfl h OM_le (fun X C hm => ?_)
  unfold M_isEnough
  refine v_iload_n C dX4_isEnough_0 2 rfl ?_
  refine v_iconst C dX4_isEnough_1 ci_1 ?_
  refine v_icmp_ne C (tgt := 39) dX4_isEnough_2 rfl (fun _ => ?_) (fun _ => ?_)
  · refine v_aload_n C dX4_isEnough_5 0 rfl ?_
    refine mg_radiusP C dX4_isEnough_6 ?_
    refine v_iload_n C dX4_isEnough_9 1 rfl ?_
    refine ml_radiusP C dX4_isEnough_10 (fun y1 hy1 => ?_)
    refine v_aload_n C dX4_isEnough_11 0 rfl ?_
    refine mg_boundQ C dX4_isEnough_12 ?_
    refine v_lmul C dX4_isEnough_15 ?_
    refine v_aload_n C dX4_isEnough_16 0 rfl ?_
    refine mg_boundP C dX4_isEnough_17 ?_
    refine v_aload_n C dX4_isEnough_20 0 rfl ?_
    refine mg_radiusQ C dX4_isEnough_21 ?_
    refine v_iload_n C dX4_isEnough_24 1 rfl ?_
    refine ml_radiusQ C dX4_isEnough_25 (fun y2 hy2 => ?_)
    refine v_lmul C dX4_isEnough_26 ?_
    refine v_lcmp_gt C (tgt := 35) dX4_isEnough_27 dX4_isEnough_28 rfl (fun _ => ?_) (fun _ => ?_)
    · refine v_iconst C dX4_isEnough_35 ci_0 ?_
      refine v_goto C (tgt := 70) dX4_isEnough_36 rfl ?_
      exact v_zreturn C hm dX4_isEnough_70 (Or.inl rfl) rfl
    · refine v_iconst C dX4_isEnough_31 ci_1 ?_
      refine v_goto C (tgt := 70) dX4_isEnough_32 rfl ?_
      exact v_zreturn C hm dX4_isEnough_70 (Or.inr rfl) rfl
  · refine v_aload_n C dX4_isEnough_39 0 rfl ?_
    refine mg_twoP C dX4_isEnough_40 ?_
    refine v_iload_n C dX4_isEnough_43 1 rfl ?_
    refine ml_twoP C dX4_isEnough_44 (fun y3 hy3 => ?_)
    refine v_aload_n C dX4_isEnough_45 0 rfl ?_
    refine mg_boundQ C dX4_isEnough_46 ?_
    refine v_lmul C dX4_isEnough_49 ?_
    refine v_aload_n C dX4_isEnough_50 0 rfl ?_
    refine mg_boundP C dX4_isEnough_51 ?_
    refine v_aload_n C dX4_isEnough_54 0 rfl ?_
    refine mg_twoQ C dX4_isEnough_55 ?_
    refine v_iload_n C dX4_isEnough_58 1 rfl ?_
    refine ml_twoQ C dX4_isEnough_59 (fun y4 hy4 => ?_)
    refine v_lmul C dX4_isEnough_60 ?_
    refine v_lcmp_gt C (tgt := 69) dX4_isEnough_61 dX4_isEnough_62 rfl (fun _ => ?_) (fun _ => ?_)
    · refine v_iconst C dX4_isEnough_69 ci_0 ?_
      exact v_zreturn C hm dX4_isEnough_70 (Or.inl rfl) rfl
    · refine v_iconst C dX4_isEnough_65 ci_1 ?_
      refine v_goto C (tgt := 70) dX4_isEnough_66 rfl ?_
      exact v_zreturn C hm dX4_isEnough_70 (Or.inr rfl) rfl
theorem w_groupTold_77 {P : MP} {X : Ctx} {l : Launch} {F : Nat} {σ : MS} (C : CX (OM P) X l cX4_groupTold 7 RX4 (some .int)) (hm : X.2.2.2.2.2.2.2.2.2 = none) {x1 : Int32} {x2 : Int32} {x3 : Int32} {x4 : Int32} {x6 : Int32} (k12 : Int32 → Int32 → Option Int32) (hk12 : ∀ (z3 : Int32) (z4 : Int32), VF (OM P) X 7 1 22 σ (f_ri σ) (k12 z3 z4) σ 12 [(0, .ref (mad P 0)), (1, .int x1), (2, .int x2), (3, .int z3), (4, .int z4)] []) (k26 : Int32 → Int32 → Option Int32) (hk26 : ∀ (z5 : Int32) (z6 : Int32), VF (OM P) X 7 1 22 σ (f_ri σ) (k26 z5 z6) σ 26 [(0, .ref (mad P 0)), (1, .int x1), (2, .int x2), (3, .int x3), (4, .int x4), (5, .int z5), (6, .int z6)] []) (s0 : Int32) : VF (OM P) X 7 1 22 σ (f_ri σ) (M_groupTold_77 F k12 k26 σ x1 x2 x3 x4 x6 s0) σ 77 [(0, .ref (mad P 0)), (1, .int x1), (2, .int x2), (3, .int x3), (4, .int x4), (6, .int x6)] [.int s0] := by
  unfold M_groupTold_77
  refine v_istore C (lv' := [(5, .int s0), (0, .ref (mad P 0)), (1, .int x1), (2, .int x2), (3, .int x3), (4, .int x4), (6, .int x6)]) dX4_groupTold_77 (Nat.le_of_ble_eq_true rfl) rfl ?_
  refine v_iincN C (lv' := fun y7 => [(6, .int y7), (5, .int s0), (0, .ref (mad P 0)), (1, .int x1), (2, .int x2), (3, .int x3), (4, .int x4)]) dX4_groupTold_79 6 rfl ci_1 (Nat.le_of_ble_eq_true rfl) (fun _ => rfl) (fun y7 hy7 => ?_)
  refine v_goto C (tgt := 26) dX4_groupTold_82 rfl ?_
  exact v_sub [2, 3, 4, 5, 6, 1, 0] rfl (hk26 s0 y7)
theorem w_groupTold_75 {P : MP} {X : Ctx} {l : Launch} {F : Nat} {σ : MS} (C : CX (OM P) X l cX4_groupTold 7 RX4 (some .int)) (hm : X.2.2.2.2.2.2.2.2.2 = none) {x1 : Int32} {x2 : Int32} {x3 : Int32} {x4 : Int32} {x5 : Int32} {x6 : Int32} (k12 : Int32 → Int32 → Option Int32) (hk12 : ∀ (z3 : Int32) (z4 : Int32), VF (OM P) X 7 1 22 σ (f_ri σ) (k12 z3 z4) σ 12 [(0, .ref (mad P 0)), (1, .int x1), (2, .int x2), (3, .int z3), (4, .int z4)] []) (k26 : Int32 → Int32 → Option Int32) (hk26 : ∀ (z5 : Int32) (z6 : Int32), VF (OM P) X 7 1 22 σ (f_ri σ) (k26 z5 z6) σ 26 [(0, .ref (mad P 0)), (1, .int x1), (2, .int x2), (3, .int x3), (4, .int x4), (5, .int z5), (6, .int z6)] []) : VF (OM P) X 7 1 22 σ (f_ri σ) (M_groupTold_75 F k12 k26 σ x1 x2 x3 x4 x5 x6) σ 75 [(0, .ref (mad P 0)), (1, .int x1), (2, .int x2), (3, .int x3), (4, .int x4), (5, .int x5), (6, .int x6)] [] := by
  unfold M_groupTold_75
  refine v_iload C dX4_groupTold_75 5 rfl ?_
  exact v_sub [0, 1, 2, 3, 4, 6] rfl (w_groupTold_77 C hm k12 hk12 k26 hk26 x5)
theorem w_groupTold_85 {P : MP} {X : Ctx} {l : Launch} {F : Nat} {σ : MS} (C : CX (OM P) X l cX4_groupTold 7 RX4 (some .int)) (hm : X.2.2.2.2.2.2.2.2.2 = none) {x1 : Int32} {x2 : Int32} {x3 : Int32} {x4 : Int32} {x5 : Int32} (k12 : Int32 → Int32 → Option Int32) (hk12 : ∀ (z3 : Int32) (z4 : Int32), VF (OM P) X 7 1 22 σ (f_ri σ) (k12 z3 z4) σ 12 [(0, .ref (mad P 0)), (1, .int x1), (2, .int x2), (3, .int z3), (4, .int z4)] []) : VF (OM P) X 7 1 22 σ (f_ri σ) (M_groupTold_85 F k12 σ x1 x2 x3 x4 x5) σ 85 [(0, .ref (mad P 0)), (1, .int x1), (2, .int x2), (3, .int x3), (4, .int x4), (5, .int x5)] [] := by
  unfold M_groupTold_85
  refine v_iload C dX4_groupTold_85 4 rfl ?_
  refine v_iload_n C dX4_groupTold_87 2 rfl ?_
  refine v_icmp_ne C (tgt := 94) dX4_groupTold_88 rfl (fun _ => ?_) (fun _ => ?_)
  · refine v_iload C dX4_groupTold_91 5 rfl ?_
    exact v_ireturn C hm dX4_groupTold_93 rfl
  · refine v_iload_n C dX4_groupTold_94 3 rfl ?_
    refine v_iload C dX4_groupTold_95 5 rfl ?_
    refine v_iconst C dX4_groupTold_97 ci_m1 ?_
    refine v_ixor C dX4_groupTold_98 ?_
    refine v_iand C dX4_groupTold_99 ?_
    refine v_leti (fun y5 hy5 => ?_)
    refine v_istore_n C (lv' := [(3, .int y5), (0, .ref (mad P 0)), (1, .int x1), (2, .int x2), (4, .int x4), (5, .int x5)]) dX4_groupTold_100 (Nat.le_of_ble_eq_true rfl) rfl ?_
    refine v_iincN C (lv' := fun y6 => [(4, .int y6), (3, .int y5), (0, .ref (mad P 0)), (1, .int x1), (2, .int x2), (5, .int x5)]) dX4_groupTold_101 4 rfl ci_1 (Nat.le_of_ble_eq_true rfl) (fun _ => rfl) (fun y6 hy6 => ?_)
    refine v_goto C (tgt := 12) dX4_groupTold_104 rfl ?_
    exact v_sub [2, 3, 4, 1, 0] rfl (hk12 y5 y6)
theorem w_groupTold_26 {P : MP} {X : Ctx} {l : Launch} {F : Nat} {σ : MS} (C : CX (OM P) X l cX4_groupTold 7 RX4 (some .int)) (hm : X.2.2.2.2.2.2.2.2.2 = none) {x1 : Int32} {x2 : Int32} {x3 : Int32} {x4 : Int32} (k12 : Int32 → Int32 → Option Int32) (hk12 : ∀ (z3 : Int32) (z4 : Int32), VF (OM P) X 7 1 22 σ (f_ri σ) (k12 z3 z4) σ 12 [(0, .ref (mad P 0)), (1, .int x1), (2, .int x2), (3, .int z3), (4, .int z4)] []) : ∀ (n : Nat) (x5 : Int32) (x6 : Int32), VF (OM P) X 7 1 22 σ (f_ri σ) (M_groupTold_26 F k12 σ x1 x2 x3 x4 n x5 x6) σ 26 [(0, .ref (mad P 0)), (1, .int x1), (2, .int x2), (3, .int x3), (4, .int x4), (5, .int x5), (6, .int x6)] [] := by
  intro n
  induction n with
  | zero => intro x5 x6; exact VF.none
  | succ n ih =>
    intro x5 x6
    unfold M_groupTold_26
    refine v_iload C dX4_groupTold_26 6 rfl ?_
    refine v_iload_n C dX4_groupTold_28 3 rfl ?_
    refine v_icmp_gt C (tgt := 85) dX4_groupTold_29 rfl (fun _ => ?_) (fun _ => ?_)
    · exact v_sub [0, 1, 2, 3, 4, 5] rfl (w_groupTold_85 C hm k12 hk12)
    · refine v_iload C dX4_groupTold_32 6 rfl ?_
      refine v_iload_n C dX4_groupTold_34 3 rfl ?_
      refine v_iconst C dX4_groupTold_35 ci_m1 ?_
      refine v_ixor C dX4_groupTold_36 ?_
      refine v_iand C dX4_groupTold_37 ?_
      refine v_if_ne C (tgt := 75) dX4_groupTold_38 rfl (fun _ => ?_) (fun _ => ?_)
      · refine v_aload_n C dX4_groupTold_41 0 rfl ?_
        refine v_iload C dX4_groupTold_42 6 rfl ?_
        refine v_iconst C dX4_groupTold_44 ci_1 ?_
        refine v_callV_ri C (As := [.int x6, .int 1]) (st := []) lkX4_269 dX4_groupTold_45 rfl (Nat.le_of_ble_eq_true rfl) (Nat.le_of_ble_eq_true rfl) (Nat.le_of_ble_eq_true rfl) (mRecv C) (fun _ z => met_X4_isEnough σ x6 1 z) (fun r3 hr3 => ?_)
        refine v_if_eq C (tgt := 75) dX4_groupTold_48 rfl (fun _ => ?_) (fun _ => ?_)
        · exact v_sub [0, 1, 2, 3, 4, 5, 6] rfl (w_groupTold_75 C hm k12 hk12 (M_groupTold_26 F k12 σ x1 x2 x3 x4 n) ih)
        · refine v_aload_n C dX4_groupTold_51 0 rfl ?_
          refine v_iload_n C dX4_groupTold_52 3 rfl ?_
          refine v_iload C dX4_groupTold_53 6 rfl ?_
          refine v_iconst C dX4_groupTold_55 ci_m1 ?_
          refine v_ixor C dX4_groupTold_56 ?_
          refine v_iand C dX4_groupTold_57 ?_
          refine v_iload_n C dX4_groupTold_58 1 rfl ?_
          refine v_iconst C dX4_groupTold_59 ci_1 ?_
          refine v_isub C dX4_groupTold_60 ?_
          refine v_iload C dX4_groupTold_61 4 rfl ?_
          refine v_isub C dX4_groupTold_63 ?_
          refine v_callV_ri C (As := [.int (x3 &&& (x6 ^^^ (-1))), .int ((x1 - 1) - x4)]) (st := []) lkX4_269 dX4_groupTold_64 rfl (Nat.le_of_ble_eq_true rfl) (Nat.le_of_ble_eq_true rfl) (Nat.le_of_ble_eq_true rfl) (mRecv C) (fun _ z => met_X4_isEnough σ (x3 &&& (x6 ^^^ (-1))) ((x1 - 1) - x4) z) (fun r4 hr4 => ?_)
          refine v_if_eq C (tgt := 75) dX4_groupTold_67 rfl (fun _ => ?_) (fun _ => ?_)
          · exact v_sub [0, 1, 2, 3, 4, 5, 6] rfl (w_groupTold_75 C hm k12 hk12 (M_groupTold_26 F k12 σ x1 x2 x3 x4 n) ih)
          · refine v_iload C dX4_groupTold_70 6 rfl ?_
            refine v_goto C (tgt := 77) dX4_groupTold_72 rfl ?_
            exact v_sub [0, 1, 2, 3, 4, 6] rfl (w_groupTold_77 C hm k12 hk12 (M_groupTold_26 F k12 σ x1 x2 x3 x4 n) ih x6)
      · exact v_sub [0, 1, 2, 3, 4, 5, 6] rfl (w_groupTold_75 C hm k12 hk12 (M_groupTold_26 F k12 σ x1 x2 x3 x4 n) ih)
theorem w_groupTold_12 {P : MP} {X : Ctx} {l : Launch} {F : Nat} {σ : MS} (C : CX (OM P) X l cX4_groupTold 7 RX4 (some .int)) (hm : X.2.2.2.2.2.2.2.2.2 = none) {x1 : Int32} {x2 : Int32}  : ∀ (n : Nat) (x3 : Int32) (x4 : Int32), VF (OM P) X 7 1 22 σ (f_ri σ) (M_groupTold_12 F σ x1 x2 n x3 x4) σ 12 [(0, .ref (mad P 0)), (1, .int x1), (2, .int x2), (3, .int x3), (4, .int x4)] [] := by
  intro n
  induction n with
  | zero => intro x3 x4; exact VF.none
  | succ n ih =>
    intro x3 x4
    unfold M_groupTold_12
    refine v_iload C dX4_groupTold_12 4 rfl ?_
    refine v_iload_n C dX4_groupTold_14 1 rfl ?_
    refine v_iconst C dX4_groupTold_15 ci_1 ?_
    refine v_isub C dX4_groupTold_16 ?_
    refine v_icmp_ge C (tgt := 107) dX4_groupTold_17 rfl (fun _ => ?_) (fun _ => ?_)
    · refine v_iload_n C dX4_groupTold_107 3 rfl ?_
      exact v_ireturn C hm dX4_groupTold_108 rfl
    · refine v_iconst C dX4_groupTold_20 ci_0 ?_
      refine v_istore C (lv' := [(5, .int 0), (0, .ref (mad P 0)), (1, .int x1), (2, .int x2), (3, .int x3), (4, .int x4)]) dX4_groupTold_21 (Nat.le_of_ble_eq_true rfl) rfl ?_
      refine v_iconst C dX4_groupTold_23 ci_0 ?_
      refine v_istore C (lv' := [(6, .int 0), (5, .int 0), (0, .ref (mad P 0)), (1, .int x1), (2, .int x2), (3, .int x3), (4, .int x4)]) dX4_groupTold_24 (Nat.le_of_ble_eq_true rfl) rfl ?_
      exact v_sub [2, 3, 4, 5, 6, 1, 0] rfl (w_groupTold_26 C hm (M_groupTold_12 F σ x1 x2 n) ih F 0 0)
theorem met_X4_groupTold {P : MP} {l : Launch} (F : Nat) (σ : MS) (x1 : Int32) (x2 : Int32) {r : Int32} (h : M_groupTold F σ x1 x2 = some r) : FM l (OM P) yX4_groupTold (ws_ yX4_groupTold cX4_groupTold 7 (some .int)) 1 22 [.ref (mad P 0), .int x1, .int x2] σ ((f_ri σ) r) := by
  refine FM.of (own := RX4) (lv := [(0, .ref (mad P 0)), (1, .int x1), (2, .int x2)]) (OM_ok P) pl_X4 rfl (Nat.le_of_ble_eq_true rfl) rfl h OM_le (fun X C hm => ?_)
  unfold M_groupTold
  refine v_iconst C dX4_groupTold_0 ci_1 ?_
  refine v_aload_n C dX4_groupTold_1 0 rfl ?_
  refine v_callV_ri C (As := []) (st := [.int 1]) lkX4_65 dX4_groupTold_2 rfl (Nat.le_of_ble_eq_true rfl) (Nat.le_of_ble_eq_true rfl) (Nat.le_of_ble_eq_true rfl) (mRecv C) (fun _ z => met_X4_many σ z) (fun r1 hr1 => ?_)
  refine v_ishl C dX4_groupTold_5 ?_
  refine v_iconst C dX4_groupTold_6 ci_1 ?_
  refine v_isub C dX4_groupTold_7 ?_
  refine v_leti (fun y2 hy2 => ?_)
  refine v_istore_n C (lv' := [(3, .int y2), (0, .ref (mad P 0)), (1, .int x1), (2, .int x2)]) dX4_groupTold_8 (Nat.le_of_ble_eq_true rfl) rfl ?_
  refine v_iconst C dX4_groupTold_9 ci_0 ?_
  refine v_istore C (lv' := [(4, .int 0), (3, .int y2), (0, .ref (mad P 0)), (1, .int x1), (2, .int x2)]) dX4_groupTold_10 (Nat.le_of_ble_eq_true rfl) rfl ?_
  exact v_sub [2, 3, 4, 1, 0] rfl (w_groupTold_12 C hm F y2 0)
theorem w_group_37 {P : MP} {X : Ctx} {l : Launch} {S0 : MS} {F : Nat} (C : CX (OM P) X l cX4_group 3 RX4 (some .int)) (hm : X.2.2.2.2.2.2.2.2.2 = none) {x1 : Int32} {x2 : Int32} (s1 : Int32) (σ : MS) : VF (OM P) X 3 7 181 S0 f_mi (M_group_37 F x1 x2 s1 σ) σ 37 [(0, .ref (mad P 0)), (1, .int x1), (2, .int x2)] [.int s1, .ref (mad P 0)] := by
  unfold M_group_37
  refine v_callV_mi C (As := [.int s1]) (st := []) lkX4_61 dX4_group_37 rfl (Nat.le_of_ble_eq_true rfl) (Nat.le_of_ble_eq_true rfl) (Nat.le_of_ble_eq_true rfl) (mRecv C) (fun _ z => met_X4_refused σ s1 z) (fun r4 hr4 => ?_)
  refine v_if_eq C (tgt := 45) dX4_group_40 rfl (fun _ => ?_) (fun _ => ?_)
  · refine v_aload_n C dX4_group_45 0 rfl ?_
    refine v_iload_n C dX4_group_46 1 rfl ?_
    refine v_callV_mv C (As := [.int x1]) (st := []) lkX4_266 dX4_group_47 rfl (Nat.le_of_ble_eq_true rfl) (Nat.le_of_ble_eq_true rfl) (Nat.le_of_ble_eq_true rfl) (mRecv C) (fun _ z => met_X4_laysBound F r4.2 x1 z) (fun r5 hr5 => ?_)
    refine v_aload_n C dX4_group_50 0 rfl ?_
    refine v_iload_n C dX4_group_51 1 rfl ?_
    refine v_iload_n C dX4_group_52 2 rfl ?_
    refine v_callV_ri C (As := [.int x1, .int x2]) (st := []) lkX4_272 dX4_group_53 rfl (Nat.le_of_ble_eq_true rfl) (Nat.le_of_ble_eq_true rfl) (Nat.le_of_ble_eq_true rfl) (mRecv C) (fun _ z => met_X4_groupTold F r5 x1 x2 z) (fun r6 hr6 => ?_)
    exact v_ireturn C hm dX4_group_56 rfl
  · refine v_iconst C dX4_group_43 ci_0 ?_
    exact v_ireturn C hm dX4_group_44 rfl
theorem w_group_21 {P : MP} {X : Ctx} {l : Launch} {S0 : MS} {F : Nat} (C : CX (OM P) X l cX4_group 3 RX4 (some .int)) (hm : X.2.2.2.2.2.2.2.2.2 = none) {x1 : Int32} {x2 : Int32} (σ : MS) : VF (OM P) X 3 7 181 S0 f_mi (M_group_21 F x1 x2 σ) σ 21 [(0, .ref (mad P 0)), (1, .int x1), (2, .int x2)] [.ref (mad P 0)] := by
  unfold M_group_21
  refine v_iconst C dX4_group_21 ci_1 ?_
  refine v_goto C (tgt := 37) dX4_group_22 rfl ?_
  exact v_sub [0, 1, 2] rfl (w_group_37 C hm 1 σ)
theorem met_X4_group {P : MP} {l : Launch} (F : Nat) (σ : MS) (x1 : Int32) (x2 : Int32) {r : Int32 × MS} (h : M_group F σ x1 x2 = some r) : FM l (OM P) yX4_group (ws_ yX4_group cX4_group 3 (some .int)) 7 181 [.ref (mad P 0), .int x1, .int x2] σ (f_mi r) := by
  refine FM.of (own := RX4) (lv := [(0, .ref (mad P 0)), (1, .int x1), (2, .int x2)]) (OM_ok P) pl_X4 rfl (Nat.le_of_ble_eq_true rfl) rfl h OM_le (fun X C hm => ?_)
  unfold M_group
  refine v_aload_n C dX4_group_0 0 rfl ?_
  refine v_iload_n C dX4_group_1 1 rfl ?_
  refine v_iconst C dX4_group_2 ci_1 ?_
  refine v_iconst C dX4_group_3 ci_3 ?_
  refine v_callS_ri C (As := [.int x1, .int 1, .int 3]) (st := [.ref (mad P 0)]) lkX4_69 dX4_group_4 rfl (Nat.le_of_ble_eq_true rfl) (Nat.le_of_ble_eq_true rfl) (Nat.le_of_ble_eq_true rfl) (fun _ z => met_X4_within σ x1 1 3 z) (fun r1 hr1 => ?_)
  refine v_if_eq C (tgt := 21) dX4_group_7 rfl (fun _ => ?_) (fun _ => ?_)
  · exact v_sub [0, 1, 2] rfl (w_group_21 C hm σ)
  · refine v_iload_n C dX4_group_10 2 rfl ?_
    refine v_iconst C dX4_group_11 ci_0 ?_
    refine v_iload_n C dX4_group_12 1 rfl ?_
    refine v_iconst C dX4_group_13 ci_1 ?_
    refine v_isub C dX4_group_14 ?_
    refine v_callS_ri C (As := [.int x2, .int 0, .int (x1 - 1)]) (st := [.ref (mad P 0)]) lkX4_69 dX4_group_15 rfl (Nat.le_of_ble_eq_true rfl) (Nat.le_of_ble_eq_true rfl) (Nat.le_of_ble_eq_true rfl) (fun _ z => met_X4_within σ x2 0 (x1 - 1) z) (fun r2 hr2 => ?_)
    refine v_if_ne C (tgt := 25) dX4_group_18 rfl (fun _ => ?_) (fun _ => ?_)
    · exact v_sub [0, 1, 2] rfl (w_group_21 C hm σ)
    · refine v_aload_n C dX4_group_25 0 rfl ?_
      refine v_callV_mi C (As := []) (st := [.ref (mad P 0)]) lkX4_233 dX4_group_26 rfl (Nat.le_of_ble_eq_true rfl) (Nat.le_of_ble_eq_true rfl) (Nat.le_of_ble_eq_true rfl) (mRecv C) (fun _ z => met_X4_canHave F σ z) (fun r3 hr3 => ?_)
      refine v_if_ne C (tgt := 36) dX4_group_29 rfl (fun _ => ?_) (fun _ => ?_)
      · refine v_iconst C dX4_group_32 ci_2 ?_
        refine v_goto C (tgt := 37) dX4_group_33 rfl ?_
        exact v_sub [0, 1, 2] rfl (w_group_37 C hm 2 r3.2)
      · refine v_iconst C dX4_group_36 ci_0 ?_
        exact v_sub [0, 1, 2] rfl (w_group_37 C hm 0 r3.2)
theorem w_covering_154 {P : MP} {X : Ctx} {l : Launch} {S0 : MS} {F : Nat} (C : CX (OM P) X l cX4_covering 5 RX4 (some .int)) (hm : X.2.2.2.2.2.2.2.2.2 = none) {x1 : Int32} {x2 : Int32} {x3 : Int32} {x4 : Int32} (k53 : Int32 → MS → Option (Int32 × MS)) (hk53 : ∀ (z3 : Int32) (τ : MS), VF (OM P) X 5 6 153 S0 f_mi (k53 z3 τ) τ 53 [(0, .ref (mad P 0)), (1, .int x1), (2, .int x2), (3, .int z3)] []) (k74 : Int32 → MS → Option (Int32 × MS)) (hk74 : ∀ (z4 : Int32) (τ : MS), VF (OM P) X 5 6 153 S0 f_mi (k74 z4 τ) τ 74 [(0, .ref (mad P 0)), (1, .int x1), (2, .int x2), (3, .int x3), (4, .int z4)] []) (σ : MS) : VF (OM P) X 5 6 153 S0 f_mi (M_covering_154 F k53 k74 x1 x2 x3 x4 σ) σ 154 [(0, .ref (mad P 0)), (1, .int x1), (2, .int x2), (3, .int x3), (4, .int x4)] [] := by
  unfold M_covering_154
  refine v_iincN C (lv' := fun y17 => [(4, .int y17), (0, .ref (mad P 0)), (1, .int x1), (2, .int x2), (3, .int x3)]) dX4_covering_154 4 rfl ci_1 (Nat.le_of_ble_eq_true rfl) (fun _ => rfl) (fun y17 hy17 => ?_)
  refine v_goto C (tgt := 74) dX4_covering_157 rfl ?_
  exact v_sub [1, 2, 3, 4, 0] rfl (hk74 y17 σ)
theorem w_covering_160 {P : MP} {X : Ctx} {l : Launch} {S0 : MS} {F : Nat} (C : CX (OM P) X l cX4_covering 5 RX4 (some .int)) (hm : X.2.2.2.2.2.2.2.2.2 = none) {x1 : Int32} {x2 : Int32} {x3 : Int32} (k53 : Int32 → MS → Option (Int32 × MS)) (hk53 : ∀ (z3 : Int32) (τ : MS), VF (OM P) X 5 6 153 S0 f_mi (k53 z3 τ) τ 53 [(0, .ref (mad P 0)), (1, .int x1), (2, .int x2), (3, .int z3)] []) (σ : MS) : VF (OM P) X 5 6 153 S0 f_mi (M_covering_160 F k53 x1 x2 x3 σ) σ 160 [(0, .ref (mad P 0)), (1, .int x1), (2, .int x2), (3, .int x3)] [] := by
  unfold M_covering_160
  refine v_iincN C (lv' := fun y16 => [(3, .int y16), (0, .ref (mad P 0)), (1, .int x1), (2, .int x2)]) dX4_covering_160 3 rfl ci_1 (Nat.le_of_ble_eq_true rfl) (fun _ => rfl) (fun y16 hy16 => ?_)
  refine v_goto C (tgt := 53) dX4_covering_163 rfl ?_
  exact v_sub [1, 2, 3, 0] rfl (hk53 y16 σ)
theorem w_covering_74 {P : MP} {X : Ctx} {l : Launch} {S0 : MS} {F : Nat} (C : CX (OM P) X l cX4_covering 5 RX4 (some .int)) (hm : X.2.2.2.2.2.2.2.2.2 = none) {x1 : Int32} {x2 : Int32} {x3 : Int32} (k53 : Int32 → MS → Option (Int32 × MS)) (hk53 : ∀ (z3 : Int32) (τ : MS), VF (OM P) X 5 6 153 S0 f_mi (k53 z3 τ) τ 53 [(0, .ref (mad P 0)), (1, .int x1), (2, .int x2), (3, .int z3)] []) : ∀ (n : Nat) (x4 : Int32) (σ : MS), VF (OM P) X 5 6 153 S0 f_mi (M_covering_74 F k53 x1 x2 x3 n x4 σ) σ 74 [(0, .ref (mad P 0)), (1, .int x1), (2, .int x2), (3, .int x3), (4, .int x4)] [] := by
  intro n
  induction n with
  | zero => intro x4 σ; exact VF.none
  | succ n ih =>
    intro x4 σ
    unfold M_covering_74
    refine v_iload C dX4_covering_74 4 rfl ?_
    refine v_iload_n C dX4_covering_76 3 rfl ?_
    refine v_icmp_gt C (tgt := 160) dX4_covering_77 rfl (fun _ => ?_) (fun _ => ?_)
    · exact v_sub [0, 1, 2, 3] rfl (w_covering_160 C hm k53 hk53 σ)
    · refine v_iload C dX4_covering_80 4 rfl ?_
      refine v_iload_n C dX4_covering_82 3 rfl ?_
      refine v_iconst C dX4_covering_83 ci_m1 ?_
      refine v_ixor C dX4_covering_84 ?_
      refine v_iand C dX4_covering_85 ?_
      refine v_if_ne C (tgt := 154) dX4_covering_86 rfl (fun _ => ?_) (fun _ => ?_)
      · refine v_aload_n C dX4_covering_89 0 rfl ?_
        refine mg_radiusP C dX4_covering_90 ?_
        refine v_iload C dX4_covering_93 4 rfl ?_
        refine ml_radiusP C dX4_covering_95 (fun y10 hy10 => ?_)
        refine v_iload_n C dX4_covering_96 2 rfl ?_
        refine v_i2l C dX4_covering_97 ?_
        refine v_lmul C dX4_covering_98 ?_
        refine v_iload_n C dX4_covering_99 1 rfl ?_
        refine v_i2l C dX4_covering_100 ?_
        refine v_aload_n C dX4_covering_101 0 rfl ?_
        refine mg_radiusQ C dX4_covering_102 ?_
        refine v_iload C dX4_covering_105 4 rfl ?_
        refine ml_radiusQ C dX4_covering_107 (fun y11 hy11 => ?_)
        refine v_lmul C dX4_covering_108 ?_
        refine v_lcmp_gt C (tgt := 154) dX4_covering_109 dX4_covering_110 rfl (fun _ => ?_) (fun _ => ?_)
        · exact v_sub [0, 1, 2, 3, 4] rfl (w_covering_154 C hm k53 hk53 (M_covering_74 F k53 x1 x2 x3 n) ih σ)
        · refine v_aload_n C dX4_covering_113 0 rfl ?_
          refine mg_covers C dX4_covering_114 ?_
          refine v_iload_n C dX4_covering_117 3 rfl ?_
          refine v_iload C dX4_covering_118 4 rfl ?_
          refine v_iconst C dX4_covering_120 ci_m1 ?_
          refine v_ixor C dX4_covering_121 ?_
          refine v_iand C dX4_covering_122 ?_
          refine ml_covers C dX4_covering_123 (fun y12 hy12 => ?_)
          refine v_iconst C dX4_covering_124 ci_1 ?_
          refine v_iadd C dX4_covering_125 ?_
          refine v_aload_n C dX4_covering_126 0 rfl ?_
          refine mg_covers C dX4_covering_127 ?_
          refine v_iload_n C dX4_covering_130 3 rfl ?_
          refine ml_covers C dX4_covering_131 (fun y13 hy13 => ?_)
          refine v_icmp_ge C (tgt := 154) dX4_covering_132 rfl (fun _ => ?_) (fun _ => ?_)
          · exact v_sub [0, 1, 2, 3, 4] rfl (w_covering_154 C hm k53 hk53 (M_covering_74 F k53 x1 x2 x3 n) ih σ)
          · refine v_aload_n C dX4_covering_135 0 rfl ?_
            refine mg_covers C dX4_covering_136 ?_
            refine v_iload_n C dX4_covering_139 3 rfl ?_
            refine v_aload_n C dX4_covering_140 0 rfl ?_
            refine mg_covers C dX4_covering_141 ?_
            refine v_iload_n C dX4_covering_144 3 rfl ?_
            refine v_iload C dX4_covering_145 4 rfl ?_
            refine v_iconst C dX4_covering_147 ci_m1 ?_
            refine v_ixor C dX4_covering_148 ?_
            refine v_iand C dX4_covering_149 ?_
            refine ml_covers C dX4_covering_150 (fun y14 hy14 => ?_)
            refine v_iconst C dX4_covering_151 ci_1 ?_
            refine v_iadd C dX4_covering_152 ?_
            refine ms_covers C dX4_covering_153 (fun σ15 hσ15 => ?_)
            exact v_sub [0, 1, 2, 3, 4] rfl (w_covering_154 C hm k53 hk53 (M_covering_74 F k53 x1 x2 x3 n) ih σ15)
      · exact v_sub [0, 1, 2, 3, 4] rfl (w_covering_154 C hm k53 hk53 (M_covering_74 F k53 x1 x2 x3 n) ih σ)
theorem w_covering_166 {P : MP} {X : Ctx} {l : Launch} {S0 : MS} {F : Nat} (C : CX (OM P) X l cX4_covering 5 RX4 (some .int)) (hm : X.2.2.2.2.2.2.2.2.2 = none) (σ : MS) : VF (OM P) X 5 6 153 S0 f_mi (M_covering_166 F σ) σ 166 [(0, .ref (mad P 0))] [] := by
  unfold M_covering_166
  refine v_aload_n C dX4_covering_166 0 rfl ?_
  refine mg_covers C dX4_covering_167 ?_
  refine v_iconst C dX4_covering_170 ci_1 ?_
  refine v_aload_n C dX4_covering_171 0 rfl ?_
  refine v_callV_ri C (As := []) (st := [.int 1, .ref (mad P 7)]) lkX4_65 dX4_covering_172 rfl (Nat.le_of_ble_eq_true rfl) (Nat.le_of_ble_eq_true rfl) (Nat.le_of_ble_eq_true rfl) (mRecv C) (fun _ z => met_X4_many σ z) (fun r8 hr8 => ?_)
  refine v_ishl C dX4_covering_175 ?_
  refine v_iconst C dX4_covering_176 ci_1 ?_
  refine v_isub C dX4_covering_177 ?_
  refine ml_covers C dX4_covering_178 (fun y9 hy9 => ?_)
  exact v_ireturn C hm dX4_covering_179 rfl
theorem w_covering_53 {P : MP} {X : Ctx} {l : Launch} {S0 : MS} {F : Nat} (C : CX (OM P) X l cX4_covering 5 RX4 (some .int)) (hm : X.2.2.2.2.2.2.2.2.2 = none) {x1 : Int32} {x2 : Int32}  : ∀ (n : Nat) (x3 : Int32) (σ : MS), VF (OM P) X 5 6 153 S0 f_mi (M_covering_53 F x1 x2 n x3 σ) σ 53 [(0, .ref (mad P 0)), (1, .int x1), (2, .int x2), (3, .int x3)] [] := by
  intro n
  induction n with
  | zero => intro x3 σ; exact VF.none
  | succ n ih =>
    intro x3 σ
    unfold M_covering_53
    refine v_iload_n C dX4_covering_53 3 rfl ?_
    refine v_iconst C dX4_covering_54 ci_1 ?_
    refine v_aload_n C dX4_covering_55 0 rfl ?_
    refine v_callV_ri C (As := []) (st := [.int 1, .int x3]) lkX4_65 dX4_covering_56 rfl (Nat.le_of_ble_eq_true rfl) (Nat.le_of_ble_eq_true rfl) (Nat.le_of_ble_eq_true rfl) (mRecv C) (fun _ z => met_X4_many σ z) (fun r6 hr6 => ?_)
    refine v_ishl C dX4_covering_59 ?_
    refine v_icmp_ge C (tgt := 166) dX4_covering_60 rfl (fun _ => ?_) (fun _ => ?_)
    · exact v_sub [0] rfl (w_covering_166 C hm σ)
    · refine v_aload_n C dX4_covering_63 0 rfl ?_
      refine mg_covers C dX4_covering_64 ?_
      refine v_iload_n C dX4_covering_67 3 rfl ?_
      refine v_bipush C dX4_covering_68 cb_9 ?_
      refine ms_covers C dX4_covering_70 (fun σ7 hσ7 => ?_)
      refine v_iconst C dX4_covering_71 ci_1 ?_
      refine v_istore C (lv' := [(4, .int 1), (0, .ref (mad P 0)), (1, .int x1), (2, .int x2), (3, .int x3)]) dX4_covering_72 (Nat.le_of_ble_eq_true rfl) rfl ?_
      exact v_sub [1, 2, 3, 4, 0] rfl (w_covering_74 C hm (M_covering_53 F x1 x2 n) ih F 1 σ7)
theorem w_covering_32 {P : MP} {X : Ctx} {l : Launch} {S0 : MS} {F : Nat} (C : CX (OM P) X l cX4_covering 5 RX4 (some .int)) (hm : X.2.2.2.2.2.2.2.2.2 = none) {x1 : Int32} {x2 : Int32} (s1 : Int32) (σ : MS) : VF (OM P) X 5 6 153 S0 f_mi (M_covering_32 F x1 x2 s1 σ) σ 32 [(0, .ref (mad P 0)), (1, .int x1), (2, .int x2)] [.int s1, .ref (mad P 0)] := by
  unfold M_covering_32
  refine v_callV_mi C (As := [.int s1]) (st := []) lkX4_61 dX4_covering_32 rfl (Nat.le_of_ble_eq_true rfl) (Nat.le_of_ble_eq_true rfl) (Nat.le_of_ble_eq_true rfl) (mRecv C) (fun _ z => met_X4_refused σ s1 z) (fun r3 hr3 => ?_)
  refine v_if_eq C (tgt := 40) dX4_covering_35 rfl (fun _ => ?_) (fun _ => ?_)
  · refine v_aload_n C dX4_covering_40 0 rfl ?_
    refine v_callV_mv C (As := []) (st := []) lkX4_254 dX4_covering_41 rfl (Nat.le_of_ble_eq_true rfl) (Nat.le_of_ble_eq_true rfl) (Nat.le_of_ble_eq_true rfl) (mRecv C) (fun _ z => met_X4_laysRadii F r3.2 z) (fun r4 hr4 => ?_)
    refine v_aload_n C dX4_covering_44 0 rfl ?_
    refine mg_covers C dX4_covering_45 ?_
    refine v_iconst C dX4_covering_48 ci_0 ?_
    refine v_iconst C dX4_covering_49 ci_0 ?_
    refine ms_covers C dX4_covering_50 (fun σ5 hσ5 => ?_)
    refine v_iconst C dX4_covering_51 ci_1 ?_
    refine v_istore_n C (lv' := [(3, .int 1), (0, .ref (mad P 0)), (1, .int x1), (2, .int x2)]) dX4_covering_52 (Nat.le_of_ble_eq_true rfl) rfl ?_
    exact v_sub [1, 2, 3, 0] rfl (w_covering_53 C hm F 1 σ5)
  · refine v_iconst C dX4_covering_38 ci_0 ?_
    exact v_ireturn C hm dX4_covering_39 rfl
theorem w_covering_16 {P : MP} {X : Ctx} {l : Launch} {S0 : MS} {F : Nat} (C : CX (OM P) X l cX4_covering 5 RX4 (some .int)) (hm : X.2.2.2.2.2.2.2.2.2 = none) {x1 : Int32} {x2 : Int32} (σ : MS) : VF (OM P) X 5 6 153 S0 f_mi (M_covering_16 F x1 x2 σ) σ 16 [(0, .ref (mad P 0)), (1, .int x1), (2, .int x2)] [.ref (mad P 0)] := by
  unfold M_covering_16
  refine v_iconst C dX4_covering_16 ci_1 ?_
  refine v_goto C (tgt := 32) dX4_covering_17 rfl ?_
  exact v_sub [0, 1, 2] rfl (w_covering_32 C hm 1 σ)
theorem met_X4_covering {P : MP} {l : Launch} (F : Nat) (σ : MS) (x1 : Int32) (x2 : Int32) {r : Int32 × MS} (h : M_covering F σ x1 x2 = some r) : FM l (OM P) yX4_covering (ws_ yX4_covering cX4_covering 5 (some .int)) 6 153 [.ref (mad P 0), .int x1, .int x2] σ (f_mi r) := by
  refine FM.of (own := RX4) (lv := [(0, .ref (mad P 0)), (1, .int x1), (2, .int x2)]) (OM_ok P) pl_X4 rfl (Nat.le_of_ble_eq_true rfl) rfl h OM_le (fun X C hm => ?_)
  unfold M_covering
  refine v_aload_n C dX4_covering_0 0 rfl ?_
  refine v_iload_n C dX4_covering_1 1 rfl ?_
  refine v_if_lt C (tgt := 16) dX4_covering_2 rfl (fun _ => ?_) (fun _ => ?_)
  · exact v_sub [0, 1, 2] rfl (w_covering_16 C hm σ)
  · refine v_iload_n C dX4_covering_5 2 rfl ?_
    refine v_iconst C dX4_covering_6 ci_1 ?_
    refine v_sipush C dX4_covering_7 cs_1000 ?_
    refine v_callS_ri C (As := [.int x2, .int 1, .int 1000]) (st := [.ref (mad P 0)]) lkX4_69 dX4_covering_10 rfl (Nat.le_of_ble_eq_true rfl) (Nat.le_of_ble_eq_true rfl) (Nat.le_of_ble_eq_true rfl) (fun _ z => met_X4_within σ x2 1 1000 z) (fun r1 hr1 => ?_)
    refine v_if_ne C (tgt := 20) dX4_covering_13 rfl (fun _ => ?_) (fun _ => ?_)
    · exact v_sub [0, 1, 2] rfl (w_covering_16 C hm σ)
    · refine v_aload_n C dX4_covering_20 0 rfl ?_
      refine v_callV_mi C (As := []) (st := [.ref (mad P 0)]) lkX4_233 dX4_covering_21 rfl (Nat.le_of_ble_eq_true rfl) (Nat.le_of_ble_eq_true rfl) (Nat.le_of_ble_eq_true rfl) (mRecv C) (fun _ z => met_X4_canHave F σ z) (fun r2 hr2 => ?_)
      refine v_if_ne C (tgt := 31) dX4_covering_24 rfl (fun _ => ?_) (fun _ => ?_)
      · refine v_iconst C dX4_covering_27 ci_2 ?_
        refine v_goto C (tgt := 32) dX4_covering_28 rfl ?_
        exact v_sub [0, 1, 2] rfl (w_covering_32 C hm 2 r2.2)
      · refine v_iconst C dX4_covering_31 ci_0 ?_
        exact v_sub [0, 1, 2] rfl (w_covering_32 C hm 0 r2.2)
theorem w_covered_130 {P : MP} {X : Ctx} {l : Launch} {S0 : MS} {F : Nat} (C : CX (OM P) X l cX4_covered 7 RX4 (some .int)) (hm : X.2.2.2.2.2.2.2.2.2 = none) {x1 : Int32} {x2 : Int32} {x3 : Int32} {x6 : Int32} (k86 : Int32 → Int32 → MS → Option (Int32 × MS)) (hk86 : ∀ (z5 : Int32) (z6 : Int32) (τ : MS), VF (OM P) X 7 3 78 S0 f_mi (k86 z5 z6 τ) τ 86 [(0, .ref (mad P 0)), (1, .int x1), (2, .int x2), (3, .int x3), (5, .int z5), (6, .int z6)] []) (s0 : Int32) (s1 : Int32) (σ : MS) : VF (OM P) X 7 3 78 S0 f_mi (M_covered_130 F k86 x1 x2 x3 x6 s0 s1 σ) σ 130 [(0, .ref (mad P 0)), (1, .int x1), (2, .int x2), (3, .int x3), (6, .int x6)] [.int s1, .int s0] := by
  unfold M_covered_130
  refine v_ior C dX4_covered_130 ?_
  refine v_leti (fun y11 hy11 => ?_)
  refine v_istore C (lv' := [(5, .int y11), (0, .ref (mad P 0)), (1, .int x1), (2, .int x2), (3, .int x3), (6, .int x6)]) dX4_covered_131 (Nat.le_of_ble_eq_true rfl) rfl ?_
  refine v_iincN C (lv' := fun y12 => [(6, .int y12), (5, .int y11), (0, .ref (mad P 0)), (1, .int x1), (2, .int x2), (3, .int x3)]) dX4_covered_133 5 rfl ci_1 (Nat.le_of_ble_eq_true rfl) (fun _ => rfl) (fun y12 hy12 => ?_)
  refine v_goto C (tgt := 86) dX4_covered_136 rfl ?_
  exact v_sub [2, 3, 4, 5, 1, 0] rfl (hk86 y11 y12 σ)
theorem w_covered_86 {P : MP} {X : Ctx} {l : Launch} {S0 : MS} {F : Nat} (C : CX (OM P) X l cX4_covered 7 RX4 (some .int)) (hm : X.2.2.2.2.2.2.2.2.2 = none) {x1 : Int32} {x2 : Int32} {x3 : Int32}  : ∀ (n : Nat) (x5 : Int32) (x6 : Int32) (σ : MS), VF (OM P) X 7 3 78 S0 f_mi (M_covered_86 F x1 x2 x3 n x5 x6 σ) σ 86 [(0, .ref (mad P 0)), (1, .int x1), (2, .int x2), (3, .int x3), (5, .int x5), (6, .int x6)] [] := by
  intro n
  induction n with
  | zero => intro x5 x6 σ; exact VF.none
  | succ n ih =>
    intro x5 x6 σ
    unfold M_covered_86
    refine v_iload C dX4_covered_86 5 rfl ?_
    refine v_aload_n C dX4_covered_88 0 rfl ?_
    refine v_callV_ri C (As := []) (st := [.int x6]) lkX4_65 dX4_covered_89 rfl (Nat.le_of_ble_eq_true rfl) (Nat.le_of_ble_eq_true rfl) (Nat.le_of_ble_eq_true rfl) (mRecv C) (fun _ z => met_X4_many σ z) (fun r8 hr8 => ?_)
    refine v_icmp_ge C (tgt := 139) dX4_covered_92 rfl (fun _ => ?_) (fun _ => ?_)
    · refine v_iload C dX4_covered_139 4 rfl ?_
      exact v_ireturn C hm dX4_covered_141 rfl
    · refine v_iload C dX4_covered_95 4 rfl ?_
      refine v_aload_n C dX4_covered_97 0 rfl ?_
      refine mg_weights C dX4_covered_98 ?_
      refine v_iload C dX4_covered_101 5 rfl ?_
      refine ml_weights C dX4_covered_103 (fun y9 hy9 => ?_)
      refine v_i2l C dX4_covered_104 ?_
      refine v_aload_n C dX4_covered_105 0 rfl ?_
      refine v_iload C dX4_covered_106 5 rfl ?_
      refine v_iload_n C dX4_covered_108 1 rfl ?_
      refine v_iload_n C dX4_covered_109 2 rfl ?_
      refine v_i2l C dX4_covered_110 ?_
      refine v_lconst C dX4_covered_111 cl_1 ?_
      refine v_callV_rl C (As := [.int x6, .int x1, .long (x2.toInt64), .long 1]) (st := [.long (y9.toInt64), .int x5]) lkX4_153 dX4_covered_112 rfl (Nat.le_of_ble_eq_true rfl) (Nat.le_of_ble_eq_true rfl) (Nat.le_of_ble_eq_true rfl) (mRecv C) (fun _ z => met_X4_away σ x6 x1 (x2.toInt64) 1 z) (fun r10 hr10 => ?_)
      refine v_lmul C dX4_covered_115 ?_
      refine v_iload_n C dX4_covered_116 3 rfl ?_
      refine v_i2l C dX4_covered_117 ?_
      refine v_lcmp_gt C (tgt := 129) dX4_covered_118 dX4_covered_119 rfl (fun _ => ?_) (fun _ => ?_)
      · refine v_iconst C dX4_covered_129 ci_0 ?_
        exact v_sub [0, 1, 2, 3, 5] rfl (w_covered_130 C hm (M_covered_86 F x1 x2 x3 n) ih x5 0 σ)
      · refine v_iconst C dX4_covered_122 ci_1 ?_
        refine v_iload C dX4_covered_123 5 rfl ?_
        refine v_ishl C dX4_covered_125 ?_
        refine v_goto C (tgt := 130) dX4_covered_126 rfl ?_
        exact v_sub [0, 1, 2, 3, 5] rfl (w_covered_130 C hm (M_covered_86 F x1 x2 x3 n) ih x5 (1 <<< (x6 &&& 31)) σ)
theorem w_covered_67 {P : MP} {X : Ctx} {l : Launch} {S0 : MS} {F : Nat} (C : CX (OM P) X l cX4_covered 7 RX4 (some .int)) (hm : X.2.2.2.2.2.2.2.2.2 = none) {x1 : Int32} {x2 : Int32} {x3 : Int32} (s1 : Int32) (σ : MS) : VF (OM P) X 7 3 78 S0 f_mi (M_covered_67 F x1 x2 x3 s1 σ) σ 67 [(0, .ref (mad P 0)), (1, .int x1), (2, .int x2), (3, .int x3)] [.int s1, .ref (mad P 0)] := by
  unfold M_covered_67
  refine v_callV_mi C (As := [.int s1]) (st := []) lkX4_61 dX4_covered_67 rfl (Nat.le_of_ble_eq_true rfl) (Nat.le_of_ble_eq_true rfl) (Nat.le_of_ble_eq_true rfl) (mRecv C) (fun _ z => met_X4_refused σ s1 z) (fun r6 hr6 => ?_)
  refine v_if_eq C (tgt := 75) dX4_covered_70 rfl (fun _ => ?_) (fun _ => ?_)
  · refine v_aload_n C dX4_covered_75 0 rfl ?_
    refine v_iconst C dX4_covered_76 ci_0 ?_
    refine v_callV_mv C (As := [.int 0]) (st := []) lkX4_170 dX4_covered_77 rfl (Nat.le_of_ble_eq_true rfl) (Nat.le_of_ble_eq_true rfl) (Nat.le_of_ble_eq_true rfl) (mRecv C) (fun _ z => met_X4_weighs F r6.2 0 z) (fun r7 hr7 => ?_)
    refine v_iconst C dX4_covered_80 ci_0 ?_
    refine v_istore C (lv' := [(5, .int 0), (0, .ref (mad P 0)), (1, .int x1), (2, .int x2), (3, .int x3)]) dX4_covered_81 (Nat.le_of_ble_eq_true rfl) rfl ?_
    refine v_iconst C dX4_covered_83 ci_0 ?_
    refine v_istore C (lv' := [(6, .int 0), (5, .int 0), (0, .ref (mad P 0)), (1, .int x1), (2, .int x2), (3, .int x3)]) dX4_covered_84 (Nat.le_of_ble_eq_true rfl) rfl ?_
    exact v_sub [2, 3, 4, 5, 1, 0] rfl (w_covered_86 C hm F 0 0 r7)
  · refine v_iconst C dX4_covered_73 ci_0 ?_
    exact v_ireturn C hm dX4_covered_74 rfl
theorem w_covered_31 {P : MP} {X : Ctx} {l : Launch} {S0 : MS} {F : Nat} (C : CX (OM P) X l cX4_covered 7 RX4 (some .int)) (hm : X.2.2.2.2.2.2.2.2.2 = none) {x1 : Int32} {x2 : Int32} {x3 : Int32} (s0 : Int32) (σ : MS) : VF (OM P) X 7 3 78 S0 f_mi (M_covered_31 F x1 x2 x3 s0 σ) σ 31 [(0, .ref (mad P 0)), (1, .int x1), (2, .int x2), (3, .int x3)] [.int s0] := by
  unfold M_covered_31
  refine v_istore C (lv' := [(4, .int s0), (0, .ref (mad P 0)), (1, .int x1), (2, .int x2), (3, .int x3)]) dX4_covered_31 (Nat.le_of_ble_eq_true rfl) rfl ?_
  refine v_aload_n C dX4_covered_33 1 rfl ?_
  refine v_aload_n C dX4_covered_34 1 rfl ?_
  refine v_iload_n C dX4_covered_35 2 rfl ?_
  refine v_callV_ri C (As := [.int x1]) (st := [.ref (mad P 0)]) lkX4_106 dX4_covered_36 rfl (Nat.le_of_ble_eq_true rfl) (Nat.le_of_ble_eq_true rfl) (Nat.le_of_ble_eq_true rfl) (mRecv C) (fun _ z => met_X4_isEdge σ x1 z) (fun r4 hr4 => ?_)
  refine v_if_ne C (tgt := 46) dX4_covered_39 rfl (fun _ => ?_) (fun _ => ?_)
  · refine v_iconst C dX4_covered_42 ci_1 ?_
    refine v_goto C (tgt := 67) dX4_covered_43 rfl ?_
    exact v_sub [1, 2, 3, 4] rfl (w_covered_67 C hm 1 σ)
  · refine v_iload C dX4_covered_46 0 rfl ?_
    refine v_if_ne C (tgt := 55) dX4_covered_48 rfl (fun _ => ?_) (fun _ => ?_)
    · refine v_iconst C dX4_covered_51 ci_2 ?_
      refine v_goto C (tgt := 67) dX4_covered_52 rfl ?_
      exact v_sub [1, 2, 3, 4] rfl (w_covered_67 C hm 2 σ)
    · refine v_aload_n C dX4_covered_55 1 rfl ?_
      refine v_callV_mi C (As := []) (st := [.ref (mad P 0)]) lkX4_122 dX4_covered_56 rfl (Nat.le_of_ble_eq_true rfl) (Nat.le_of_ble_eq_true rfl) (Nat.le_of_ble_eq_true rfl) (mRecv C) (fun _ z => met_X4_isConnected F σ z) (fun r5 hr5 => ?_)
      refine v_if_ne C (tgt := 66) dX4_covered_59 rfl (fun _ => ?_) (fun _ => ?_)
      · refine v_iconst C dX4_covered_62 ci_3 ?_
        refine v_goto C (tgt := 67) dX4_covered_63 rfl ?_
        exact v_sub [1, 2, 3, 4] rfl (w_covered_67 C hm 3 r5.2)
      · refine v_iconst C dX4_covered_66 ci_0 ?_
        exact v_sub [1, 2, 3, 4] rfl (w_covered_67 C hm 0 r5.2)
theorem w_covered_30 {P : MP} {X : Ctx} {l : Launch} {S0 : MS} {F : Nat} (C : CX (OM P) X l cX4_covered 7 RX4 (some .int)) (hm : X.2.2.2.2.2.2.2.2.2 = none) {x1 : Int32} {x2 : Int32} {x3 : Int32} (σ : MS) : VF (OM P) X 7 3 78 S0 f_mi (M_covered_30 F x1 x2 x3 σ) σ 30 [(0, .ref (mad P 0)), (1, .int x1), (2, .int x2), (3, .int x3)] [] := by
  unfold M_covered_30
  refine v_iconst C dX4_covered_30 ci_0 ?_
  exact v_sub [0, 1, 2, 3] rfl (w_covered_31 C hm 0 σ)
theorem met_X4_covered {P : MP} {l : Launch} (F : Nat) (σ : MS) (x1 : Int32) (x2 : Int32) (x3 : Int32) {r : Int32 × MS} (h : M_covered F σ x1 x2 x3 = some r) : FM l (OM P) yX4_covered (ws_ yX4_covered cX4_covered 7 (some .int)) 3 78 [.ref (mad P 0), .int x1, .int x2, .int x3] σ (f_mi r) := by
  refine FM.of (own := RX4) (lv := [(0, .ref (mad P 0)), (1, .int x1), (2, .int x2), (3, .int x3)]) (OM_ok P) pl_X4 rfl (Nat.le_of_ble_eq_true rfl) rfl h OM_le (fun X C hm => ?_)
  unfold M_covered
  refine v_aload_n C dX4_covered_0 0 rfl ?_
  refine v_iload_n C dX4_covered_1 1 rfl ?_
  refine v_callV_ri C (As := [.int x1]) (st := []) lkX4_106 dX4_covered_2 rfl (Nat.le_of_ble_eq_true rfl) (Nat.le_of_ble_eq_true rfl) (Nat.le_of_ble_eq_true rfl) (mRecv C) (fun _ z => met_X4_isEdge σ x1 z) (fun r1 hr1 => ?_)
  refine v_if_eq C (tgt := 30) dX4_covered_5 rfl (fun _ => ?_) (fun _ => ?_)
  · exact v_sub [0, 1, 2, 3] rfl (w_covered_30 C hm σ)
  · refine v_iload_n C dX4_covered_8 2 rfl ?_
    refine v_iconst C dX4_covered_9 ci_0 ?_
    refine v_aload_n C dX4_covered_10 0 rfl ?_
    refine v_iload_n C dX4_covered_11 1 rfl ?_
    refine v_iconst C dX4_covered_12 ci_2 ?_
    refine v_callV_ri C (As := [.int x1, .int 2]) (st := [.int 0, .int x2]) lkX4_79 dX4_covered_13 rfl (Nat.le_of_ble_eq_true rfl) (Nat.le_of_ble_eq_true rfl) (Nat.le_of_ble_eq_true rfl) (mRecv C) (fun _ z => met_X4_of σ x1 2 z) (fun r2 hr2 => ?_)
    refine v_callS_ri C (As := [.int x2, .int 0, .int r2]) (st := []) lkX4_69 dX4_covered_16 rfl (Nat.le_of_ble_eq_true rfl) (Nat.le_of_ble_eq_true rfl) (Nat.le_of_ble_eq_true rfl) (fun _ z => met_X4_within σ x2 0 r2 z) (fun r3 hr3 => ?_)
    refine v_if_eq C (tgt := 30) dX4_covered_19 rfl (fun _ => ?_) (fun _ => ?_)
    · exact v_sub [0, 1, 2, 3] rfl (w_covered_30 C hm σ)
    · refine v_iload_n C dX4_covered_22 3 rfl ?_
      refine v_if_lt C (tgt := 30) dX4_covered_23 rfl (fun _ => ?_) (fun _ => ?_)
      · exact v_sub [0, 1, 2, 3] rfl (w_covered_30 C hm σ)
      · refine v_iconst C dX4_covered_26 ci_1 ?_
        refine v_goto C (tgt := 31) dX4_covered_27 rfl ?_
        exact v_sub [0, 1, 2, 3] rfl (w_covered_31 C hm 1 σ)
theorem w_changedRadius_36 {P : MP} {X : Ctx} {l : Launch} {S0 : MS} {F : Nat} (C : CX (OM P) X l cX4_changedRadius 3 RX4 (some .int)) (hm : X.2.2.2.2.2.2.2.2.2 = none) {x1 : Int32} {x2 : Int32} (s1 : Int32) (σ : MS) : VF (OM P) X 3 5 132 S0 f_mi (M_changedRadius_36 F x1 x2 s1 σ) σ 36 [(0, .ref (mad P 0)), (1, .int x1), (2, .int x2)] [.int s1, .ref (mad P 0)] := by
  unfold M_changedRadius_36
  refine v_callV_mi C (As := [.int s1]) (st := []) lkX4_61 dX4_changedRadius_36 rfl (Nat.le_of_ble_eq_true rfl) (Nat.le_of_ble_eq_true rfl) (Nat.le_of_ble_eq_true rfl) (mRecv C) (fun _ z => met_X4_refused σ s1 z) (fun r4 hr4 => ?_)
  refine v_if_eq C (tgt := 44) dX4_changedRadius_39 rfl (fun _ => ?_) (fun _ => ?_)
  · refine v_aload_n C dX4_changedRadius_44 0 rfl ?_
    refine v_iload_n C dX4_changedRadius_45 1 rfl ?_
    refine v_callV_mv C (As := [.int x1]) (st := []) lkX4_170 dX4_changedRadius_46 rfl (Nat.le_of_ble_eq_true rfl) (Nat.le_of_ble_eq_true rfl) (Nat.le_of_ble_eq_true rfl) (mRecv C) (fun _ z => met_X4_weighs F r4.2 x1 z) (fun r5 hr5 => ?_)
    refine v_aload_n C dX4_changedRadius_49 0 rfl ?_
    refine v_iconst C dX4_changedRadius_50 ci_1 ?_
    refine v_aload_n C dX4_changedRadius_51 0 rfl ?_
    refine v_callV_ri C (As := []) (st := [.int 1, .ref (mad P 0)]) lkX4_65 dX4_changedRadius_52 rfl (Nat.le_of_ble_eq_true rfl) (Nat.le_of_ble_eq_true rfl) (Nat.le_of_ble_eq_true rfl) (mRecv C) (fun _ z => met_X4_many r5 z) (fun r6 hr6 => ?_)
    refine v_ishl C dX4_changedRadius_55 ?_
    refine v_iconst C dX4_changedRadius_56 ci_1 ?_
    refine v_isub C dX4_changedRadius_57 ?_
    refine v_callV_mv C (As := [.int ((1 <<< (r6 &&& 31)) - 1)]) (st := []) lkX4_236 dX4_changedRadius_58 rfl (Nat.le_of_ble_eq_true rfl) (Nat.le_of_ble_eq_true rfl) (Nat.le_of_ble_eq_true rfl) (mRecv C) (fun _ z => met_X4_centers F r5 ((1 <<< (r6 &&& 31)) - 1) z) (fun r7 hr7 => ?_)
    refine v_aload_n C dX4_changedRadius_61 0 rfl ?_
    refine mg_bestHeight C dX4_changedRadius_62 ?_
    refine v_aload_n C dX4_changedRadius_65 0 rfl ?_
    refine mg_bestQ C dX4_changedRadius_66 ?_
    refine v_iload_n C dX4_changedRadius_69 2 rfl ?_
    refine v_callS_ri C (As := [.long (mL r7 2), .long (mL r7 1), .int x2]) (st := []) lkX4_156 dX4_changedRadius_70 rfl (Nat.le_of_ble_eq_true rfl) (Nat.le_of_ble_eq_true rfl) (Nat.le_of_ble_eq_true rfl) (fun _ z => met_X4_reduced F r7 (mL r7 2) (mL r7 1) x2 z) (fun r8 hr8 => ?_)
    exact v_ireturn C hm dX4_changedRadius_73 rfl
  · refine v_iconst C dX4_changedRadius_42 ci_0 ?_
    exact v_ireturn C hm dX4_changedRadius_43 rfl
theorem w_changedRadius_20 {P : MP} {X : Ctx} {l : Launch} {S0 : MS} {F : Nat} (C : CX (OM P) X l cX4_changedRadius 3 RX4 (some .int)) (hm : X.2.2.2.2.2.2.2.2.2 = none) {x1 : Int32} {x2 : Int32} (σ : MS) : VF (OM P) X 3 5 132 S0 f_mi (M_changedRadius_20 F x1 x2 σ) σ 20 [(0, .ref (mad P 0)), (1, .int x1), (2, .int x2)] [.ref (mad P 0)] := by
  unfold M_changedRadius_20
  refine v_iconst C dX4_changedRadius_20 ci_1 ?_
  refine v_goto C (tgt := 36) dX4_changedRadius_21 rfl ?_
  exact v_sub [0, 1, 2] rfl (w_changedRadius_36 C hm 1 σ)
theorem met_X4_changedRadius {P : MP} {l : Launch} (F : Nat) (σ : MS) (x1 : Int32) (x2 : Int32) {r : Int32 × MS} (h : M_changedRadius F σ x1 x2 = some r) : FM l (OM P) yX4_changedRadius (ws_ yX4_changedRadius cX4_changedRadius 3 (some .int)) 5 132 [.ref (mad P 0), .int x1, .int x2] σ (f_mi r) := by
  refine FM.of (own := RX4) (lv := [(0, .ref (mad P 0)), (1, .int x1), (2, .int x2)]) (OM_ok P) pl_X4 rfl (Nat.le_of_ble_eq_true rfl) rfl h OM_le (fun X C hm => ?_)
  unfold M_changedRadius
  refine v_aload_n C dX4_changedRadius_0 0 rfl ?_
  refine v_iload_n C dX4_changedRadius_1 1 rfl ?_
  refine v_iconst C dX4_changedRadius_2 ci_0 ?_
  refine v_bipush C dX4_changedRadius_3 cb_10 ?_
  refine v_callS_ri C (As := [.int x1, .int 0, .int 10]) (st := [.ref (mad P 0)]) lkX4_69 dX4_changedRadius_5 rfl (Nat.le_of_ble_eq_true rfl) (Nat.le_of_ble_eq_true rfl) (Nat.le_of_ble_eq_true rfl) (fun _ z => met_X4_within σ x1 0 10 z) (fun r1 hr1 => ?_)
  refine v_if_eq C (tgt := 20) dX4_changedRadius_8 rfl (fun _ => ?_) (fun _ => ?_)
  · exact v_sub [0, 1, 2] rfl (w_changedRadius_20 C hm σ)
  · refine v_iload_n C dX4_changedRadius_11 2 rfl ?_
    refine v_iconst C dX4_changedRadius_12 ci_0 ?_
    refine v_iconst C dX4_changedRadius_13 ci_1 ?_
    refine v_callS_ri C (As := [.int x2, .int 0, .int 1]) (st := [.ref (mad P 0)]) lkX4_69 dX4_changedRadius_14 rfl (Nat.le_of_ble_eq_true rfl) (Nat.le_of_ble_eq_true rfl) (Nat.le_of_ble_eq_true rfl) (fun _ z => met_X4_within σ x2 0 1 z) (fun r2 hr2 => ?_)
    refine v_if_ne C (tgt := 24) dX4_changedRadius_17 rfl (fun _ => ?_) (fun _ => ?_)
    · exact v_sub [0, 1, 2] rfl (w_changedRadius_20 C hm σ)
    · refine v_aload_n C dX4_changedRadius_24 0 rfl ?_
      refine v_callV_mi C (As := []) (st := [.ref (mad P 0)]) lkX4_233 dX4_changedRadius_25 rfl (Nat.le_of_ble_eq_true rfl) (Nat.le_of_ble_eq_true rfl) (Nat.le_of_ble_eq_true rfl) (mRecv C) (fun _ z => met_X4_canHave F σ z) (fun r3 hr3 => ?_)
      refine v_if_ne C (tgt := 35) dX4_changedRadius_28 rfl (fun _ => ?_) (fun _ => ?_)
      · refine v_iconst C dX4_changedRadius_31 ci_2 ?_
        refine v_goto C (tgt := 36) dX4_changedRadius_32 rfl ?_
        exact v_sub [0, 1, 2] rfl (w_changedRadius_36 C hm 2 r3.2)
      · refine v_iconst C dX4_changedRadius_35 ci_0 ?_
        exact v_sub [0, 1, 2] rfl (w_changedRadius_36 C hm 0 r3.2)
theorem w_radiusWithout_109 {P : MP} {X : Ctx} {l : Launch} {S0 : MS} {F : Nat} (C : CX (OM P) X l cX4_radiusWithout 5 RX4 (some .int)) (hm : X.2.2.2.2.2.2.2.2.2 = none) {x3 : Int32}  : ∀ (n : Nat) (x4 : Int32) (σ : MS), VF (OM P) X 5 5 132 S0 f_mi (M_radiusWithout_109 F x3 n x4 σ) σ 109 [(0, .ref (mad P 0)), (3, .int x3), (4, .int x4)] [] := by
  intro n
  induction n with
  | zero => intro x4 σ; exact VF.none
  | succ n ih =>
    intro x4 σ
    unfold M_radiusWithout_109
    refine v_iload C dX4_radiusWithout_109 2 rfl ?_
    refine v_bipush C dX4_radiusWithout_111 cb_73 ?_
    refine v_icmp_ge C (tgt := 136) dX4_radiusWithout_113 rfl (fun _ => ?_) (fun _ => ?_)
    · refine v_iload_n C dX4_radiusWithout_136 1 rfl ?_
      exact v_ireturn C hm dX4_radiusWithout_137 rfl
    · refine v_aload_n C dX4_radiusWithout_116 0 rfl ?_
      refine mg_now C dX4_radiusWithout_117 ?_
      refine v_iload C dX4_radiusWithout_120 2 rfl ?_
      refine v_aload_n C dX4_radiusWithout_122 0 rfl ?_
      refine mg_kept C dX4_radiusWithout_123 ?_
      refine v_iload C dX4_radiusWithout_126 2 rfl ?_
      refine ml_kept C dX4_radiusWithout_128 (fun y13 hy13 => ?_)
      refine ms_now C dX4_radiusWithout_129 (fun σ14 hσ14 => ?_)
      refine v_iincN C (lv' := fun y15 => [(4, .int y15), (0, .ref (mad P 0)), (3, .int x3)]) dX4_radiusWithout_130 2 rfl ci_1 (Nat.le_of_ble_eq_true rfl) (fun _ => rfl) (fun y15 hy15 => ?_)
      refine v_goto C (tgt := 109) dX4_radiusWithout_133 rfl ?_
      exact v_sub [1, 2, 0] rfl (ih y15 σ14)
theorem w_radiusWithout_106 {P : MP} {X : Ctx} {l : Launch} {S0 : MS} {F : Nat} (C : CX (OM P) X l cX4_radiusWithout 5 RX4 (some .int)) (hm : X.2.2.2.2.2.2.2.2.2 = none) {x3 : Int32} (σ : MS) : VF (OM P) X 5 5 132 S0 f_mi (M_radiusWithout_106 F x3 σ) σ 106 [(0, .ref (mad P 0)), (3, .int x3)] [] := by
  unfold M_radiusWithout_106
  refine v_iconst C dX4_radiusWithout_106 ci_0 ?_
  refine v_istore C (lv' := [(4, .int 0), (0, .ref (mad P 0)), (3, .int x3)]) dX4_radiusWithout_107 (Nat.le_of_ble_eq_true rfl) rfl ?_
  exact v_sub [1, 2, 0] rfl (w_radiusWithout_109 C hm F 0 σ)
theorem w_radiusWithout_61 {P : MP} {X : Ctx} {l : Launch} {S0 : MS} {F : Nat} (C : CX (OM P) X l cX4_radiusWithout 5 RX4 (some .int)) (hm : X.2.2.2.2.2.2.2.2.2 = none) {x1 : Int32} {x2 : Int32} (σ : MS) : VF (OM P) X 5 5 132 S0 f_mi (M_radiusWithout_61 F x1 x2 σ) σ 61 [(0, .ref (mad P 0)), (1, .int x1), (2, .int x2)] [] := by
  unfold M_radiusWithout_61
  refine v_aload_n C dX4_radiusWithout_61 0 rfl ?_
  refine v_iload_n C dX4_radiusWithout_62 1 rfl ?_
  refine v_callV_mi C (As := [.int x1]) (st := []) lkX4_109 dX4_radiusWithout_63 rfl (Nat.le_of_ble_eq_true rfl) (Nat.le_of_ble_eq_true rfl) (Nat.le_of_ble_eq_true rfl) (mRecv C) (fun _ z => met_X4_dropsEdge F σ x1 z) (fun r7 hr7 => ?_)
  refine v_pop C dX4_radiusWithout_66 rfl ?_
  refine v_iconst C dX4_radiusWithout_67 ci_m1 ?_
  refine v_istore_n C (lv' := [(3, .int (-1)), (0, .ref (mad P 0)), (1, .int x1), (2, .int x2)]) dX4_radiusWithout_68 (Nat.le_of_ble_eq_true rfl) rfl ?_
  refine v_aload_n C dX4_radiusWithout_69 1 rfl ?_
  refine v_callV_mi C (As := []) (st := []) lkX4_233 dX4_radiusWithout_70 rfl (Nat.le_of_ble_eq_true rfl) (Nat.le_of_ble_eq_true rfl) (Nat.le_of_ble_eq_true rfl) (mRecv C) (fun _ z => met_X4_canHave F r7.2 z) (fun r8 hr8 => ?_)
  refine v_if_eq C (tgt := 106) dX4_radiusWithout_73 rfl (fun _ => ?_) (fun _ => ?_)
  · exact v_sub [1, 0] rfl (w_radiusWithout_106 C hm r8.2)
  · refine v_aload_n C dX4_radiusWithout_76 1 rfl ?_
    refine v_iconst C dX4_radiusWithout_77 ci_0 ?_
    refine v_callV_mv C (As := [.int 0]) (st := []) lkX4_170 dX4_radiusWithout_78 rfl (Nat.le_of_ble_eq_true rfl) (Nat.le_of_ble_eq_true rfl) (Nat.le_of_ble_eq_true rfl) (mRecv C) (fun _ z => met_X4_weighs F r8.2 0 z) (fun r9 hr9 => ?_)
    refine v_aload_n C dX4_radiusWithout_81 1 rfl ?_
    refine v_iconst C dX4_radiusWithout_82 ci_1 ?_
    refine v_aload_n C dX4_radiusWithout_83 1 rfl ?_
    refine v_callV_ri C (As := []) (st := [.int 1, .ref (mad P 0)]) lkX4_65 dX4_radiusWithout_84 rfl (Nat.le_of_ble_eq_true rfl) (Nat.le_of_ble_eq_true rfl) (Nat.le_of_ble_eq_true rfl) (mRecv C) (fun _ z => met_X4_many r9 z) (fun r10 hr10 => ?_)
    refine v_ishl C dX4_radiusWithout_87 ?_
    refine v_iconst C dX4_radiusWithout_88 ci_1 ?_
    refine v_isub C dX4_radiusWithout_89 ?_
    refine v_callV_mv C (As := [.int ((1 <<< (r10 &&& 31)) - 1)]) (st := []) lkX4_236 dX4_radiusWithout_90 rfl (Nat.le_of_ble_eq_true rfl) (Nat.le_of_ble_eq_true rfl) (Nat.le_of_ble_eq_true rfl) (mRecv C) (fun _ z => met_X4_centers F r9 ((1 <<< (r10 &&& 31)) - 1) z) (fun r11 hr11 => ?_)
    refine v_aload_n C dX4_radiusWithout_93 1 rfl ?_
    refine mg_bestHeight C dX4_radiusWithout_94 ?_
    refine v_aload_n C dX4_radiusWithout_97 1 rfl ?_
    refine mg_bestQ C dX4_radiusWithout_98 ?_
    refine v_iload_n C dX4_radiusWithout_101 3 rfl ?_
    refine v_callS_ri C (As := [.long (mL r11 2), .long (mL r11 1), .int x2]) (st := []) lkX4_156 dX4_radiusWithout_102 rfl (Nat.le_of_ble_eq_true rfl) (Nat.le_of_ble_eq_true rfl) (Nat.le_of_ble_eq_true rfl) (fun _ z => met_X4_reduced F r11 (mL r11 2) (mL r11 1) x2 z) (fun r12 hr12 => ?_)
    refine v_istore_n C (lv' := [(3, .int r12), (0, .ref (mad P 0)), (1, .int x1), (2, .int x2)]) dX4_radiusWithout_105 (Nat.le_of_ble_eq_true rfl) rfl ?_
    exact v_sub [1, 0] rfl (w_radiusWithout_106 C hm r11)
theorem w_radiusWithout_37 {P : MP} {X : Ctx} {l : Launch} {S0 : MS} {F : Nat} (C : CX (OM P) X l cX4_radiusWithout 5 RX4 (some .int)) (hm : X.2.2.2.2.2.2.2.2.2 = none) {x1 : Int32} {x2 : Int32}  : ∀ (n : Nat) (x3 : Int32) (σ : MS), VF (OM P) X 5 5 132 S0 f_mi (M_radiusWithout_37 F x1 x2 n x3 σ) σ 37 [(0, .ref (mad P 0)), (1, .int x1), (2, .int x2), (3, .int x3)] [] := by
  intro n
  induction n with
  | zero => intro x3 σ; exact VF.none
  | succ n ih =>
    intro x3 σ
    unfold M_radiusWithout_37
    refine v_iload_n C dX4_radiusWithout_37 3 rfl ?_
    refine v_bipush C dX4_radiusWithout_38 cb_73 ?_
    refine v_icmp_ge C (tgt := 61) dX4_radiusWithout_40 rfl (fun _ => ?_) (fun _ => ?_)
    · exact v_sub [0, 1, 2] rfl (w_radiusWithout_61 C hm σ)
    · refine v_aload_n C dX4_radiusWithout_43 0 rfl ?_
      refine mg_kept C dX4_radiusWithout_44 ?_
      refine v_iload_n C dX4_radiusWithout_47 3 rfl ?_
      refine v_aload_n C dX4_radiusWithout_48 0 rfl ?_
      refine mg_now C dX4_radiusWithout_49 ?_
      refine v_iload_n C dX4_radiusWithout_52 3 rfl ?_
      refine ml_now C dX4_radiusWithout_53 (fun y4 hy4 => ?_)
      refine ms_kept C dX4_radiusWithout_54 (fun σ5 hσ5 => ?_)
      refine v_iincN C (lv' := fun y6 => [(3, .int y6), (0, .ref (mad P 0)), (1, .int x1), (2, .int x2)]) dX4_radiusWithout_55 3 rfl ci_1 (Nat.le_of_ble_eq_true rfl) (fun _ => rfl) (fun y6 hy6 => ?_)
      refine v_goto C (tgt := 37) dX4_radiusWithout_58 rfl ?_
      exact v_sub [1, 2, 3, 0] rfl (ih y6 σ5)
theorem w_radiusWithout_27 {P : MP} {X : Ctx} {l : Launch} {S0 : MS} {F : Nat} (C : CX (OM P) X l cX4_radiusWithout 5 RX4 (some .int)) (hm : X.2.2.2.2.2.2.2.2.2 = none) {x1 : Int32} {x2 : Int32} (s1 : Int32) (σ : MS) : VF (OM P) X 5 5 132 S0 f_mi (M_radiusWithout_27 F x1 x2 s1 σ) σ 27 [(0, .ref (mad P 0)), (1, .int x1), (2, .int x2)] [.int s1, .ref (mad P 0)] := by
  unfold M_radiusWithout_27
  refine v_callV_mi C (As := [.int s1]) (st := []) lkX4_61 dX4_radiusWithout_27 rfl (Nat.le_of_ble_eq_true rfl) (Nat.le_of_ble_eq_true rfl) (Nat.le_of_ble_eq_true rfl) (mRecv C) (fun _ z => met_X4_refused σ s1 z) (fun r3 hr3 => ?_)
  refine v_if_eq C (tgt := 35) dX4_radiusWithout_30 rfl (fun _ => ?_) (fun _ => ?_)
  · refine v_iconst C dX4_radiusWithout_35 ci_0 ?_
    refine v_istore_n C (lv' := [(3, .int 0), (0, .ref (mad P 0)), (1, .int x1), (2, .int x2)]) dX4_radiusWithout_36 (Nat.le_of_ble_eq_true rfl) rfl ?_
    exact v_sub [1, 2, 3, 0] rfl (w_radiusWithout_37 C hm F 0 r3.2)
  · refine v_iconst C dX4_radiusWithout_33 ci_0 ?_
    exact v_ireturn C hm dX4_radiusWithout_34 rfl
theorem met_X4_radiusWithout {P : MP} {l : Launch} (F : Nat) (σ : MS) (x1 : Int32) (x2 : Int32) {r : Int32 × MS} (h : M_radiusWithout F σ x1 x2 = some r) : FM l (OM P) yX4_radiusWithout (ws_ yX4_radiusWithout cX4_radiusWithout 5 (some .int)) 5 132 [.ref (mad P 0), .int x1, .int x2] σ (f_mi r) := by
  refine FM.of (own := RX4) (lv := [(0, .ref (mad P 0)), (1, .int x1), (2, .int x2)]) (OM_ok P) pl_X4 rfl (Nat.le_of_ble_eq_true rfl) rfl h OM_le (fun X C hm => ?_)
  unfold M_radiusWithout
  refine v_aload_n C dX4_radiusWithout_0 0 rfl ?_
  refine v_aload_n C dX4_radiusWithout_1 0 rfl ?_
  refine v_iload_n C dX4_radiusWithout_2 1 rfl ?_
  refine v_callV_ri C (As := [.int x1]) (st := [.ref (mad P 0)]) lkX4_106 dX4_radiusWithout_3 rfl (Nat.le_of_ble_eq_true rfl) (Nat.le_of_ble_eq_true rfl) (Nat.le_of_ble_eq_true rfl) (mRecv C) (fun _ z => met_X4_isEdge σ x1 z) (fun r1 hr1 => ?_)
  refine v_if_ne C (tgt := 13) dX4_radiusWithout_6 rfl (fun _ => ?_) (fun _ => ?_)
  · refine v_iconst C dX4_radiusWithout_9 ci_1 ?_
    refine v_goto C (tgt := 27) dX4_radiusWithout_10 rfl ?_
    exact v_sub [0, 1, 2] rfl (w_radiusWithout_27 C hm 1 σ)
  · refine v_iload_n C dX4_radiusWithout_13 2 rfl ?_
    refine v_iconst C dX4_radiusWithout_14 ci_0 ?_
    refine v_iconst C dX4_radiusWithout_15 ci_1 ?_
    refine v_callS_ri C (As := [.int x2, .int 0, .int 1]) (st := [.ref (mad P 0)]) lkX4_69 dX4_radiusWithout_16 rfl (Nat.le_of_ble_eq_true rfl) (Nat.le_of_ble_eq_true rfl) (Nat.le_of_ble_eq_true rfl) (fun _ z => met_X4_within σ x2 0 1 z) (fun r2 hr2 => ?_)
    refine v_if_ne C (tgt := 26) dX4_radiusWithout_19 rfl (fun _ => ?_) (fun _ => ?_)
    · refine v_iconst C dX4_radiusWithout_22 ci_2 ?_
      refine v_goto C (tgt := 27) dX4_radiusWithout_23 rfl ?_
      exact v_sub [0, 1, 2] rfl (w_radiusWithout_27 C hm 2 σ)
    · refine v_iconst C dX4_radiusWithout_26 ci_0 ?_
      exact v_sub [0, 1, 2] rfl (w_radiusWithout_27 C hm 0 σ)
theorem w_type_30 {P : MP} {X : Ctx} {l : Launch} {S0 : MS} (C : CX (OM P) X l cX4_type 2 RX4 (some .int)) (hm : X.2.2.2.2.2.2.2.2.2 = none) {x1 : Int32} (s1 : Int32) (σ : MS) : VF (OM P) X 2 1 22 S0 f_mi (M_type_30 x1 s1 σ) σ 30 [(0, .ref (mad P 0)), (1, .int x1)] [.int s1, .ref (mad P 0)] := by
  unfold M_type_30
  refine v_callV_mi C (As := [.int s1]) (st := []) lkX4_61 dX4_type_30 rfl (Nat.le_of_ble_eq_true rfl) (Nat.le_of_ble_eq_true rfl) (Nat.le_of_ble_eq_true rfl) (mRecv C) (fun _ z => met_X4_refused σ s1 z) (fun r2 hr2 => ?_)
  refine v_if_eq C (tgt := 38) dX4_type_33 rfl (fun _ => ?_) (fun _ => ?_)
  · refine v_aload_n C dX4_type_38 0 rfl ?_
    refine mg_text C dX4_type_39 ?_
    refine v_aload_n C dX4_type_42 0 rfl ?_
    refine mg_length C dX4_type_43 ?_
    refine v_iload_n C dX4_type_46 1 rfl ?_
    refine ms_text C dX4_type_47 (fun σ3 hσ3 => ?_)
    refine v_aload_n C dX4_type_48 0 rfl ?_
    refine v_dup C dX4_type_49 rfl ?_
    refine mg_length C dX4_type_50 ?_
    refine v_iconst C dX4_type_53 ci_1 ?_
    refine v_iadd C dX4_type_54 ?_
    refine mp_length C dX4_type_55 (fun σ4 hσ4 => ?_)
    refine v_aload_n C dX4_type_58 0 rfl ?_
    refine mg_length C dX4_type_59 ?_
    exact v_ireturn C hm dX4_type_62 rfl
  · refine v_iconst C dX4_type_36 ci_0 ?_
    exact v_ireturn C hm dX4_type_37 rfl
theorem met_X4_type {P : MP} {l : Launch} (σ : MS) (x1 : Int32) {r : Int32 × MS} (h : M_type σ x1 = some r) : FM l (OM P) yX4_type (ws_ yX4_type cX4_type 2 (some .int)) 1 22 [.ref (mad P 0), .int x1] σ (f_mi r) := by
  refine FM.of (own := RX4) (lv := [(0, .ref (mad P 0)), (1, .int x1)]) (OM_ok P) pl_X4 rfl (Nat.le_of_ble_eq_true rfl) rfl h OM_le (fun X C hm => ?_)
  unfold M_type
  refine v_aload_n C dX4_type_0 0 rfl ?_
  refine v_iload_n C dX4_type_1 1 rfl ?_
  refine v_bipush C dX4_type_2 cb_32 ?_
  refine v_bipush C dX4_type_4 cb_126 ?_
  refine v_callS_ri C (As := [.int x1, .int 32, .int 126]) (st := [.ref (mad P 0)]) lkX4_69 dX4_type_6 rfl (Nat.le_of_ble_eq_true rfl) (Nat.le_of_ble_eq_true rfl) (Nat.le_of_ble_eq_true rfl) (fun _ z => met_X4_within σ x1 32 126 z) (fun r1 hr1 => ?_)
  refine v_if_ne C (tgt := 16) dX4_type_9 rfl (fun _ => ?_) (fun _ => ?_)
  · refine v_iconst C dX4_type_12 ci_1 ?_
    refine v_goto C (tgt := 30) dX4_type_13 rfl ?_
    exact v_sub [0, 1] rfl (w_type_30 C hm 1 σ)
  · refine v_aload_n C dX4_type_16 0 rfl ?_
    refine mg_length C dX4_type_17 ?_
    refine v_bipush C dX4_type_20 cb_120 ?_
    refine v_icmp_ne C (tgt := 29) dX4_type_22 rfl (fun _ => ?_) (fun _ => ?_)
    · refine v_iconst C dX4_type_25 ci_2 ?_
      refine v_goto C (tgt := 30) dX4_type_26 rfl ?_
      exact v_sub [0, 1] rfl (w_type_30 C hm 2 σ)
    · refine v_iconst C dX4_type_29 ci_0 ?_
      exact v_sub [0, 1] rfl (w_type_30 C hm 0 σ)
theorem met_X4_clearText {P : MP} {l : Launch} (σ : MS) {r : Int32 × MS} (h : M_clearText σ = some r) : FM l (OM P) yX4_clearText (ws_ yX4_clearText cX4_clearText 2 (some .int)) 0 0 [.ref (mad P 0)] σ (f_mi r) := by
  refine FM.of (own := RX4) (lv := [(0, .ref (mad P 0))]) (OM_ok P) pl_X4 rfl (Nat.le_of_ble_eq_true rfl) rfl h OM_le (fun X C hm => ?_)
  unfold M_clearText
  refine v_aload_n C dX4_clearText_0 0 rfl ?_
  refine v_iconst C dX4_clearText_1 ci_0 ?_
  refine mp_refusal C dX4_clearText_2 (fun σ1 hσ1 => ?_)
  refine v_aload_n C dX4_clearText_5 0 rfl ?_
  refine mg_length C dX4_clearText_6 ?_
  refine v_leti (fun y2 hy2 => ?_)
  refine v_istore_n C (lv' := [(1, .int y2), (0, .ref (mad P 0))]) dX4_clearText_9 (Nat.le_of_ble_eq_true rfl) rfl ?_
  refine v_aload_n C dX4_clearText_10 1 rfl ?_
  refine v_iconst C dX4_clearText_11 ci_0 ?_
  refine mp_length C dX4_clearText_12 (fun σ3 hσ3 => ?_)
  refine v_iload_n C dX4_clearText_15 0 rfl ?_
  exact v_ireturn C hm dX4_clearText_16 rfl
theorem w_isDone_129 {P : MP} {X : Ctx} {l : Launch} {S0 : MS} {F : Nat} (C : CX (OM P) X l cX4_isDone 6 RX4 (some .boolean)) (hm : X.2.2.2.2.2.2.2.2.2 = none) {x2 : Int32} {x3 : Int32} {x5 : Int32} (s1 : Int32) (σ : MS) : VF (OM P) X 6 3 69 S0 f_mi (M_isDone_129 F x2 x3 x5 s1 σ) σ 129 [(0, .ref (mad P 0)), (2, .int x2), (3, .int x3), (5, .int x5)] [.int s1, .ref (mad P 1)] := by
  unfold M_isDone_129
  refine v_iload_n C dX4_isDone_129 1 rfl ?_
  refine v_iadd C dX4_isDone_130 ?_
  refine v_iload_n C dX4_isDone_131 2 rfl ?_
  refine ms_now C dX4_isDone_132 (fun σ9 hσ9 => ?_)
  refine v_iload C dX4_isDone_133 3 rfl ?_
  refine v_zz (fun b10 hb10 => ?_)
  exact v_zreturn C hm dX4_isDone_135 hb10 rfl
theorem w_isDone_108 {P : MP} {X : Ctx} {l : Launch} {S0 : MS} {F : Nat} (C : CX (OM P) X l cX4_isDone 6 RX4 (some .boolean)) (hm : X.2.2.2.2.2.2.2.2.2 = none) {x1 : Int32} {x2 : Int32} {x3 : Int32} {x5 : Int32} (σ : MS) : VF (OM P) X 6 3 69 S0 f_mi (M_isDone_108 F x1 x2 x3 x5 σ) σ 108 [(0, .ref (mad P 0)), (1, .int x1), (2, .int x2), (3, .int x3), (5, .int x5)] [] := by
  unfold M_isDone_108
  refine v_iload C dX4_isDone_108 4 rfl ?_
  refine v_if_eq C (tgt := 133) dX4_isDone_110 rfl (fun _ => ?_) (fun _ => ?_)
  · refine v_iload C dX4_isDone_133 4 rfl ?_
    refine v_zz (fun b8 hb8 => ?_)
    exact v_zreturn C hm dX4_isDone_135 hb8 rfl
  · refine v_aload_n C dX4_isDone_113 0 rfl ?_
    refine mg_now C dX4_isDone_114 ?_
    refine v_iload_n C dX4_isDone_117 1 rfl ?_
    refine v_bipush C dX4_isDone_118 cb_119 ?_
    refine v_icmp_ne C (tgt := 127) dX4_isDone_120 rfl (fun _ => ?_) (fun _ => ?_)
    · refine v_iconst C dX4_isDone_123 ci_1 ?_
      refine v_goto C (tgt := 129) dX4_isDone_124 rfl ?_
      exact v_sub [0, 2, 3, 4] rfl (w_isDone_129 C hm 1 σ)
    · refine v_bipush C dX4_isDone_127 cb_9 ?_
      exact v_sub [0, 2, 3, 4] rfl (w_isDone_129 C hm 9 σ)
theorem w_isDone_85 {P : MP} {X : Ctx} {l : Launch} {S0 : MS} {F : Nat} (C : CX (OM P) X l cX4_isDone 6 RX4 (some .boolean)) (hm : X.2.2.2.2.2.2.2.2.2 = none) {x1 : Int32} {x2 : Int32} {x3 : Int32} {x4 : Int32} {x5 : Int32} (σ : MS) : VF (OM P) X 6 3 69 S0 f_mi (M_isDone_85 F x1 x2 x3 x4 x5 σ) σ 85 [(0, .ref (mad P 0)), (1, .int x1), (2, .int x2), (3, .int x3), (4, .int x4), (5, .int x5)] [] := by
  unfold M_isDone_85
  refine v_iload C dX4_isDone_85 5 rfl ?_
  refine v_if_eq C (tgt := 108) dX4_isDone_87 rfl (fun _ => ?_) (fun _ => ?_)
  · exact v_sub [0, 1, 2, 3, 5] rfl (w_isDone_108 C hm σ)
  · refine v_iload_n C dX4_isDone_90 1 rfl ?_
    refine v_bipush C dX4_isDone_91 cb_120 ?_
    refine v_icmp_ne C (tgt := 108) dX4_isDone_93 rfl (fun _ => ?_) (fun _ => ?_)
    · refine v_aload_n C dX4_isDone_96 0 rfl ?_
      refine v_iload_n C dX4_isDone_97 2 rfl ?_
      refine v_iload_n C dX4_isDone_98 3 rfl ?_
      refine v_iload C dX4_isDone_99 4 rfl ?_
      refine v_callV_mi C (As := [.int x2, .int x3, .int x4]) (st := []) lkX4_119 dX4_isDone_101 rfl (Nat.le_of_ble_eq_true rfl) (Nat.le_of_ble_eq_true rfl) (Nat.le_of_ble_eq_true rfl) (mRecv C) (fun _ z => met_X4_forbids σ x2 x3 x4 z) (fun r6 hr6 => ?_)
      refine v_pop C dX4_isDone_104 rfl ?_
      refine v_goto C (tgt := 133) dX4_isDone_105 rfl ?_
      refine v_iload C dX4_isDone_133 5 rfl ?_
      refine v_zz (fun b7 hb7 => ?_)
      exact v_zreturn C hm dX4_isDone_135 hb7 rfl
    · exact v_sub [0, 1, 2, 3, 5] rfl (w_isDone_108 C hm σ)
theorem w_isDone_62 {P : MP} {X : Ctx} {l : Launch} {S0 : MS} {F : Nat} (C : CX (OM P) X l cX4_isDone 6 RX4 (some .boolean)) (hm : X.2.2.2.2.2.2.2.2.2 = none) {x1 : Int32} {x2 : Int32} {x3 : Int32} {x4 : Int32} (s0 : Int32) (σ : MS) : VF (OM P) X 6 3 69 S0 f_mi (M_isDone_62 F x1 x2 x3 x4 s0 σ) σ 62 [(0, .ref (mad P 0)), (1, .int x1), (2, .int x2), (3, .int x3), (4, .int x4)] [.int s0] := by
  unfold M_isDone_62
  refine v_istore C (lv' := [(5, .int s0), (0, .ref (mad P 0)), (1, .int x1), (2, .int x2), (3, .int x3), (4, .int x4)]) dX4_isDone_62 (Nat.le_of_ble_eq_true rfl) rfl ?_
  refine v_iload C dX4_isDone_64 0 rfl ?_
  refine v_if_eq C (tgt := 85) dX4_isDone_66 rfl (fun _ => ?_) (fun _ => ?_)
  · exact v_sub [1, 2, 3, 4, 5, 0] rfl (w_isDone_85 C hm σ)
  · refine v_iload_n C dX4_isDone_69 2 rfl ?_
    refine v_if_ne C (tgt := 85) dX4_isDone_70 rfl (fun _ => ?_) (fun _ => ?_)
    · refine v_aload_n C dX4_isDone_73 1 rfl ?_
      refine v_iload_n C dX4_isDone_74 3 rfl ?_
      refine v_iload_n C dX4_isDone_75 4 rfl ?_
      refine v_iload C dX4_isDone_76 5 rfl ?_
      refine v_callV_mi C (As := [.int x2, .int x3, .int x4]) (st := []) lkX4_94 dX4_isDone_78 rfl (Nat.le_of_ble_eq_true rfl) (Nat.le_of_ble_eq_true rfl) (Nat.le_of_ble_eq_true rfl) (mRecv C) (fun _ z => met_X4_connects σ x2 x3 x4 z) (fun r4 hr4 => ?_)
      refine v_pop C dX4_isDone_81 rfl ?_
      refine v_goto C (tgt := 133) dX4_isDone_82 rfl ?_
      refine v_iload C dX4_isDone_133 0 rfl ?_
      refine v_zz (fun b5 hb5 => ?_)
      exact v_zreturn C hm dX4_isDone_135 hb5 rfl
    · exact v_sub [1, 2, 3, 4, 5, 0] rfl (w_isDone_85 C hm σ)
theorem met_X4_isDone {P : MP} {l : Launch} (F : Nat) (σ : MS) (x1 : Int32) (x2 : Int32) (x3 : Int32) (x4 : Int32) {r : Int32 × MS} (h : M_isDone F σ x1 x2 x3 x4 = some r) : FM l (OM P) yX4_isDone (ws_ yX4_isDone cX4_isDone 6 (some .boolean)) 3 69 [.ref (mad P 0), .int x1, .int x2, .int x3, .int x4] σ (f_mi r) := by
  refine FM.of (own := RX4) (lv := [(0, .ref (mad P 0)), (1, .int x1), (2, .int x2), (3, .int x3), (4, .int x4)]) (OM_ok P) pl_X4 rfl (Nat.le_of_ble_eq_true rfl) rfl h OM_le (fun X C hm => ?_)
  unfold M_isDone
  refine v_iload_n C dX4_isDone_0 1 rfl ?_
  refine v_if_ne C (tgt := 23) dX4_isDone_1 rfl (fun _ => ?_) (fun _ => ?_)
  · refine v_aload_n C dX4_isDone_4 0 rfl ?_
    refine v_iload_n C dX4_isDone_5 2 rfl ?_
    refine v_iload_n C dX4_isDone_6 3 rfl ?_
    refine v_iload C dX4_isDone_7 4 rfl ?_
    refine v_callV_ri C (As := [.int x2, .int x3, .int x4]) (st := []) lkX4_90 dX4_isDone_9 rfl (Nat.le_of_ble_eq_true rfl) (Nat.le_of_ble_eq_true rfl) (Nat.le_of_ble_eq_true rfl) (mRecv C) (fun _ z => met_X4_needConnect F σ x2 x3 x4 z) (fun r1 hr1 => ?_)
    refine v_if_ne C (tgt := 19) dX4_isDone_12 rfl (fun _ => ?_) (fun _ => ?_)
    · refine v_iconst C dX4_isDone_15 ci_1 ?_
      refine v_goto C (tgt := 62) dX4_isDone_16 rfl ?_
      exact v_sub [0, 1, 2, 3, 4] rfl (w_isDone_62 C hm 1 σ)
    · refine v_iconst C dX4_isDone_19 ci_0 ?_
      refine v_goto C (tgt := 62) dX4_isDone_20 rfl ?_
      exact v_sub [0, 1, 2, 3, 4] rfl (w_isDone_62 C hm 0 σ)
  · refine v_iload_n C dX4_isDone_23 1 rfl ?_
    refine v_bipush C dX4_isDone_24 cb_120 ?_
    refine v_icmp_ne C (tgt := 48) dX4_isDone_26 rfl (fun _ => ?_) (fun _ => ?_)
    · refine v_aload_n C dX4_isDone_29 0 rfl ?_
      refine v_iload_n C dX4_isDone_30 2 rfl ?_
      refine v_iload_n C dX4_isDone_31 3 rfl ?_
      refine v_iload C dX4_isDone_32 4 rfl ?_
      refine v_callV_ri C (As := [.int x2, .int x3, .int x4]) (st := []) lkX4_116 dX4_isDone_34 rfl (Nat.le_of_ble_eq_true rfl) (Nat.le_of_ble_eq_true rfl) (Nat.le_of_ble_eq_true rfl) (mRecv C) (fun _ z => met_X4_needForbid σ x2 x3 x4 z) (fun r2 hr2 => ?_)
      refine v_if_ne C (tgt := 44) dX4_isDone_37 rfl (fun _ => ?_) (fun _ => ?_)
      · refine v_iconst C dX4_isDone_40 ci_1 ?_
        refine v_goto C (tgt := 62) dX4_isDone_41 rfl ?_
        exact v_sub [0, 1, 2, 3, 4] rfl (w_isDone_62 C hm 1 σ)
      · refine v_iconst C dX4_isDone_44 ci_0 ?_
        refine v_goto C (tgt := 62) dX4_isDone_45 rfl ?_
        exact v_sub [0, 1, 2, 3, 4] rfl (w_isDone_62 C hm 0 σ)
    · refine v_aload_n C dX4_isDone_48 0 rfl ?_
      refine v_iload_n C dX4_isDone_49 2 rfl ?_
      refine v_iload_n C dX4_isDone_50 3 rfl ?_
      refine v_callV_ri C (As := [.int x2, .int x3]) (st := []) lkX4_113 dX4_isDone_51 rfl (Nat.le_of_ble_eq_true rfl) (Nat.le_of_ble_eq_true rfl) (Nat.le_of_ble_eq_true rfl) (mRecv C) (fun _ z => met_X4_needSet σ x2 x3 z) (fun r3 hr3 => ?_)
      refine v_if_ne C (tgt := 61) dX4_isDone_54 rfl (fun _ => ?_) (fun _ => ?_)
      · refine v_iconst C dX4_isDone_57 ci_1 ?_
        refine v_goto C (tgt := 62) dX4_isDone_58 rfl ?_
        exact v_sub [0, 1, 2, 3, 4] rfl (w_isDone_62 C hm 1 σ)
      · refine v_iconst C dX4_isDone_61 ci_0 ?_
        exact v_sub [0, 1, 2, 3, 4] rfl (w_isDone_62 C hm 0 σ)
theorem w_looking_38 {P : MP} {X : Ctx} {l : Launch} {S0 : MS} {F : Nat} (C : CX (OM P) X l cX4_looking 1 RX4 (some .int)) (hm : X.2.2.2.2.2.2.2.2.2 = none) (σ : MS) : VF (OM P) X 1 0 0 S0 f_mi (M_looking_38 F σ) σ 38 [(0, .ref (mad P 0))] [] := by
  unfold M_looking_38
  refine v_aload_n C dX4_looking_38 0 rfl ?_
  refine mg_place C dX4_looking_39 ?_
  refine v_aload_n C dX4_looking_42 0 rfl ?_
  refine mg_length C dX4_looking_43 ?_
  refine v_icmp_ge C (tgt := 61) dX4_looking_46 rfl (fun _ => ?_) (fun _ => ?_)
  · refine v_iconst C dX4_looking_61 ci_0 ?_
    exact v_ireturn C hm dX4_looking_62 rfl
  · refine v_aload_n C dX4_looking_49 0 rfl ?_
    refine mg_text C dX4_looking_50 ?_
    refine v_aload_n C dX4_looking_53 0 rfl ?_
    refine mg_place C dX4_looking_54 ?_
    refine ml_text C dX4_looking_57 (fun y3 hy3 => ?_)
    refine v_goto C (tgt := 62) dX4_looking_58 rfl ?_
    exact v_ireturn C hm dX4_looking_62 rfl
theorem w_looking_0 {P : MP} {X : Ctx} {l : Launch} {S0 : MS} {F : Nat} (C : CX (OM P) X l cX4_looking 1 RX4 (some .int)) (hm : X.2.2.2.2.2.2.2.2.2 = none)   : ∀ (n : Nat) (σ : MS), VF (OM P) X 1 0 0 S0 f_mi (M_looking_0 F n σ) σ 0 [(0, .ref (mad P 0))] [] := by
  intro n
  induction n with
  | zero => intro σ; exact VF.none
  | succ n ih =>
    intro σ
    unfold M_looking_0
    refine v_aload_n C dX4_looking_0 0 rfl ?_
    refine mg_place C dX4_looking_1 ?_
    refine v_aload_n C dX4_looking_4 0 rfl ?_
    refine mg_length C dX4_looking_5 ?_
    refine v_icmp_ge C (tgt := 38) dX4_looking_8 rfl (fun _ => ?_) (fun _ => ?_)
    · exact v_sub [0] rfl (w_looking_38 C hm σ)
    · refine v_aload_n C dX4_looking_11 0 rfl ?_
      refine mg_text C dX4_looking_12 ?_
      refine v_aload_n C dX4_looking_15 0 rfl ?_
      refine mg_place C dX4_looking_16 ?_
      refine ml_text C dX4_looking_19 (fun y1 hy1 => ?_)
      refine v_bipush C dX4_looking_20 cb_32 ?_
      refine v_icmp_ne C (tgt := 38) dX4_looking_22 rfl (fun _ => ?_) (fun _ => ?_)
      · refine v_aload_n C dX4_looking_25 0 rfl ?_
        refine v_dup C dX4_looking_26 rfl ?_
        refine mg_place C dX4_looking_27 ?_
        refine v_iconst C dX4_looking_30 ci_1 ?_
        refine v_iadd C dX4_looking_31 ?_
        refine mp_place C dX4_looking_32 (fun σ2 hσ2 => ?_)
        refine v_goto C (tgt := 0) dX4_looking_35 rfl ?_
        exact v_sub [0] rfl (ih σ2)
      · exact v_sub [0] rfl (w_looking_38 C hm σ)
theorem met_X4_looking {P : MP} {l : Launch} (F : Nat) (σ : MS) {r : Int32 × MS} (h : M_looking F σ = some r) : FM l (OM P) yX4_looking (ws_ yX4_looking cX4_looking 1 (some .int)) 0 0 [.ref (mad P 0)] σ (f_mi r) := by
  refine FM.of (own := RX4) (lv := [(0, .ref (mad P 0))]) (OM_ok P) pl_X4 rfl (Nat.le_of_ble_eq_true rfl) rfl h OM_le (fun X C hm => ?_)
  unfold M_looking
  exact v_sub [0] rfl (w_looking_0 C hm F σ)
theorem met_X4_fails {P : MP} {l : Launch} (σ : MS) {r : MS} (h : M_fails σ = some r) : FM l (OM P) yX4_fails (ws_ yX4_fails cX4_fails 1 none) 0 0 [.ref (mad P 0)] σ (f_mv r) := by
  refine FM.of (own := RX4) (lv := [(0, .ref (mad P 0))]) (OM_ok P) pl_X4 rfl (Nat.le_of_ble_eq_true rfl) rfl h OM_le (fun X C hm => ?_)
  unfold M_fails
  refine v_aload_n C dX4_fails_0 0 rfl ?_
  refine v_aload_n C dX4_fails_1 0 rfl ?_
  refine mg_wrong C dX4_fails_2 ?_
  refine v_iconst C dX4_fails_5 ci_m1 ?_
  refine v_icmp_ne C (tgt := 16) dX4_fails_6 rfl (fun _ => ?_) (fun _ => ?_)
  · refine v_aload_n C dX4_fails_9 0 rfl ?_
    refine mg_place C dX4_fails_10 ?_
    refine v_goto C (tgt := 20) dX4_fails_13 rfl ?_
    refine mp_wrong C dX4_fails_20 (fun σ1 hσ1 => ?_)
    exact v_vreturn C hm dX4_fails_23 rfl
  · refine v_aload_n C dX4_fails_16 0 rfl ?_
    refine mg_wrong C dX4_fails_17 ?_
    refine mp_wrong C dX4_fails_20 (fun σ2 hσ2 => ?_)
    exact v_vreturn C hm dX4_fails_23 rfl
theorem met_X4_isDigit {P : MP} {l : Launch} (σ : MS) {r : Int32} (h : M_isDigit σ = some r) : FM l (OM P) yX4_isDigit (ws_ yX4_isDigit cX4_isDigit 1 (some .boolean)) 1 22 [.ref (mad P 0)] σ ((f_ri σ) r) := by
  refine FM.of (own := RX4) (lv := [(0, .ref (mad P 0))]) (OM_ok P) pl_X4 rfl (Nat.le_of_ble_eq_true rfl) rfl h OM_le (fun X C hm => ?_)
  unfold M_isDigit
  refine v_aload_n C dX4_isDigit_0 0 rfl ?_
  refine mg_place C dX4_isDigit_1 ?_
  refine v_aload_n C dX4_isDigit_4 0 rfl ?_
  refine mg_length C dX4_isDigit_5 ?_
  refine v_icmp_ge C (tgt := 34) dX4_isDigit_8 rfl (fun _ => ?_) (fun _ => ?_)
  · refine v_iconst C dX4_isDigit_34 ci_0 ?_
    exact v_zreturn C hm dX4_isDigit_35 (Or.inl rfl) rfl
  · refine v_aload_n C dX4_isDigit_11 0 rfl ?_
    refine mg_text C dX4_isDigit_12 ?_
    refine v_aload_n C dX4_isDigit_15 0 rfl ?_
    refine mg_place C dX4_isDigit_16 ?_
    refine ml_text C dX4_isDigit_19 (fun y1 hy1 => ?_)
    refine v_bipush C dX4_isDigit_20 cb_48 ?_
    refine v_bipush C dX4_isDigit_22 cb_57 ?_
    refine v_callS_ri C (As := [.int y1, .int 48, .int 57]) (st := []) lkX4_69 dX4_isDigit_24 rfl (Nat.le_of_ble_eq_true rfl) (Nat.le_of_ble_eq_true rfl) (Nat.le_of_ble_eq_true rfl) (fun _ z => met_X4_within σ y1 48 57 z) (fun r2 hr2 => ?_)
    refine v_if_eq C (tgt := 34) dX4_isDigit_27 rfl (fun _ => ?_) (fun _ => ?_)
    · refine v_iconst C dX4_isDigit_34 ci_0 ?_
      exact v_zreturn C hm dX4_isDigit_35 (Or.inl rfl) rfl
    · refine v_iconst C dX4_isDigit_30 ci_1 ?_
      refine v_goto C (tgt := 35) dX4_isDigit_31 rfl ?_
      exact v_zreturn C hm dX4_isDigit_35 (Or.inr rfl) rfl
theorem w_number_20 {P : MP} {X : Ctx} {l : Launch} {S0 : MS} {F : Nat} (C : CX (OM P) X l cX4_number 2 RX4 (some .int)) (hm : X.2.2.2.2.2.2.2.2.2 = none) (σ : MS) : VF (OM P) X 2 2 42 S0 f_mi (M_number_20 F σ) σ 20 [(0, .ref (mad P 0))] [] := by
  unfold M_number_20
  refine v_aload_n C dX4_number_20 0 rfl ?_
  refine v_callV_mv C (As := []) (st := []) lkX4_290 dX4_number_21 rfl (Nat.le_of_ble_eq_true rfl) (Nat.le_of_ble_eq_true rfl) (Nat.le_of_ble_eq_true rfl) (mRecv C) (fun _ z => met_X4_fails σ z) (fun r10 hr10 => ?_)
  refine v_iconst C dX4_number_24 ci_0 ?_
  exact v_ireturn C hm dX4_number_25 rfl
theorem w_number_84 {P : MP} {X : Ctx} {l : Launch} {S0 : MS} {F : Nat} (C : CX (OM P) X l cX4_number 2 RX4 (some .int)) (hm : X.2.2.2.2.2.2.2.2.2 = none) {x1 : Int32} (σ : MS) : VF (OM P) X 2 2 42 S0 f_mi (M_number_84 F x1 σ) σ 84 [(0, .ref (mad P 0)), (1, .int x1)] [] := by
  unfold M_number_84
  refine v_aload_n C dX4_number_84 0 rfl ?_
  refine v_callV_ri C (As := []) (st := []) lkX4_287 dX4_number_85 rfl (Nat.le_of_ble_eq_true rfl) (Nat.le_of_ble_eq_true rfl) (Nat.le_of_ble_eq_true rfl) (mRecv C) (fun _ z => met_X4_isDigit σ z) (fun r11 hr11 => ?_)
  refine v_if_eq C (tgt := 95) dX4_number_88 rfl (fun _ => ?_) (fun _ => ?_)
  · refine v_iload_n C dX4_number_95 1 rfl ?_
    exact v_ireturn C hm dX4_number_96 rfl
  · refine v_aload_n C dX4_number_91 0 rfl ?_
    refine v_callV_mv C (As := []) (st := []) lkX4_290 dX4_number_92 rfl (Nat.le_of_ble_eq_true rfl) (Nat.le_of_ble_eq_true rfl) (Nat.le_of_ble_eq_true rfl) (mRecv C) (fun _ z => met_X4_fails σ z) (fun r12 hr12 => ?_)
    refine v_iload_n C dX4_number_95 1 rfl ?_
    exact v_ireturn C hm dX4_number_96 rfl
theorem met_X4_number {P : MP} {l : Launch} (F : Nat) (σ : MS) {r : Int32 × MS} (h : M_number F σ = some r) : FM l (OM P) yX4_number (ws_ yX4_number cX4_number 2 (some .int)) 2 42 [.ref (mad P 0)] σ (f_mi r) := by
  refine FM.of (own := RX4) (lv := [(0, .ref (mad P 0))]) (OM_ok P) pl_X4 rfl (Nat.le_of_ble_eq_true rfl) rfl h OM_le (fun X C hm => ?_)
  unfold M_number
  refine v_aload_n C dX4_number_0 0 rfl ?_
  refine v_callV_mi C (As := []) (st := []) lkX4_281 dX4_number_1 rfl (Nat.le_of_ble_eq_true rfl) (Nat.le_of_ble_eq_true rfl) (Nat.le_of_ble_eq_true rfl) (mRecv C) (fun _ z => met_X4_looking F σ z) (fun r1 hr1 => ?_)
  refine v_pop C dX4_number_4 rfl ?_
  refine v_aload_n C dX4_number_5 0 rfl ?_
  refine mg_wrong C dX4_number_6 ?_
  refine v_iconst C dX4_number_9 ci_m1 ?_
  refine v_icmp_ne C (tgt := 20) dX4_number_10 rfl (fun _ => ?_) (fun _ => ?_)
  · refine v_aload_n C dX4_number_13 0 rfl ?_
    refine v_callV_ri C (As := []) (st := []) lkX4_287 dX4_number_14 rfl (Nat.le_of_ble_eq_true rfl) (Nat.le_of_ble_eq_true rfl) (Nat.le_of_ble_eq_true rfl) (mRecv C) (fun _ z => met_X4_isDigit r1.2 z) (fun r2 hr2 => ?_)
    refine v_if_ne C (tgt := 26) dX4_number_17 rfl (fun _ => ?_) (fun _ => ?_)
    · exact v_sub [0] rfl (w_number_20 C hm r1.2)
    · refine v_aload_n C dX4_number_26 0 rfl ?_
      refine mg_text C dX4_number_27 ?_
      refine v_aload_n C dX4_number_30 0 rfl ?_
      refine mg_place C dX4_number_31 ?_
      refine ml_text C dX4_number_34 (fun y3 hy3 => ?_)
      refine v_bipush C dX4_number_35 cb_48 ?_
      refine v_isub C dX4_number_37 ?_
      refine v_leti (fun y4 hy4 => ?_)
      refine v_istore_n C (lv' := [(1, .int y4), (0, .ref (mad P 0))]) dX4_number_38 (Nat.le_of_ble_eq_true rfl) rfl ?_
      refine v_aload_n C dX4_number_39 1 rfl ?_
      refine v_dup C dX4_number_40 rfl ?_
      refine mg_place C dX4_number_41 ?_
      refine v_iconst C dX4_number_44 ci_1 ?_
      refine v_iadd C dX4_number_45 ?_
      refine mp_place C dX4_number_46 (fun σ5 hσ5 => ?_)
      refine v_aload_n C dX4_number_49 1 rfl ?_
      refine v_callV_ri C (As := []) (st := []) lkX4_287 dX4_number_50 rfl (Nat.le_of_ble_eq_true rfl) (Nat.le_of_ble_eq_true rfl) (Nat.le_of_ble_eq_true rfl) (mRecv C) (fun _ z => met_X4_isDigit σ5 z) (fun r6 hr6 => ?_)
      refine v_if_eq C (tgt := 84) dX4_number_53 rfl (fun _ => ?_) (fun _ => ?_)
      · exact v_sub [1, 0] rfl (w_number_84 C hm σ5)
      · refine v_bipush C dX4_number_56 cb_10 ?_
        refine v_iload_n C dX4_number_58 0 rfl ?_
        refine v_imul C dX4_number_59 ?_
        refine v_aload_n C dX4_number_60 1 rfl ?_
        refine mg_text C dX4_number_61 ?_
        refine v_aload_n C dX4_number_64 1 rfl ?_
        refine mg_place C dX4_number_65 ?_
        refine ml_text C dX4_number_68 (fun y7 hy7 => ?_)
        refine v_iadd C dX4_number_69 ?_
        refine v_bipush C dX4_number_70 cb_48 ?_
        refine v_isub C dX4_number_72 ?_
        refine v_leti (fun y8 hy8 => ?_)
        refine v_istore_n C (lv' := [(1, .int y8), (0, .ref (mad P 0))]) dX4_number_73 (Nat.le_of_ble_eq_true rfl) rfl ?_
        refine v_aload_n C dX4_number_74 1 rfl ?_
        refine v_dup C dX4_number_75 rfl ?_
        refine mg_place C dX4_number_76 ?_
        refine v_iconst C dX4_number_79 ci_1 ?_
        refine v_iadd C dX4_number_80 ?_
        refine mp_place C dX4_number_81 (fun σ9 hσ9 => ?_)
        exact v_sub [1, 0] rfl (w_number_84 C hm σ9)
  · exact v_sub [0] rfl (w_number_20 C hm r1.2)
theorem met_X4_sign {P : MP} {l : Launch} (F : Nat) (σ : MS) (x1 : Int32) {r : MS} (h : M_sign F σ x1 = some r) : FM l (OM P) yX4_sign (ws_ yX4_sign cX4_sign 2 none) 1 20 [.ref (mad P 0), .int x1] σ (f_mv r) := by
  refine FM.of (own := RX4) (lv := [(0, .ref (mad P 0)), (1, .int x1)]) (OM_ok P) pl_X4 rfl (Nat.le_of_ble_eq_true rfl) rfl h OM_le (fun X C hm => ?_)
  unfold M_sign
  refine v_aload_n C dX4_sign_0 0 rfl ?_
  refine mg_wrong C dX4_sign_1 ?_
  refine v_iconst C dX4_sign_4 ci_m1 ?_
  refine v_icmp_ne C (tgt := 29) dX4_sign_5 rfl (fun _ => ?_) (fun _ => ?_)
  · refine v_aload_n C dX4_sign_8 0 rfl ?_
    refine v_callV_mi C (As := []) (st := []) lkX4_281 dX4_sign_9 rfl (Nat.le_of_ble_eq_true rfl) (Nat.le_of_ble_eq_true rfl) (Nat.le_of_ble_eq_true rfl) (mRecv C) (fun _ z => met_X4_looking F σ z) (fun r1 hr1 => ?_)
    refine v_iload_n C dX4_sign_12 1 rfl ?_
    refine v_icmp_ne C (tgt := 29) dX4_sign_13 rfl (fun _ => ?_) (fun _ => ?_)
    · refine v_aload_n C dX4_sign_16 0 rfl ?_
      refine v_dup C dX4_sign_17 rfl ?_
      refine mg_place C dX4_sign_18 ?_
      refine v_iconst C dX4_sign_21 ci_1 ?_
      refine v_iadd C dX4_sign_22 ?_
      refine mp_place C dX4_sign_23 (fun σ2 hσ2 => ?_)
      refine v_goto C (tgt := 33) dX4_sign_26 rfl ?_
      exact v_vreturn C hm dX4_sign_33 rfl
    · refine v_aload_n C dX4_sign_29 0 rfl ?_
      refine v_callV_mv C (As := []) (st := []) lkX4_290 dX4_sign_30 rfl (Nat.le_of_ble_eq_true rfl) (Nat.le_of_ble_eq_true rfl) (Nat.le_of_ble_eq_true rfl) (mRecv C) (fun _ z => met_X4_fails r1.2 z) (fun r3 hr3 => ?_)
      exact v_vreturn C hm dX4_sign_33 rfl
  · refine v_aload_n C dX4_sign_29 0 rfl ?_
    refine v_callV_mv C (As := []) (st := []) lkX4_290 dX4_sign_30 rfl (Nat.le_of_ble_eq_true rfl) (Nat.le_of_ble_eq_true rfl) (Nat.le_of_ble_eq_true rfl) (mRecv C) (fun _ z => met_X4_fails σ z) (fun r4 hr4 => ?_)
    exact v_vreturn C hm dX4_sign_33 rfl
theorem w_goes_201 {P : MP} {X : Ctx} {l : Launch} {S0 : MS} {F : Nat} (C : CX (OM P) X l cX4_goes 7 RX4 (some .int)) (hm : X.2.2.2.2.2.2.2.2.2 = none) {x1 : Int32} (k20 : Int32 → MS → Option (Int32 × MS)) (hk20 : ∀ (z2 : Int32) (τ : MS), VF (OM P) X 7 4 94 S0 f_mi (k20 z2 τ) τ 20 [(0, .ref (mad P 0)), (1, .int x1), (2, .int z2)] []) (σ : MS) : VF (OM P) X 7 4 94 S0 f_mi (M_goes_201 F k20 x1 σ) σ 201 [(0, .ref (mad P 0)), (1, .int x1)] [] := by
  unfold M_goes_201
  refine v_aload_n C dX4_goes_201 0 rfl ?_
  refine v_callV_mi C (As := []) (st := []) lkX4_281 dX4_goes_202 rfl (Nat.le_of_ble_eq_true rfl) (Nat.le_of_ble_eq_true rfl) (Nat.le_of_ble_eq_true rfl) (mRecv C) (fun _ z => met_X4_looking F σ z) (fun r16 hr16 => ?_)
  refine v_leti (fun y17 hy17 => ?_)
  refine v_istore_n C (lv' := [(2, .int y17), (0, .ref (mad P 0)), (1, .int x1)]) dX4_goes_205 (Nat.le_of_ble_eq_true rfl) rfl ?_
  refine v_goto C (tgt := 20) dX4_goes_206 rfl ?_
  exact v_sub [1, 2, 0] rfl (hk20 y17 r16.2)
theorem w_goes_197 {P : MP} {X : Ctx} {l : Launch} {S0 : MS} {F : Nat} (C : CX (OM P) X l cX4_goes 7 RX4 (some .int)) (hm : X.2.2.2.2.2.2.2.2.2 = none) {x1 : Int32} (k20 : Int32 → MS → Option (Int32 × MS)) (hk20 : ∀ (z2 : Int32) (τ : MS), VF (OM P) X 7 4 94 S0 f_mi (k20 z2 τ) τ 20 [(0, .ref (mad P 0)), (1, .int x1), (2, .int z2)] []) (s1 : Int32) (s2 : Int32) (σ : MS) : VF (OM P) X 7 4 94 S0 f_mi (M_goes_197 F k20 x1 s1 s2 σ) σ 197 [(0, .ref (mad P 0)), (1, .int x1)] [.int s2, .int s1, .ref (mad P 0)] := by
  unfold M_goes_197
  refine v_iadd C dX4_goes_197 ?_
  refine mp_done C dX4_goes_198 (fun σ19 hσ19 => ?_)
  exact v_sub [0, 1] rfl (w_goes_201 C hm k20 hk20 σ19)
theorem w_goes_180 {P : MP} {X : Ctx} {l : Launch} {S0 : MS} {F : Nat} (C : CX (OM P) X l cX4_goes 7 RX4 (some .int)) (hm : X.2.2.2.2.2.2.2.2.2 = none) {x1 : Int32} {x4 : Int32} {x5 : Int32} {x6 : Int32} (k20 : Int32 → MS → Option (Int32 × MS)) (hk20 : ∀ (z2 : Int32) (τ : MS), VF (OM P) X 7 4 94 S0 f_mi (k20 z2 τ) τ 20 [(0, .ref (mad P 0)), (1, .int x1), (2, .int z2)] []) (s1 : Int32) (s3 : Int32) (σ : MS) : VF (OM P) X 7 4 94 S0 f_mi (M_goes_180 F k20 x1 x4 x5 x6 s1 s3 σ) σ 180 [(0, .ref (mad P 0)), (1, .int x1), (4, .int x4), (5, .int x5), (6, .int x6)] [.int s3, .ref (mad P 0), .int s1, .ref (mad P 0)] := by
  unfold M_goes_180
  refine v_iload C dX4_goes_180 2 rfl ?_
  refine v_iload C dX4_goes_182 3 rfl ?_
  refine v_iload C dX4_goes_184 4 rfl ?_
  refine v_callV_mi C (As := [.int s3, .int x4, .int x5, .int x6]) (st := [.int s1, .ref (mad P 0)]) lkX4_302 dX4_goes_186 rfl (Nat.le_of_ble_eq_true rfl) (Nat.le_of_ble_eq_true rfl) (Nat.le_of_ble_eq_true rfl) (mRecv C) (fun _ z => met_X4_isDone F σ s3 x4 x5 x6 z) (fun r18 hr18 => ?_)
  refine v_if_eq C (tgt := 196) dX4_goes_189 rfl (fun _ => ?_) (fun _ => ?_)
  · refine v_iconst C dX4_goes_196 ci_0 ?_
    exact v_sub [0, 1] rfl (w_goes_197 C hm k20 hk20 s1 0 r18.2)
  · refine v_iconst C dX4_goes_192 ci_1 ?_
    refine v_goto C (tgt := 197) dX4_goes_193 rfl ?_
    exact v_sub [0, 1] rfl (w_goes_197 C hm k20 hk20 s1 1 r18.2)
theorem w_goes_155 {P : MP} {X : Ctx} {l : Launch} {S0 : MS} {F : Nat} (C : CX (OM P) X l cX4_goes 7 RX4 (some .int)) (hm : X.2.2.2.2.2.2.2.2.2 = none) {x1 : Int32} {x2 : Int32} {x3 : Int32} {x4 : Int32} {x5 : Int32} {x6 : Int32} (k20 : Int32 → MS → Option (Int32 × MS)) (hk20 : ∀ (z2 : Int32) (τ : MS), VF (OM P) X 7 4 94 S0 f_mi (k20 z2 τ) τ 20 [(0, .ref (mad P 0)), (1, .int x1), (2, .int z2)] []) (σ : MS) : VF (OM P) X 7 4 94 S0 f_mi (M_goes_155 F k20 x1 x2 x3 x4 x5 x6 σ) σ 155 [(0, .ref (mad P 0)), (1, .int x1), (2, .int x2), (3, .int x3), (4, .int x4), (5, .int x5), (6, .int x6)] [] := by
  unfold M_goes_155
  refine v_aload_n C dX4_goes_155 0 rfl ?_
  refine v_bipush C dX4_goes_156 cb_59 ?_
  refine v_callV_mv C (As := [.int 59]) (st := []) lkX4_299 dX4_goes_158 rfl (Nat.le_of_ble_eq_true rfl) (Nat.le_of_ble_eq_true rfl) (Nat.le_of_ble_eq_true rfl) (mRecv C) (fun _ z => met_X4_sign F σ 59 z) (fun r12 hr12 => ?_)
  refine v_iload_n C dX4_goes_161 1 rfl ?_
  refine v_if_eq C (tgt := 201) dX4_goes_162 rfl (fun _ => ?_) (fun _ => ?_)
  · exact v_sub [0, 1] rfl (w_goes_201 C hm k20 hk20 r12)
  · refine v_aload_n C dX4_goes_165 0 rfl ?_
    refine v_dup C dX4_goes_166 rfl ?_
    refine mg_done C dX4_goes_167 ?_
    refine v_aload_n C dX4_goes_170 0 rfl ?_
    refine v_iload_n C dX4_goes_171 3 rfl ?_
    refine v_if_eq C (tgt := 179) dX4_goes_172 rfl (fun _ => ?_) (fun _ => ?_)
    · refine v_iconst C dX4_goes_179 ci_0 ?_
      exact v_sub [0, 1, 4, 5, 6] rfl (w_goes_180 C hm k20 hk20 (mI r12 7) 0 r12)
    · refine v_iload_n C dX4_goes_175 2 rfl ?_
      refine v_goto C (tgt := 180) dX4_goes_176 rfl ?_
      exact v_sub [0, 1, 4, 5, 6] rfl (w_goes_180 C hm k20 hk20 (mI r12 7) x2 r12)
theorem w_goes_146 {P : MP} {X : Ctx} {l : Launch} {S0 : MS} {F : Nat} (C : CX (OM P) X l cX4_goes 7 RX4 (some .int)) (hm : X.2.2.2.2.2.2.2.2.2 = none) {x1 : Int32} {x2 : Int32} {x3 : Int32} {x4 : Int32} {x5 : Int32} (k20 : Int32 → MS → Option (Int32 × MS)) (hk20 : ∀ (z2 : Int32) (τ : MS), VF (OM P) X 7 4 94 S0 f_mi (k20 z2 τ) τ 20 [(0, .ref (mad P 0)), (1, .int x1), (2, .int z2)] []) (s1 : Int32) (σ : MS) : VF (OM P) X 7 4 94 S0 f_mi (M_goes_146 F k20 x1 x2 x3 x4 x5 s1 σ) σ 146 [(0, .ref (mad P 0)), (1, .int x1), (2, .int x2), (3, .int x3), (4, .int x4), (5, .int x5)] [.int s1, .ref (mad P 0)] := by
  unfold M_goes_146
  refine v_callV_mv C (As := [.int s1]) (st := []) lkX4_299 dX4_goes_146 rfl (Nat.le_of_ble_eq_true rfl) (Nat.le_of_ble_eq_true rfl) (Nat.le_of_ble_eq_true rfl) (mRecv C) (fun _ z => met_X4_sign F σ s1 z) (fun r13 hr13 => ?_)
  refine v_aload_n C dX4_goes_149 0 rfl ?_
  refine v_callV_mi C (As := []) (st := []) lkX4_296 dX4_goes_150 rfl (Nat.le_of_ble_eq_true rfl) (Nat.le_of_ble_eq_true rfl) (Nat.le_of_ble_eq_true rfl) (mRecv C) (fun _ z => met_X4_number F r13 z) (fun r14 hr14 => ?_)
  refine v_leti (fun y15 hy15 => ?_)
  refine v_istore C (lv' := [(6, .int y15), (0, .ref (mad P 0)), (1, .int x1), (2, .int x2), (3, .int x3), (4, .int x4), (5, .int x5)]) dX4_goes_153 (Nat.le_of_ble_eq_true rfl) rfl ?_
  exact v_sub [1, 2, 3, 4, 5, 6, 0] rfl (w_goes_155 C hm k20 hk20 r14.2)
theorem w_goes_132 {P : MP} {X : Ctx} {l : Launch} {S0 : MS} {F : Nat} (C : CX (OM P) X l cX4_goes 7 RX4 (some .int)) (hm : X.2.2.2.2.2.2.2.2.2 = none) {x1 : Int32} {x2 : Int32} {x3 : Int32} {x4 : Int32} {x5 : Int32} (k20 : Int32 → MS → Option (Int32 × MS)) (hk20 : ∀ (z2 : Int32) (τ : MS), VF (OM P) X 7 4 94 S0 f_mi (k20 z2 τ) τ 20 [(0, .ref (mad P 0)), (1, .int x1), (2, .int z2)] []) (σ : MS) : VF (OM P) X 7 4 94 S0 f_mi (M_goes_132 F k20 x1 x2 x3 x4 x5 σ) σ 132 [(0, .ref (mad P 0)), (1, .int x1), (2, .int x2), (3, .int x3), (4, .int x4), (5, .int x5)] [] := by
  unfold M_goes_132
  refine v_aload_n C dX4_goes_132 0 rfl ?_
  refine v_iload_n C dX4_goes_133 2 rfl ?_
  refine v_bipush C dX4_goes_134 cb_120 ?_
  refine v_icmp_ne C (tgt := 144) dX4_goes_136 rfl (fun _ => ?_) (fun _ => ?_)
  · refine v_bipush C dX4_goes_139 cb_45 ?_
    refine v_goto C (tgt := 146) dX4_goes_141 rfl ?_
    exact v_sub [0, 1, 2, 3, 4, 5] rfl (w_goes_146 C hm k20 hk20 45 σ)
  · refine v_bipush C dX4_goes_144 cb_58 ?_
    exact v_sub [0, 1, 2, 3, 4, 5] rfl (w_goes_146 C hm k20 hk20 58 σ)
theorem w_goes_110 {P : MP} {X : Ctx} {l : Launch} {S0 : MS} {F : Nat} (C : CX (OM P) X l cX4_goes 7 RX4 (some .int)) (hm : X.2.2.2.2.2.2.2.2.2 = none) {x1 : Int32} {x2 : Int32} {x3 : Int32} {x4 : Int32} (k20 : Int32 → MS → Option (Int32 × MS)) (hk20 : ∀ (z2 : Int32) (τ : MS), VF (OM P) X 7 4 94 S0 f_mi (k20 z2 τ) τ 20 [(0, .ref (mad P 0)), (1, .int x1), (2, .int z2)] []) (s1 : Int32) (σ : MS) : VF (OM P) X 7 4 94 S0 f_mi (M_goes_110 F k20 x1 x2 x3 x4 s1 σ) σ 110 [(0, .ref (mad P 0)), (1, .int x1), (2, .int x2), (3, .int x3), (4, .int x4)] [.int s1, .ref (mad P 0)] := by
  unfold M_goes_110
  refine v_callV_mv C (As := [.int s1]) (st := []) lkX4_299 dX4_goes_110 rfl (Nat.le_of_ble_eq_true rfl) (Nat.le_of_ble_eq_true rfl) (Nat.le_of_ble_eq_true rfl) (mRecv C) (fun _ z => met_X4_sign F σ s1 z) (fun r9 hr9 => ?_)
  refine v_aload_n C dX4_goes_113 0 rfl ?_
  refine v_callV_mi C (As := []) (st := []) lkX4_296 dX4_goes_114 rfl (Nat.le_of_ble_eq_true rfl) (Nat.le_of_ble_eq_true rfl) (Nat.le_of_ble_eq_true rfl) (mRecv C) (fun _ z => met_X4_number F r9 z) (fun r10 hr10 => ?_)
  refine v_leti (fun y11 hy11 => ?_)
  refine v_istore C (lv' := [(5, .int y11), (0, .ref (mad P 0)), (1, .int x1), (2, .int x2), (3, .int x3), (4, .int x4)]) dX4_goes_117 (Nat.le_of_ble_eq_true rfl) rfl ?_
  refine v_iconst C dX4_goes_119 ci_0 ?_
  refine v_istore C (lv' := [(6, .int 0), (5, .int y11), (0, .ref (mad P 0)), (1, .int x1), (2, .int x2), (3, .int x3), (4, .int x4)]) dX4_goes_120 (Nat.le_of_ble_eq_true rfl) rfl ?_
  refine v_iload_n C dX4_goes_122 4 rfl ?_
  refine v_bipush C dX4_goes_123 cb_120 ?_
  refine v_icmp_eq C (tgt := 132) dX4_goes_125 rfl (fun _ => ?_) (fun _ => ?_)
  · exact v_sub [2, 3, 4, 5, 6, 1] rfl (w_goes_132 C hm k20 hk20 r10.2)
  · refine v_iload_n C dX4_goes_128 5 rfl ?_
    refine v_if_ne C (tgt := 155) dX4_goes_129 rfl (fun _ => ?_) (fun _ => ?_)
    · exact v_sub [2, 3, 4, 5, 6, 1] rfl (w_goes_132 C hm k20 hk20 r10.2)
    · exact v_sub [2, 3, 4, 5, 6, 1, 0] rfl (w_goes_155 C hm k20 hk20 r10.2)
theorem w_goes_77 {P : MP} {X : Ctx} {l : Launch} {S0 : MS} {F : Nat} (C : CX (OM P) X l cX4_goes 7 RX4 (some .int)) (hm : X.2.2.2.2.2.2.2.2.2 = none) {x1 : Int32} {x2 : Int32} {x3 : Int32} (k20 : Int32 → MS → Option (Int32 × MS)) (hk20 : ∀ (z2 : Int32) (τ : MS), VF (OM P) X 7 4 94 S0 f_mi (k20 z2 τ) τ 20 [(0, .ref (mad P 0)), (1, .int x1), (2, .int z2)] []) (s1 : Int32) (s2 : Int32) (σ : MS) : VF (OM P) X 7 4 94 S0 f_mi (M_goes_77 F k20 x1 x2 x3 s1 s2 σ) σ 77 [(0, .ref (mad P 0)), (1, .int x1), (2, .int x2), (3, .int x3)] [.int s2, .int s1, .ref (mad P 0)] := by
  unfold M_goes_77
  refine v_iadd C dX4_goes_77 ?_
  refine mp_place C dX4_goes_78 (fun σ6 hσ6 => ?_)
  refine v_aload_n C dX4_goes_81 0 rfl ?_
  refine v_callV_mi C (As := []) (st := []) lkX4_296 dX4_goes_82 rfl (Nat.le_of_ble_eq_true rfl) (Nat.le_of_ble_eq_true rfl) (Nat.le_of_ble_eq_true rfl) (mRecv C) (fun _ z => met_X4_number F σ6 z) (fun r7 hr7 => ?_)
  refine v_leti (fun y8 hy8 => ?_)
  refine v_istore C (lv' := [(4, .int y8), (0, .ref (mad P 0)), (1, .int x1), (2, .int x2), (3, .int x3)]) dX4_goes_85 (Nat.le_of_ble_eq_true rfl) rfl ?_
  refine v_aload_n C dX4_goes_87 1 rfl ?_
  refine v_iload_n C dX4_goes_88 3 rfl ?_
  refine v_bipush C dX4_goes_89 cb_120 ?_
  refine v_icmp_ne C (tgt := 99) dX4_goes_91 rfl (fun _ => ?_) (fun _ => ?_)
  · refine v_bipush C dX4_goes_94 cb_58 ?_
    refine v_goto C (tgt := 110) dX4_goes_96 rfl ?_
    exact v_sub [1, 2, 3, 4, 0] rfl (w_goes_110 C hm k20 hk20 58 r7.2)
  · refine v_iload_n C dX4_goes_99 4 rfl ?_
    refine v_if_eq C (tgt := 108) dX4_goes_100 rfl (fun _ => ?_) (fun _ => ?_)
    · refine v_bipush C dX4_goes_108 cb_45 ?_
      exact v_sub [1, 2, 3, 4, 0] rfl (w_goes_110 C hm k20 hk20 45 r7.2)
    · refine v_bipush C dX4_goes_103 cb_61 ?_
      refine v_goto C (tgt := 110) dX4_goes_105 rfl ?_
      exact v_sub [1, 2, 3, 4, 0] rfl (w_goes_110 C hm k20 hk20 61 r7.2)
theorem w_goes_62 {P : MP} {X : Ctx} {l : Launch} {S0 : MS} {F : Nat} (C : CX (OM P) X l cX4_goes 7 RX4 (some .int)) (hm : X.2.2.2.2.2.2.2.2.2 = none) {x1 : Int32} {x2 : Int32} (k20 : Int32 → MS → Option (Int32 × MS)) (hk20 : ∀ (z2 : Int32) (τ : MS), VF (OM P) X 7 4 94 S0 f_mi (k20 z2 τ) τ 20 [(0, .ref (mad P 0)), (1, .int x1), (2, .int z2)] []) (s0 : Int32) (σ : MS) : VF (OM P) X 7 4 94 S0 f_mi (M_goes_62 F k20 x1 x2 s0 σ) σ 62 [(0, .ref (mad P 0)), (1, .int x1), (2, .int x2)] [.int s0] := by
  unfold M_goes_62
  refine v_istore_n C (lv' := [(3, .int s0), (0, .ref (mad P 0)), (1, .int x1), (2, .int x2)]) dX4_goes_62 (Nat.le_of_ble_eq_true rfl) rfl ?_
  refine v_aload_n C dX4_goes_63 1 rfl ?_
  refine v_dup C dX4_goes_64 rfl ?_
  refine mg_place C dX4_goes_65 ?_
  refine v_iload_n C dX4_goes_68 0 rfl ?_
  refine v_if_eq C (tgt := 76) dX4_goes_69 rfl (fun _ => ?_) (fun _ => ?_)
  · refine v_iconst C dX4_goes_76 ci_0 ?_
    exact v_sub [1, 2, 3, 0] rfl (w_goes_77 C hm k20 hk20 (mI σ 5) 0 σ)
  · refine v_iconst C dX4_goes_72 ci_1 ?_
    refine v_goto C (tgt := 77) dX4_goes_73 rfl ?_
    exact v_sub [1, 2, 3, 0] rfl (w_goes_77 C hm k20 hk20 (mI σ 5) 1 σ)
theorem w_goes_57 {P : MP} {X : Ctx} {l : Launch} {S0 : MS} {F : Nat} (C : CX (OM P) X l cX4_goes 7 RX4 (some .int)) (hm : X.2.2.2.2.2.2.2.2.2 = none) {x1 : Int32} {x2 : Int32} (k20 : Int32 → MS → Option (Int32 × MS)) (hk20 : ∀ (z2 : Int32) (τ : MS), VF (OM P) X 7 4 94 S0 f_mi (k20 z2 τ) τ 20 [(0, .ref (mad P 0)), (1, .int x1), (2, .int z2)] []) (σ : MS) : VF (OM P) X 7 4 94 S0 f_mi (M_goes_57 F k20 x1 x2 σ) σ 57 [(0, .ref (mad P 0)), (1, .int x1), (2, .int x2)] [] := by
  unfold M_goes_57
  refine v_iconst C dX4_goes_57 ci_1 ?_
  refine v_goto C (tgt := 62) dX4_goes_58 rfl ?_
  exact v_sub [0, 1, 2] rfl (w_goes_62 C hm k20 hk20 1 σ)
theorem w_goes_209 {P : MP} {X : Ctx} {l : Launch} {S0 : MS} {F : Nat} (C : CX (OM P) X l cX4_goes 7 RX4 (some .int)) (hm : X.2.2.2.2.2.2.2.2.2 = none) (σ : MS) : VF (OM P) X 7 4 94 S0 f_mi (M_goes_209 F σ) σ 209 [(0, .ref (mad P 0))] [] := by
  unfold M_goes_209
  refine v_aload_n C dX4_goes_209 0 rfl ?_
  refine mg_wrong C dX4_goes_210 ?_
  exact v_ireturn C hm dX4_goes_213 rfl
theorem w_goes_20 {P : MP} {X : Ctx} {l : Launch} {S0 : MS} {F : Nat} (C : CX (OM P) X l cX4_goes 7 RX4 (some .int)) (hm : X.2.2.2.2.2.2.2.2.2 = none) {x1 : Int32}  : ∀ (n : Nat) (x2 : Int32) (σ : MS), VF (OM P) X 7 4 94 S0 f_mi (M_goes_20 F x1 n x2 σ) σ 20 [(0, .ref (mad P 0)), (1, .int x1), (2, .int x2)] [] := by
  intro n
  induction n with
  | zero => intro x2 σ; exact VF.none
  | succ n ih =>
    intro x2 σ
    unfold M_goes_20
    refine v_aload_n C dX4_goes_20 0 rfl ?_
    refine mg_place C dX4_goes_21 ?_
    refine v_aload_n C dX4_goes_24 0 rfl ?_
    refine mg_length C dX4_goes_25 ?_
    refine v_icmp_ge C (tgt := 209) dX4_goes_28 rfl (fun _ => ?_) (fun _ => ?_)
    · exact v_sub [0] rfl (w_goes_209 C hm σ)
    · refine v_aload_n C dX4_goes_31 0 rfl ?_
      refine mg_wrong C dX4_goes_32 ?_
      refine v_iconst C dX4_goes_35 ci_m1 ?_
      refine v_icmp_ne C (tgt := 209) dX4_goes_36 rfl (fun _ => ?_) (fun _ => ?_)
      · refine v_iload_n C dX4_goes_39 2 rfl ?_
        refine v_bipush C dX4_goes_40 cb_119 ?_
        refine v_icmp_eq C (tgt := 57) dX4_goes_42 rfl (fun _ => ?_) (fun _ => ?_)
        · exact v_sub [0, 1, 2] rfl (w_goes_57 C hm (M_goes_20 F x1 n) ih σ)
        · refine v_iload_n C dX4_goes_45 2 rfl ?_
          refine v_bipush C dX4_goes_46 cb_118 ?_
          refine v_icmp_eq C (tgt := 57) dX4_goes_48 rfl (fun _ => ?_) (fun _ => ?_)
          · exact v_sub [0, 1, 2] rfl (w_goes_57 C hm (M_goes_20 F x1 n) ih σ)
          · refine v_iload_n C dX4_goes_51 2 rfl ?_
            refine v_bipush C dX4_goes_52 cb_120 ?_
            refine v_icmp_ne C (tgt := 61) dX4_goes_54 rfl (fun _ => ?_) (fun _ => ?_)
            · exact v_sub [0, 1, 2] rfl (w_goes_57 C hm (M_goes_20 F x1 n) ih σ)
            · refine v_iconst C dX4_goes_61 ci_0 ?_
              exact v_sub [0, 1, 2] rfl (w_goes_62 C hm (M_goes_20 F x1 n) ih 0 σ)
      · exact v_sub [0] rfl (w_goes_209 C hm σ)
theorem met_X4_goes {P : MP} {l : Launch} (F : Nat) (σ : MS) (x1 : Int32) {r : Int32 × MS} (h : M_goes F σ x1 = some r) : FM l (OM P) yX4_goes (ws_ yX4_goes cX4_goes 7 (some .int)) 4 94 [.ref (mad P 0), .int x1] σ (f_mi r) := by
  refine FM.of (own := RX4) (lv := [(0, .ref (mad P 0)), (1, .int x1)]) (OM_ok P) pl_X4 rfl (Nat.le_of_ble_eq_true rfl) rfl h OM_le (fun X C hm => ?_)
  unfold M_goes
  refine v_aload_n C dX4_goes_0 0 rfl ?_
  refine v_iconst C dX4_goes_1 ci_0 ?_
  refine mp_place C dX4_goes_2 (fun σ1 hσ1 => ?_)
  refine v_aload_n C dX4_goes_5 0 rfl ?_
  refine v_iconst C dX4_goes_6 ci_m1 ?_
  refine mp_wrong C dX4_goes_7 (fun σ2 hσ2 => ?_)
  refine v_aload_n C dX4_goes_10 0 rfl ?_
  refine v_iconst C dX4_goes_11 ci_0 ?_
  refine mp_done C dX4_goes_12 (fun σ3 hσ3 => ?_)
  refine v_aload_n C dX4_goes_15 0 rfl ?_
  refine v_callV_mi C (As := []) (st := []) lkX4_281 dX4_goes_16 rfl (Nat.le_of_ble_eq_true rfl) (Nat.le_of_ble_eq_true rfl) (Nat.le_of_ble_eq_true rfl) (mRecv C) (fun _ z => met_X4_looking F σ3 z) (fun r4 hr4 => ?_)
  refine v_leti (fun y5 hy5 => ?_)
  refine v_istore_n C (lv' := [(2, .int y5), (0, .ref (mad P 0)), (1, .int x1)]) dX4_goes_19 (Nat.le_of_ble_eq_true rfl) rfl ?_
  exact v_sub [1, 2, 0] rfl (w_goes_20 C hm F y5 r4.2)
theorem met_X4_fault {P : MP} {l : Launch} (F : Nat) (σ : MS) {r : Int32 × MS} (h : M_fault F σ = some r) : FM l (OM P) yX4_fault (ws_ yX4_fault cX4_fault 1 (some .int)) 5 120 [.ref (mad P 0)] σ (f_mi r) := by
  refine FM.of (own := RX4) (lv := [(0, .ref (mad P 0))]) (OM_ok P) pl_X4 rfl (Nat.le_of_ble_eq_true rfl) rfl h OM_le (fun X C hm => ?_)
  unfold M_fault
  refine v_aload_n C dX4_fault_0 0 rfl ?_
  refine v_iconst C dX4_fault_1 ci_0 ?_
  refine mp_refusal C dX4_fault_2 (fun σ1 hσ1 => ?_)
  refine v_aload_n C dX4_fault_5 0 rfl ?_
  refine v_iconst C dX4_fault_6 ci_0 ?_
  refine v_callV_mi C (As := [.int 0]) (st := []) lkX4_306 dX4_fault_7 rfl (Nat.le_of_ble_eq_true rfl) (Nat.le_of_ble_eq_true rfl) (Nat.le_of_ble_eq_true rfl) (mRecv C) (fun _ z => met_X4_goes F σ1 0 z) (fun r2 hr2 => ?_)
  exact v_ireturn C hm dX4_fault_10 rfl
theorem w_run_15 {P : MP} {X : Ctx} {l : Launch} {S0 : MS} {F : Nat} (C : CX (OM P) X l cX4_run 1 RX4 (some .int)) (hm : X.2.2.2.2.2.2.2.2.2 = none) (s1 : Int32) (σ : MS) : VF (OM P) X 1 5 120 S0 f_mi (M_run_15 F s1 σ) σ 15 [(0, .ref (mad P 0))] [.int s1, .ref (mad P 0)] := by
  unfold M_run_15
  refine v_callV_mi C (As := [.int s1]) (st := []) lkX4_61 dX4_run_15 rfl (Nat.le_of_ble_eq_true rfl) (Nat.le_of_ble_eq_true rfl) (Nat.le_of_ble_eq_true rfl) (mRecv C) (fun _ z => met_X4_refused σ s1 z) (fun r2 hr2 => ?_)
  refine v_if_eq C (tgt := 23) dX4_run_18 rfl (fun _ => ?_) (fun _ => ?_)
  · refine v_aload_n C dX4_run_23 0 rfl ?_
    refine v_callV_mv C (As := []) (st := []) lkX4_76 dX4_run_24 rfl (Nat.le_of_ble_eq_true rfl) (Nat.le_of_ble_eq_true rfl) (Nat.le_of_ble_eq_true rfl) (mRecv C) (fun _ z => met_X4_saves F r2.2 z) (fun r3 hr3 => ?_)
    refine v_aload_n C dX4_run_27 0 rfl ?_
    refine v_iconst C dX4_run_28 ci_1 ?_
    refine v_callV_mi C (As := [.int 1]) (st := []) lkX4_306 dX4_run_29 rfl (Nat.le_of_ble_eq_true rfl) (Nat.le_of_ble_eq_true rfl) (Nat.le_of_ble_eq_true rfl) (mRecv C) (fun _ z => met_X4_goes F r3 1 z) (fun r4 hr4 => ?_)
    refine v_pop C dX4_run_32 rfl ?_
    refine v_aload_n C dX4_run_33 0 rfl ?_
    refine mg_done C dX4_run_34 ?_
    exact v_ireturn C hm dX4_run_37 rfl
  · refine v_iconst C dX4_run_21 ci_0 ?_
    exact v_ireturn C hm dX4_run_22 rfl
theorem met_X4_run {P : MP} {l : Launch} (F : Nat) (σ : MS) {r : Int32 × MS} (h : M_run F σ = some r) : FM l (OM P) yX4_run (ws_ yX4_run cX4_run 1 (some .int)) 5 120 [.ref (mad P 0)] σ (f_mi r) := by
  refine FM.of (own := RX4) (lv := [(0, .ref (mad P 0))]) (OM_ok P) pl_X4 rfl (Nat.le_of_ble_eq_true rfl) rfl h OM_le (fun X C hm => ?_)
  unfold M_run
  refine v_aload_n C dX4_run_0 0 rfl ?_
  refine v_aload_n C dX4_run_1 0 rfl ?_
  refine v_iconst C dX4_run_2 ci_0 ?_
  refine v_callV_mi C (As := [.int 0]) (st := [.ref (mad P 0)]) lkX4_306 dX4_run_3 rfl (Nat.le_of_ble_eq_true rfl) (Nat.le_of_ble_eq_true rfl) (Nat.le_of_ble_eq_true rfl) (mRecv C) (fun _ z => met_X4_goes F σ 0 z) (fun r1 hr1 => ?_)
  refine v_iconst C dX4_run_6 ci_m1 ?_
  refine v_icmp_ne C (tgt := 14) dX4_run_7 rfl (fun _ => ?_) (fun _ => ?_)
  · refine v_iconst C dX4_run_10 ci_0 ?_
    refine v_goto C (tgt := 15) dX4_run_11 rfl ?_
    exact v_sub [0] rfl (w_run_15 C hm 0 r1.2)
  · refine v_iconst C dX4_run_14 ci_1 ?_
    exact v_sub [0] rfl (w_run_15 C hm 1 r1.2)
theorem met_X4_mix {P : MP} {l : Launch} (σ : MS) (x1 : Int64) {r : MS} (h : M_mix σ x1 = some r) : FM l (OM P) yX4_mix (ws_ yX4_mix cX4_mix 3 none) 0 0 [.ref (mad P 0), .long x1] σ (f_mv r) := by
  refine FM.of (own := RX4) (lv := [(0, .ref (mad P 0)), (1, .long x1)]) (OM_ok P) pl_X4 rfl (Nat.le_of_ble_eq_true rfl) rfl h OM_le (fun X C hm => ?_)
  unfold M_mix
  refine v_aload_n C dX4_mix_0 0 rfl ?_
  refine v_ldc2 C dX4_mix_1 q2513 ?_
  refine v_aload_n C dX4_mix_4 0 rfl ?_
  refine mg_hash C dX4_mix_5 ?_
  refine v_lmul C dX4_mix_8 ?_
  refine v_lload_n C dX4_mix_9 1 rfl ?_
  refine v_ladd C dX4_mix_10 ?_
  refine mp_hash C dX4_mix_11 (fun σ1 hσ1 => ?_)
  exact v_vreturn C hm dX4_mix_14 rfl
theorem w_mixCenters_187 {P : MP} {X : Ctx} {l : Launch} {S0 : MS} {F : Nat} (C : CX (OM P) X l cX4_mixCenters 4 RX4 none) (hm : X.2.2.2.2.2.2.2.2.2 = none) {x2 : Int32} (k154 : Int32 → MS → Option MS) (hk154 : ∀ (z2 : Int32) (τ : MS), VF (OM P) X 4 8 220 S0 f_mv (k154 z2 τ) τ 154 [(0, .ref (mad P 0)), (2, .int z2)] []) (σ : MS) : VF (OM P) X 4 8 220 S0 f_mv (M_mixCenters_187 F k154 x2 σ) σ 187 [(0, .ref (mad P 0)), (2, .int x2)] [] := by
  unfold M_mixCenters_187
  refine v_iincN C (lv' := fun y27 => [(2, .int y27), (0, .ref (mad P 0))]) dX4_mixCenters_187 1 rfl ci_1 (Nat.le_of_ble_eq_true rfl) (fun _ => rfl) (fun y27 hy27 => ?_)
  refine v_goto C (tgt := 154) dX4_mixCenters_190 rfl ?_
  exact v_sub [1, 0] rfl (hk154 y27 σ)
theorem w_mixCenters_164 {P : MP} {X : Ctx} {l : Launch} {S0 : MS} {F : Nat} (C : CX (OM P) X l cX4_mixCenters 4 RX4 none) (hm : X.2.2.2.2.2.2.2.2.2 = none) {x2 : Int32} (k154 : Int32 → MS → Option MS) (hk154 : ∀ (z2 : Int32) (τ : MS), VF (OM P) X 4 8 220 S0 f_mv (k154 z2 τ) τ 154 [(0, .ref (mad P 0)), (2, .int z2)] []) : ∀ (n : Nat) (x3 : Int32) (σ : MS), VF (OM P) X 4 8 220 S0 f_mv (M_mixCenters_164 F k154 x2 n x3 σ) σ 164 [(0, .ref (mad P 0)), (2, .int x2), (3, .int x3)] [] := by
  intro n
  induction n with
  | zero => intro x3 σ; exact VF.none
  | succ n ih =>
    intro x3 σ
    unfold M_mixCenters_164
    refine v_iload_n C dX4_mixCenters_164 2 rfl ?_
    refine v_iconst C dX4_mixCenters_165 ci_4 ?_
    refine v_icmp_ge C (tgt := 187) dX4_mixCenters_166 rfl (fun _ => ?_) (fun _ => ?_)
    · exact v_sub [0, 1] rfl (w_mixCenters_187 C hm k154 hk154 σ)
    · refine v_aload_n C dX4_mixCenters_169 0 rfl ?_
      refine v_aload_n C dX4_mixCenters_170 0 rfl ?_
      refine v_iload_n C dX4_mixCenters_171 1 rfl ?_
      refine v_iconst C dX4_mixCenters_172 ci_1 ?_
      refine v_iload_n C dX4_mixCenters_173 2 rfl ?_
      refine v_callV_mi C (As := [.int x2, .int 1, .int x3]) (st := [.ref (mad P 0)]) lkX4_230 dX4_mixCenters_174 rfl (Nat.le_of_ble_eq_true rfl) (Nat.le_of_ble_eq_true rfl) (Nat.le_of_ble_eq_true rfl) (mRecv C) (fun _ z => met_X4_cornerTold F σ x2 1 x3 z) (fun r24 hr24 => ?_)
      refine v_i2l C dX4_mixCenters_177 ?_
      refine v_callV_mv C (As := [.long ((r24.1).toInt64)]) (st := []) lkX4_315 dX4_mixCenters_178 rfl (Nat.le_of_ble_eq_true rfl) (Nat.le_of_ble_eq_true rfl) (Nat.le_of_ble_eq_true rfl) (mRecv C) (fun _ z => met_X4_mix r24.2 ((r24.1).toInt64) z) (fun r25 hr25 => ?_)
      refine v_iincN C (lv' := fun y26 => [(3, .int y26), (0, .ref (mad P 0)), (2, .int x2)]) dX4_mixCenters_181 2 rfl ci_1 (Nat.le_of_ble_eq_true rfl) (fun _ => rfl) (fun y26 hy26 => ?_)
      refine v_goto C (tgt := 164) dX4_mixCenters_184 rfl ?_
      exact v_sub [1, 2, 0] rfl (ih y26 r25)
theorem w_mixCenters_154 {P : MP} {X : Ctx} {l : Launch} {S0 : MS} {F : Nat} (C : CX (OM P) X l cX4_mixCenters 4 RX4 none) (hm : X.2.2.2.2.2.2.2.2.2 = none)   : ∀ (n : Nat) (x2 : Int32) (σ : MS), VF (OM P) X 4 8 220 S0 f_mv (M_mixCenters_154 F n x2 σ) σ 154 [(0, .ref (mad P 0)), (2, .int x2)] [] := by
  intro n
  induction n with
  | zero => intro x2 σ; exact VF.none
  | succ n ih =>
    intro x2 σ
    unfold M_mixCenters_154
    refine v_iload_n C dX4_mixCenters_154 1 rfl ?_
    refine v_aload_n C dX4_mixCenters_155 0 rfl ?_
    refine v_callV_ri C (As := []) (st := [.int x2]) lkX4_73 dX4_mixCenters_156 rfl (Nat.le_of_ble_eq_true rfl) (Nat.le_of_ble_eq_true rfl) (Nat.le_of_ble_eq_true rfl) (mRecv C) (fun _ z => met_X4_edgeMany σ z) (fun r23 hr23 => ?_)
    refine v_icmp_ge C (tgt := 193) dX4_mixCenters_159 rfl (fun _ => ?_) (fun _ => ?_)
    · exact v_vreturn C hm dX4_mixCenters_193 rfl
    · refine v_iconst C dX4_mixCenters_162 ci_0 ?_
      refine v_istore_n C (lv' := [(3, .int 0), (0, .ref (mad P 0)), (2, .int x2)]) dX4_mixCenters_163 (Nat.le_of_ble_eq_true rfl) rfl ?_
      exact v_sub [1, 2, 0] rfl (w_mixCenters_164 C hm (M_mixCenters_154 F n) ih F 0 σ)
theorem w_mixCenters_113 {P : MP} {X : Ctx} {l : Launch} {S0 : MS} {F : Nat} (C : CX (OM P) X l cX4_mixCenters 4 RX4 none) (hm : X.2.2.2.2.2.2.2.2.2 = none) (σ : MS) : VF (OM P) X 4 8 220 S0 f_mv (M_mixCenters_113 F σ) σ 113 [(0, .ref (mad P 0))] [] := by
  unfold M_mixCenters_113
  refine v_aload_n C dX4_mixCenters_113 0 rfl ?_
  refine v_iconst C dX4_mixCenters_114 ci_2 ?_
  refine v_callV_mv C (As := [.int 2]) (st := []) lkX4_266 dX4_mixCenters_115 rfl (Nat.le_of_ble_eq_true rfl) (Nat.le_of_ble_eq_true rfl) (Nat.le_of_ble_eq_true rfl) (mRecv C) (fun _ z => met_X4_laysBound F σ 2 z) (fun r18 hr18 => ?_)
  refine v_aload_n C dX4_mixCenters_118 0 rfl ?_
  refine v_aload_n C dX4_mixCenters_119 0 rfl ?_
  refine mg_boundP C dX4_mixCenters_120 ?_
  refine v_aload_n C dX4_mixCenters_123 0 rfl ?_
  refine mg_boundQ C dX4_mixCenters_124 ?_
  refine v_iconst C dX4_mixCenters_127 ci_0 ?_
  refine v_callS_ri C (As := [.long (mL r18 3), .long (mL r18 4), .int 0]) (st := [.ref (mad P 0)]) lkX4_156 dX4_mixCenters_128 rfl (Nat.le_of_ble_eq_true rfl) (Nat.le_of_ble_eq_true rfl) (Nat.le_of_ble_eq_true rfl) (fun _ z => met_X4_reduced F r18 (mL r18 3) (mL r18 4) 0 z) (fun r19 hr19 => ?_)
  refine v_i2l C dX4_mixCenters_131 ?_
  refine v_callV_mv C (As := [.long (r19.toInt64)]) (st := []) lkX4_315 dX4_mixCenters_132 rfl (Nat.le_of_ble_eq_true rfl) (Nat.le_of_ble_eq_true rfl) (Nat.le_of_ble_eq_true rfl) (mRecv C) (fun _ z => met_X4_mix r18 (r19.toInt64) z) (fun r20 hr20 => ?_)
  refine v_aload_n C dX4_mixCenters_135 0 rfl ?_
  refine v_aload_n C dX4_mixCenters_136 0 rfl ?_
  refine mg_boundP C dX4_mixCenters_137 ?_
  refine v_aload_n C dX4_mixCenters_140 0 rfl ?_
  refine mg_boundQ C dX4_mixCenters_141 ?_
  refine v_iconst C dX4_mixCenters_144 ci_1 ?_
  refine v_callS_ri C (As := [.long (mL r20 3), .long (mL r20 4), .int 1]) (st := [.ref (mad P 0)]) lkX4_156 dX4_mixCenters_145 rfl (Nat.le_of_ble_eq_true rfl) (Nat.le_of_ble_eq_true rfl) (Nat.le_of_ble_eq_true rfl) (fun _ z => met_X4_reduced F r20 (mL r20 3) (mL r20 4) 1 z) (fun r21 hr21 => ?_)
  refine v_i2l C dX4_mixCenters_148 ?_
  refine v_callV_mv C (As := [.long (r21.toInt64)]) (st := []) lkX4_315 dX4_mixCenters_149 rfl (Nat.le_of_ble_eq_true rfl) (Nat.le_of_ble_eq_true rfl) (Nat.le_of_ble_eq_true rfl) (mRecv C) (fun _ z => met_X4_mix r20 (r21.toInt64) z) (fun r22 hr22 => ?_)
  refine v_iconst C dX4_mixCenters_152 ci_0 ?_
  refine v_istore_n C (lv' := [(2, .int 0), (0, .ref (mad P 0))]) dX4_mixCenters_153 (Nat.le_of_ble_eq_true rfl) rfl ?_
  exact v_sub [1, 0] rfl (w_mixCenters_154 C hm F 0 r22)
theorem w_mixCenters_92 {P : MP} {X : Ctx} {l : Launch} {S0 : MS} {F : Nat} (C : CX (OM P) X l cX4_mixCenters 4 RX4 none) (hm : X.2.2.2.2.2.2.2.2.2 = none)   : ∀ (n : Nat) (x2 : Int32) (σ : MS), VF (OM P) X 4 8 220 S0 f_mv (M_mixCenters_92 F n x2 σ) σ 92 [(0, .ref (mad P 0)), (2, .int x2)] [] := by
  intro n
  induction n with
  | zero => intro x2 σ; exact VF.none
  | succ n ih =>
    intro x2 σ
    unfold M_mixCenters_92
    refine v_iload_n C dX4_mixCenters_92 1 rfl ?_
    refine v_iconst C dX4_mixCenters_93 ci_5 ?_
    refine v_icmp_ge C (tgt := 113) dX4_mixCenters_94 rfl (fun _ => ?_) (fun _ => ?_)
    · exact v_sub [0] rfl (w_mixCenters_113 C hm σ)
    · refine v_aload_n C dX4_mixCenters_97 0 rfl ?_
      refine v_aload_n C dX4_mixCenters_98 0 rfl ?_
      refine v_iload_n C dX4_mixCenters_99 1 rfl ?_
      refine v_callV_ri C (As := [.int x2]) (st := [.ref (mad P 0)]) lkX4_251 dX4_mixCenters_100 rfl (Nat.le_of_ble_eq_true rfl) (Nat.le_of_ble_eq_true rfl) (Nat.le_of_ble_eq_true rfl) (mRecv C) (fun _ z => met_X4_medianTold F σ x2 z) (fun r15 hr15 => ?_)
      refine v_i2l C dX4_mixCenters_103 ?_
      refine v_callV_mv C (As := [.long (r15.toInt64)]) (st := []) lkX4_315 dX4_mixCenters_104 rfl (Nat.le_of_ble_eq_true rfl) (Nat.le_of_ble_eq_true rfl) (Nat.le_of_ble_eq_true rfl) (mRecv C) (fun _ z => met_X4_mix σ (r15.toInt64) z) (fun r16 hr16 => ?_)
      refine v_iincN C (lv' := fun y17 => [(2, .int y17), (0, .ref (mad P 0))]) dX4_mixCenters_107 1 rfl ci_1 (Nat.le_of_ble_eq_true rfl) (fun _ => rfl) (fun y17 hy17 => ?_)
      refine v_goto C (tgt := 92) dX4_mixCenters_110 rfl ?_
      exact v_sub [1, 0] rfl (ih y17 r16)
theorem w_mixCenters_76 {P : MP} {X : Ctx} {l : Launch} {S0 : MS} {F : Nat} (C : CX (OM P) X l cX4_mixCenters 4 RX4 none) (hm : X.2.2.2.2.2.2.2.2.2 = none) {x1 : Int32} (σ : MS) : VF (OM P) X 4 8 220 S0 f_mv (M_mixCenters_76 F x1 σ) σ 76 [(0, .ref (mad P 0)), (1, .int x1)] [] := by
  unfold M_mixCenters_76
  refine v_aload_n C dX4_mixCenters_76 0 rfl ?_
  refine v_aload_n C dX4_mixCenters_77 0 rfl ?_
  refine v_iload_n C dX4_mixCenters_78 1 rfl ?_
  refine v_callV_ri C (As := [.int x1]) (st := [.ref (mad P 0)]) lkX4_245 dX4_mixCenters_79 rfl (Nat.le_of_ble_eq_true rfl) (Nat.le_of_ble_eq_true rfl) (Nat.le_of_ble_eq_true rfl) (mRecv C) (fun _ z => met_X4_criticalNow F σ x1 z) (fun r12 hr12 => ?_)
  refine v_i2l C dX4_mixCenters_82 ?_
  refine v_callV_mv C (As := [.long (r12.toInt64)]) (st := []) lkX4_315 dX4_mixCenters_83 rfl (Nat.le_of_ble_eq_true rfl) (Nat.le_of_ble_eq_true rfl) (Nat.le_of_ble_eq_true rfl) (mRecv C) (fun _ z => met_X4_mix σ (r12.toInt64) z) (fun r13 hr13 => ?_)
  refine v_aload_n C dX4_mixCenters_86 0 rfl ?_
  refine v_callV_mv C (As := []) (st := []) lkX4_248 dX4_mixCenters_87 rfl (Nat.le_of_ble_eq_true rfl) (Nat.le_of_ble_eq_true rfl) (Nat.le_of_ble_eq_true rfl) (mRecv C) (fun _ z => met_X4_medians F r13 z) (fun r14 hr14 => ?_)
  refine v_iconst C dX4_mixCenters_90 ci_0 ?_
  refine v_istore_n C (lv' := [(2, .int 0), (0, .ref (mad P 0)), (1, .int x1)]) dX4_mixCenters_91 (Nat.le_of_ble_eq_true rfl) rfl ?_
  exact v_sub [1, 0] rfl (w_mixCenters_92 C hm F 0 r14)
theorem w_mixCenters_55 {P : MP} {X : Ctx} {l : Launch} {S0 : MS} {F : Nat} (C : CX (OM P) X l cX4_mixCenters 4 RX4 none) (hm : X.2.2.2.2.2.2.2.2.2 = none) {x1 : Int32}  : ∀ (n : Nat) (x2 : Int32) (σ : MS), VF (OM P) X 4 8 220 S0 f_mv (M_mixCenters_55 F x1 n x2 σ) σ 55 [(0, .ref (mad P 0)), (1, .int x1), (2, .int x2)] [] := by
  intro n
  induction n with
  | zero => intro x2 σ; exact VF.none
  | succ n ih =>
    intro x2 σ
    unfold M_mixCenters_55
    refine v_iload_n C dX4_mixCenters_55 2 rfl ?_
    refine v_iconst C dX4_mixCenters_56 ci_3 ?_
    refine v_icmp_ge C (tgt := 76) dX4_mixCenters_57 rfl (fun _ => ?_) (fun _ => ?_)
    · exact v_sub [0, 1] rfl (w_mixCenters_76 C hm σ)
    · refine v_aload_n C dX4_mixCenters_60 0 rfl ?_
      refine v_aload_n C dX4_mixCenters_61 0 rfl ?_
      refine v_iload_n C dX4_mixCenters_62 2 rfl ?_
      refine v_callV_ri C (As := [.int x2]) (st := [.ref (mad P 0)]) lkX4_242 dX4_mixCenters_63 rfl (Nat.le_of_ble_eq_true rfl) (Nat.le_of_ble_eq_true rfl) (Nat.le_of_ble_eq_true rfl) (mRecv C) (fun _ z => met_X4_centerTold F σ x2 z) (fun r9 hr9 => ?_)
      refine v_i2l C dX4_mixCenters_66 ?_
      refine v_callV_mv C (As := [.long (r9.toInt64)]) (st := []) lkX4_315 dX4_mixCenters_67 rfl (Nat.le_of_ble_eq_true rfl) (Nat.le_of_ble_eq_true rfl) (Nat.le_of_ble_eq_true rfl) (mRecv C) (fun _ z => met_X4_mix σ (r9.toInt64) z) (fun r10 hr10 => ?_)
      refine v_iincN C (lv' := fun y11 => [(2, .int y11), (0, .ref (mad P 0)), (1, .int x1)]) dX4_mixCenters_70 2 rfl ci_1 (Nat.le_of_ble_eq_true rfl) (fun _ => rfl) (fun y11 hy11 => ?_)
      refine v_goto C (tgt := 55) dX4_mixCenters_73 rfl ?_
      exact v_sub [1, 2, 0] rfl (ih y11 r10)
theorem met_X4_mixCenters {P : MP} {l : Launch} (F : Nat) (σ : MS) {r : MS} (h : M_mixCenters F σ = some r) : FM l (OM P) yX4_mixCenters (ws_ yX4_mixCenters cX4_mixCenters 4 none) 8 220 [.ref (mad P 0)] σ (f_mv r) := by
  refine FM.of (own := RX4) (lv := [(0, .ref (mad P 0))]) (OM_ok P) pl_X4 rfl (Nat.le_of_ble_eq_true rfl) rfl h OM_le (fun X C hm => ?_)
  unfold M_mixCenters
  refine v_iconst C dX4_mixCenters_0 ci_1 ?_
  refine v_aload_n C dX4_mixCenters_1 0 rfl ?_
  refine v_callV_ri C (As := []) (st := [.int 1]) lkX4_65 dX4_mixCenters_2 rfl (Nat.le_of_ble_eq_true rfl) (Nat.le_of_ble_eq_true rfl) (Nat.le_of_ble_eq_true rfl) (mRecv C) (fun _ z => met_X4_many σ z) (fun r1 hr1 => ?_)
  refine v_ishl C dX4_mixCenters_5 ?_
  refine v_iconst C dX4_mixCenters_6 ci_1 ?_
  refine v_isub C dX4_mixCenters_7 ?_
  refine v_leti (fun y2 hy2 => ?_)
  refine v_istore_n C (lv' := [(1, .int y2), (0, .ref (mad P 0))]) dX4_mixCenters_8 (Nat.le_of_ble_eq_true rfl) rfl ?_
  refine v_aload_n C dX4_mixCenters_9 1 rfl ?_
  refine v_iconst C dX4_mixCenters_10 ci_0 ?_
  refine v_callV_mv C (As := [.int 0]) (st := []) lkX4_170 dX4_mixCenters_11 rfl (Nat.le_of_ble_eq_true rfl) (Nat.le_of_ble_eq_true rfl) (Nat.le_of_ble_eq_true rfl) (mRecv C) (fun _ z => met_X4_weighs F σ 0 z) (fun r3 hr3 => ?_)
  refine v_aload_n C dX4_mixCenters_14 1 rfl ?_
  refine v_iload_n C dX4_mixCenters_15 0 rfl ?_
  refine v_callV_mv C (As := [.int y2]) (st := []) lkX4_236 dX4_mixCenters_16 rfl (Nat.le_of_ble_eq_true rfl) (Nat.le_of_ble_eq_true rfl) (Nat.le_of_ble_eq_true rfl) (mRecv C) (fun _ z => met_X4_centers F r3 y2 z) (fun r4 hr4 => ?_)
  refine v_aload_n C dX4_mixCenters_19 1 rfl ?_
  refine v_aload_n C dX4_mixCenters_20 1 rfl ?_
  refine mg_bestHeight C dX4_mixCenters_21 ?_
  refine v_aload_n C dX4_mixCenters_24 1 rfl ?_
  refine mg_bestQ C dX4_mixCenters_25 ?_
  refine v_iconst C dX4_mixCenters_28 ci_0 ?_
  refine v_callS_ri C (As := [.long (mL r4 2), .long (mL r4 1), .int 0]) (st := [.ref (mad P 0)]) lkX4_156 dX4_mixCenters_29 rfl (Nat.le_of_ble_eq_true rfl) (Nat.le_of_ble_eq_true rfl) (Nat.le_of_ble_eq_true rfl) (fun _ z => met_X4_reduced F r4 (mL r4 2) (mL r4 1) 0 z) (fun r5 hr5 => ?_)
  refine v_i2l C dX4_mixCenters_32 ?_
  refine v_callV_mv C (As := [.long (r5.toInt64)]) (st := []) lkX4_315 dX4_mixCenters_33 rfl (Nat.le_of_ble_eq_true rfl) (Nat.le_of_ble_eq_true rfl) (Nat.le_of_ble_eq_true rfl) (mRecv C) (fun _ z => met_X4_mix r4 (r5.toInt64) z) (fun r6 hr6 => ?_)
  refine v_aload_n C dX4_mixCenters_36 1 rfl ?_
  refine v_aload_n C dX4_mixCenters_37 1 rfl ?_
  refine mg_bestHeight C dX4_mixCenters_38 ?_
  refine v_aload_n C dX4_mixCenters_41 1 rfl ?_
  refine mg_bestQ C dX4_mixCenters_42 ?_
  refine v_iconst C dX4_mixCenters_45 ci_1 ?_
  refine v_callS_ri C (As := [.long (mL r6 2), .long (mL r6 1), .int 1]) (st := [.ref (mad P 0)]) lkX4_156 dX4_mixCenters_46 rfl (Nat.le_of_ble_eq_true rfl) (Nat.le_of_ble_eq_true rfl) (Nat.le_of_ble_eq_true rfl) (fun _ z => met_X4_reduced F r6 (mL r6 2) (mL r6 1) 1 z) (fun r7 hr7 => ?_)
  refine v_i2l C dX4_mixCenters_49 ?_
  refine v_callV_mv C (As := [.long (r7.toInt64)]) (st := []) lkX4_315 dX4_mixCenters_50 rfl (Nat.le_of_ble_eq_true rfl) (Nat.le_of_ble_eq_true rfl) (Nat.le_of_ble_eq_true rfl) (mRecv C) (fun _ z => met_X4_mix r6 (r7.toInt64) z) (fun r8 hr8 => ?_)
  refine v_iconst C dX4_mixCenters_53 ci_0 ?_
  refine v_istore_n C (lv' := [(2, .int 0), (1, .int y2), (0, .ref (mad P 0))]) dX4_mixCenters_54 (Nat.le_of_ble_eq_true rfl) rfl ?_
  exact v_sub [2, 1, 0] rfl (w_mixCenters_55 C hm F 0 r8)
theorem w_checksum_69 {P : MP} {X : Ctx} {l : Launch} {S0 : MS} {F : Nat} (C : CX (OM P) X l cX4_checksum 3 RX4 (some .long)) (hm : X.2.2.2.2.2.2.2.2.2 = none) {x1 : Int32} (k37 : Int32 → MS → Option (Int64 × MS)) (hk37 : ∀ (z1 : Int32) (τ : MS), VF (OM P) X 3 9 243 S0 f_ml (k37 z1 τ) τ 37 [(0, .ref (mad P 0)), (1, .int z1)] []) (σ : MS) : VF (OM P) X 3 9 243 S0 f_ml (M_checksum_69 F k37 x1 σ) σ 69 [(0, .ref (mad P 0)), (1, .int x1)] [] := by
  unfold M_checksum_69
  refine v_iincN C (lv' := fun y11 => [(1, .int y11), (0, .ref (mad P 0))]) dX4_checksum_69 1 rfl ci_1 (Nat.le_of_ble_eq_true rfl) (fun _ => rfl) (fun y11 hy11 => ?_)
  refine v_goto C (tgt := 37) dX4_checksum_72 rfl ?_
  exact v_sub [1, 0] rfl (hk37 y11 σ)
theorem w_checksum_47 {P : MP} {X : Ctx} {l : Launch} {S0 : MS} {F : Nat} (C : CX (OM P) X l cX4_checksum 3 RX4 (some .long)) (hm : X.2.2.2.2.2.2.2.2.2 = none) {x1 : Int32} (k37 : Int32 → MS → Option (Int64 × MS)) (hk37 : ∀ (z1 : Int32) (τ : MS), VF (OM P) X 3 9 243 S0 f_ml (k37 z1 τ) τ 37 [(0, .ref (mad P 0)), (1, .int z1)] []) : ∀ (n : Nat) (x2 : Int32) (σ : MS), VF (OM P) X 3 9 243 S0 f_ml (M_checksum_47 F k37 x1 n x2 σ) σ 47 [(0, .ref (mad P 0)), (1, .int x1), (2, .int x2)] [] := by
  intro n
  induction n with
  | zero => intro x2 σ; exact VF.none
  | succ n ih =>
    intro x2 σ
    unfold M_checksum_47
    refine v_iload_n C dX4_checksum_47 2 rfl ?_
    refine v_iconst C dX4_checksum_48 ci_3 ?_
    refine v_icmp_ge C (tgt := 69) dX4_checksum_49 rfl (fun _ => ?_) (fun _ => ?_)
    · exact v_sub [0, 1] rfl (w_checksum_69 C hm k37 hk37 σ)
    · refine v_aload_n C dX4_checksum_52 0 rfl ?_
      refine v_aload_n C dX4_checksum_53 0 rfl ?_
      refine v_iload_n C dX4_checksum_54 1 rfl ?_
      refine v_iload_n C dX4_checksum_55 2 rfl ?_
      refine v_callV_ri C (As := [.int x1, .int x2]) (st := [.ref (mad P 0)]) lkX4_129 dX4_checksum_56 rfl (Nat.le_of_ble_eq_true rfl) (Nat.le_of_ble_eq_true rfl) (Nat.le_of_ble_eq_true rfl) (mRecv C) (fun _ z => met_X4_nodeTold F σ x1 x2 z) (fun r7 hr7 => ?_)
      refine v_i2l C dX4_checksum_59 ?_
      refine v_callV_mv C (As := [.long (r7.toInt64)]) (st := []) lkX4_315 dX4_checksum_60 rfl (Nat.le_of_ble_eq_true rfl) (Nat.le_of_ble_eq_true rfl) (Nat.le_of_ble_eq_true rfl) (mRecv C) (fun _ z => met_X4_mix σ (r7.toInt64) z) (fun r8 hr8 => ?_)
      refine v_iincN C (lv' := fun y9 => [(2, .int y9), (0, .ref (mad P 0)), (1, .int x1)]) dX4_checksum_63 2 rfl ci_1 (Nat.le_of_ble_eq_true rfl) (fun _ => rfl) (fun y9 hy9 => ?_)
      refine v_goto C (tgt := 47) dX4_checksum_66 rfl ?_
      exact v_sub [1, 2, 0] rfl (ih y9 r8)
theorem w_checksum_109 {P : MP} {X : Ctx} {l : Launch} {S0 : MS} {F : Nat} (C : CX (OM P) X l cX4_checksum 3 RX4 (some .long)) (hm : X.2.2.2.2.2.2.2.2.2 = none) {x1 : Int32} (k77 : Int32 → MS → Option (Int64 × MS)) (hk77 : ∀ (z1 : Int32) (τ : MS), VF (OM P) X 3 9 243 S0 f_ml (k77 z1 τ) τ 77 [(0, .ref (mad P 0)), (1, .int z1)] []) (σ : MS) : VF (OM P) X 3 9 243 S0 f_ml (M_checksum_109 F k77 x1 σ) σ 109 [(0, .ref (mad P 0)), (1, .int x1)] [] := by
  unfold M_checksum_109
  refine v_iincN C (lv' := fun y16 => [(1, .int y16), (0, .ref (mad P 0))]) dX4_checksum_109 1 rfl ci_1 (Nat.le_of_ble_eq_true rfl) (fun _ => rfl) (fun y16 hy16 => ?_)
  refine v_goto C (tgt := 77) dX4_checksum_112 rfl ?_
  exact v_sub [1, 0] rfl (hk77 y16 σ)
theorem w_checksum_87 {P : MP} {X : Ctx} {l : Launch} {S0 : MS} {F : Nat} (C : CX (OM P) X l cX4_checksum 3 RX4 (some .long)) (hm : X.2.2.2.2.2.2.2.2.2 = none) {x1 : Int32} (k77 : Int32 → MS → Option (Int64 × MS)) (hk77 : ∀ (z1 : Int32) (τ : MS), VF (OM P) X 3 9 243 S0 f_ml (k77 z1 τ) τ 77 [(0, .ref (mad P 0)), (1, .int z1)] []) : ∀ (n : Nat) (x2 : Int32) (σ : MS), VF (OM P) X 3 9 243 S0 f_ml (M_checksum_87 F k77 x1 n x2 σ) σ 87 [(0, .ref (mad P 0)), (1, .int x1), (2, .int x2)] [] := by
  intro n
  induction n with
  | zero => intro x2 σ; exact VF.none
  | succ n ih =>
    intro x2 σ
    unfold M_checksum_87
    refine v_iload_n C dX4_checksum_87 2 rfl ?_
    refine v_iconst C dX4_checksum_88 ci_3 ?_
    refine v_icmp_ge C (tgt := 109) dX4_checksum_89 rfl (fun _ => ?_) (fun _ => ?_)
    · exact v_sub [0, 1] rfl (w_checksum_109 C hm k77 hk77 σ)
    · refine v_aload_n C dX4_checksum_92 0 rfl ?_
      refine v_aload_n C dX4_checksum_93 0 rfl ?_
      refine v_iload_n C dX4_checksum_94 1 rfl ?_
      refine v_iload_n C dX4_checksum_95 2 rfl ?_
      refine v_callV_ri C (As := [.int x1, .int x2]) (st := [.ref (mad P 0)]) lkX4_79 dX4_checksum_96 rfl (Nat.le_of_ble_eq_true rfl) (Nat.le_of_ble_eq_true rfl) (Nat.le_of_ble_eq_true rfl) (mRecv C) (fun _ z => met_X4_of σ x1 x2 z) (fun r12 hr12 => ?_)
      refine v_i2l C dX4_checksum_99 ?_
      refine v_callV_mv C (As := [.long (r12.toInt64)]) (st := []) lkX4_315 dX4_checksum_100 rfl (Nat.le_of_ble_eq_true rfl) (Nat.le_of_ble_eq_true rfl) (Nat.le_of_ble_eq_true rfl) (mRecv C) (fun _ z => met_X4_mix σ (r12.toInt64) z) (fun r13 hr13 => ?_)
      refine v_iincN C (lv' := fun y14 => [(2, .int y14), (0, .ref (mad P 0)), (1, .int x1)]) dX4_checksum_103 2 rfl ci_1 (Nat.le_of_ble_eq_true rfl) (fun _ => rfl) (fun y14 hy14 => ?_)
      refine v_goto C (tgt := 87) dX4_checksum_106 rfl ?_
      exact v_sub [1, 2, 0] rfl (ih y14 r13)
theorem w_checksum_149 {P : MP} {X : Ctx} {l : Launch} {S0 : MS} {F : Nat} (C : CX (OM P) X l cX4_checksum 3 RX4 (some .long)) (hm : X.2.2.2.2.2.2.2.2.2 = none) {x1 : Int32} (k117 : Int32 → MS → Option (Int64 × MS)) (hk117 : ∀ (z1 : Int32) (τ : MS), VF (OM P) X 3 9 243 S0 f_ml (k117 z1 τ) τ 117 [(0, .ref (mad P 0)), (1, .int z1)] []) (σ : MS) : VF (OM P) X 3 9 243 S0 f_ml (M_checksum_149 F k117 x1 σ) σ 149 [(0, .ref (mad P 0)), (1, .int x1)] [] := by
  unfold M_checksum_149
  refine v_iincN C (lv' := fun y24 => [(1, .int y24), (0, .ref (mad P 0))]) dX4_checksum_149 1 rfl ci_1 (Nat.le_of_ble_eq_true rfl) (fun _ => rfl) (fun y24 hy24 => ?_)
  refine v_goto C (tgt := 117) dX4_checksum_152 rfl ?_
  exact v_sub [1, 0] rfl (hk117 y24 σ)
theorem w_checksum_127 {P : MP} {X : Ctx} {l : Launch} {S0 : MS} {F : Nat} (C : CX (OM P) X l cX4_checksum 3 RX4 (some .long)) (hm : X.2.2.2.2.2.2.2.2.2 = none) {x1 : Int32} (k117 : Int32 → MS → Option (Int64 × MS)) (hk117 : ∀ (z1 : Int32) (τ : MS), VF (OM P) X 3 9 243 S0 f_ml (k117 z1 τ) τ 117 [(0, .ref (mad P 0)), (1, .int z1)] []) : ∀ (n : Nat) (x2 : Int32) (σ : MS), VF (OM P) X 3 9 243 S0 f_ml (M_checksum_127 F k117 x1 n x2 σ) σ 127 [(0, .ref (mad P 0)), (1, .int x1), (2, .int x2)] [] := by
  intro n
  induction n with
  | zero => intro x2 σ; exact VF.none
  | succ n ih =>
    intro x2 σ
    unfold M_checksum_127
    refine v_iload_n C dX4_checksum_127 2 rfl ?_
    refine v_iconst C dX4_checksum_128 ci_3 ?_
    refine v_icmp_ge C (tgt := 149) dX4_checksum_129 rfl (fun _ => ?_) (fun _ => ?_)
    · exact v_sub [0, 1] rfl (w_checksum_149 C hm k117 hk117 σ)
    · refine v_aload_n C dX4_checksum_132 0 rfl ?_
      refine v_aload_n C dX4_checksum_133 0 rfl ?_
      refine v_iload_n C dX4_checksum_134 1 rfl ?_
      refine v_iload_n C dX4_checksum_135 2 rfl ?_
      refine v_callV_ri C (As := [.int x1, .int x2]) (st := [.ref (mad P 0)]) lkX4_100 dX4_checksum_136 rfl (Nat.le_of_ble_eq_true rfl) (Nat.le_of_ble_eq_true rfl) (Nat.le_of_ble_eq_true rfl) (mRecv C) (fun _ z => met_X4_at σ x1 x2 z) (fun r19 hr19 => ?_)
      refine v_i2l C dX4_checksum_139 ?_
      refine v_callV_mv C (As := [.long (r19.toInt64)]) (st := []) lkX4_315 dX4_checksum_140 rfl (Nat.le_of_ble_eq_true rfl) (Nat.le_of_ble_eq_true rfl) (Nat.le_of_ble_eq_true rfl) (mRecv C) (fun _ z => met_X4_mix σ (r19.toInt64) z) (fun r20 hr20 => ?_)
      refine v_iincN C (lv' := fun y21 => [(2, .int y21), (0, .ref (mad P 0)), (1, .int x1)]) dX4_checksum_143 2 rfl ci_1 (Nat.le_of_ble_eq_true rfl) (fun _ => rfl) (fun y21 hy21 => ?_)
      refine v_goto C (tgt := 127) dX4_checksum_146 rfl ?_
      exact v_sub [1, 2, 0] rfl (ih y21 r20)
theorem w_checksum_166 {P : MP} {X : Ctx} {l : Launch} {S0 : MS} {F : Nat} (C : CX (OM P) X l cX4_checksum 3 RX4 (some .long)) (hm : X.2.2.2.2.2.2.2.2.2 = none) (σ : MS) : VF (OM P) X 3 9 243 S0 f_ml (M_checksum_166 F σ) σ 166 [(0, .ref (mad P 0))] [] := by
  unfold M_checksum_166
  refine v_aload_n C dX4_checksum_166 0 rfl ?_
  refine v_aload_n C dX4_checksum_167 0 rfl ?_
  refine mg_length C dX4_checksum_168 ?_
  refine v_i2l C dX4_checksum_171 ?_
  refine v_callV_mv C (As := [.long ((mI σ 2).toInt64)]) (st := []) lkX4_315 dX4_checksum_172 rfl (Nat.le_of_ble_eq_true rfl) (Nat.le_of_ble_eq_true rfl) (Nat.le_of_ble_eq_true rfl) (mRecv C) (fun _ z => met_X4_mix σ ((mI σ 2).toInt64) z) (fun r22 hr22 => ?_)
  refine v_aload_n C dX4_checksum_175 0 rfl ?_
  refine v_aload_n C dX4_checksum_176 0 rfl ?_
  refine mg_saved C dX4_checksum_177 ?_
  refine v_i2l C dX4_checksum_180 ?_
  refine v_callV_mv C (As := [.long ((mI r22 0).toInt64)]) (st := []) lkX4_315 dX4_checksum_181 rfl (Nat.le_of_ble_eq_true rfl) (Nat.le_of_ble_eq_true rfl) (Nat.le_of_ble_eq_true rfl) (mRecv C) (fun _ z => met_X4_mix r22 ((mI r22 0).toInt64) z) (fun r23 hr23 => ?_)
  refine v_aload_n C dX4_checksum_184 0 rfl ?_
  refine mg_hash C dX4_checksum_185 ?_
  exact v_lreturn C hm dX4_checksum_188 rfl
theorem w_checksum_155 {P : MP} {X : Ctx} {l : Launch} {S0 : MS} {F : Nat} (C : CX (OM P) X l cX4_checksum 3 RX4 (some .long)) (hm : X.2.2.2.2.2.2.2.2.2 = none) (σ : MS) : VF (OM P) X 3 9 243 S0 f_ml (M_checksum_155 F σ) σ 155 [(0, .ref (mad P 0))] [] := by
  unfold M_checksum_155
  refine v_aload_n C dX4_checksum_155 0 rfl ?_
  refine v_callV_mi C (As := []) (st := []) lkX4_233 dX4_checksum_156 rfl (Nat.le_of_ble_eq_true rfl) (Nat.le_of_ble_eq_true rfl) (Nat.le_of_ble_eq_true rfl) (mRecv C) (fun _ z => met_X4_canHave F σ z) (fun r17 hr17 => ?_)
  refine v_if_eq C (tgt := 166) dX4_checksum_159 rfl (fun _ => ?_) (fun _ => ?_)
  · exact v_sub [0] rfl (w_checksum_166 C hm r17.2)
  · refine v_aload_n C dX4_checksum_162 0 rfl ?_
    refine v_callV_mv C (As := []) (st := []) lkX4_321 dX4_checksum_163 rfl (Nat.le_of_ble_eq_true rfl) (Nat.le_of_ble_eq_true rfl) (Nat.le_of_ble_eq_true rfl) (mRecv C) (fun _ z => met_X4_mixCenters F r17.2 z) (fun r18 hr18 => ?_)
    exact v_sub [0] rfl (w_checksum_166 C hm r18)
theorem w_checksum_117 {P : MP} {X : Ctx} {l : Launch} {S0 : MS} {F : Nat} (C : CX (OM P) X l cX4_checksum 3 RX4 (some .long)) (hm : X.2.2.2.2.2.2.2.2.2 = none)   : ∀ (n : Nat) (x1 : Int32) (σ : MS), VF (OM P) X 3 9 243 S0 f_ml (M_checksum_117 F n x1 σ) σ 117 [(0, .ref (mad P 0)), (1, .int x1)] [] := by
  intro n
  induction n with
  | zero => intro x1 σ; exact VF.none
  | succ n ih =>
    intro x1 σ
    unfold M_checksum_117
    refine v_iload_n C dX4_checksum_117 1 rfl ?_
    refine v_aload_n C dX4_checksum_118 0 rfl ?_
    refine v_callV_ri C (As := []) (st := [.int x1]) lkX4_97 dX4_checksum_119 rfl (Nat.le_of_ble_eq_true rfl) (Nat.le_of_ble_eq_true rfl) (Nat.le_of_ble_eq_true rfl) (mRecv C) (fun _ z => met_X4_stretchMany σ z) (fun r15 hr15 => ?_)
    refine v_icmp_ge C (tgt := 155) dX4_checksum_122 rfl (fun _ => ?_) (fun _ => ?_)
    · exact v_sub [0] rfl (w_checksum_155 C hm σ)
    · refine v_iconst C dX4_checksum_125 ci_0 ?_
      refine v_istore_n C (lv' := [(2, .int 0), (0, .ref (mad P 0)), (1, .int x1)]) dX4_checksum_126 (Nat.le_of_ble_eq_true rfl) rfl ?_
      exact v_sub [1, 2, 0] rfl (w_checksum_127 C hm (M_checksum_117 F n) ih F 0 σ)
theorem w_checksum_115 {P : MP} {X : Ctx} {l : Launch} {S0 : MS} {F : Nat} (C : CX (OM P) X l cX4_checksum 3 RX4 (some .long)) (hm : X.2.2.2.2.2.2.2.2.2 = none) (σ : MS) : VF (OM P) X 3 9 243 S0 f_ml (M_checksum_115 F σ) σ 115 [(0, .ref (mad P 0))] [] := by
  unfold M_checksum_115
  refine v_iconst C dX4_checksum_115 ci_0 ?_
  refine v_istore_n C (lv' := [(1, .int 0), (0, .ref (mad P 0))]) dX4_checksum_116 (Nat.le_of_ble_eq_true rfl) rfl ?_
  exact v_sub [1, 0] rfl (w_checksum_117 C hm F 0 σ)
theorem w_checksum_77 {P : MP} {X : Ctx} {l : Launch} {S0 : MS} {F : Nat} (C : CX (OM P) X l cX4_checksum 3 RX4 (some .long)) (hm : X.2.2.2.2.2.2.2.2.2 = none)   : ∀ (n : Nat) (x1 : Int32) (σ : MS), VF (OM P) X 3 9 243 S0 f_ml (M_checksum_77 F n x1 σ) σ 77 [(0, .ref (mad P 0)), (1, .int x1)] [] := by
  intro n
  induction n with
  | zero => intro x1 σ; exact VF.none
  | succ n ih =>
    intro x1 σ
    unfold M_checksum_77
    refine v_iload_n C dX4_checksum_77 1 rfl ?_
    refine v_aload_n C dX4_checksum_78 0 rfl ?_
    refine v_callV_ri C (As := []) (st := [.int x1]) lkX4_73 dX4_checksum_79 rfl (Nat.le_of_ble_eq_true rfl) (Nat.le_of_ble_eq_true rfl) (Nat.le_of_ble_eq_true rfl) (mRecv C) (fun _ z => met_X4_edgeMany σ z) (fun r10 hr10 => ?_)
    refine v_icmp_ge C (tgt := 115) dX4_checksum_82 rfl (fun _ => ?_) (fun _ => ?_)
    · exact v_sub [0] rfl (w_checksum_115 C hm σ)
    · refine v_iconst C dX4_checksum_85 ci_0 ?_
      refine v_istore_n C (lv' := [(2, .int 0), (0, .ref (mad P 0)), (1, .int x1)]) dX4_checksum_86 (Nat.le_of_ble_eq_true rfl) rfl ?_
      exact v_sub [1, 2, 0] rfl (w_checksum_87 C hm (M_checksum_77 F n) ih F 0 σ)
theorem w_checksum_75 {P : MP} {X : Ctx} {l : Launch} {S0 : MS} {F : Nat} (C : CX (OM P) X l cX4_checksum 3 RX4 (some .long)) (hm : X.2.2.2.2.2.2.2.2.2 = none) (σ : MS) : VF (OM P) X 3 9 243 S0 f_ml (M_checksum_75 F σ) σ 75 [(0, .ref (mad P 0))] [] := by
  unfold M_checksum_75
  refine v_iconst C dX4_checksum_75 ci_0 ?_
  refine v_istore_n C (lv' := [(1, .int 0), (0, .ref (mad P 0))]) dX4_checksum_76 (Nat.le_of_ble_eq_true rfl) rfl ?_
  exact v_sub [1, 0] rfl (w_checksum_77 C hm F 0 σ)
theorem w_checksum_37 {P : MP} {X : Ctx} {l : Launch} {S0 : MS} {F : Nat} (C : CX (OM P) X l cX4_checksum 3 RX4 (some .long)) (hm : X.2.2.2.2.2.2.2.2.2 = none)   : ∀ (n : Nat) (x1 : Int32) (σ : MS), VF (OM P) X 3 9 243 S0 f_ml (M_checksum_37 F n x1 σ) σ 37 [(0, .ref (mad P 0)), (1, .int x1)] [] := by
  intro n
  induction n with
  | zero => intro x1 σ; exact VF.none
  | succ n ih =>
    intro x1 σ
    unfold M_checksum_37
    refine v_iload_n C dX4_checksum_37 1 rfl ?_
    refine v_aload_n C dX4_checksum_38 0 rfl ?_
    refine v_callV_ri C (As := []) (st := [.int x1]) lkX4_65 dX4_checksum_39 rfl (Nat.le_of_ble_eq_true rfl) (Nat.le_of_ble_eq_true rfl) (Nat.le_of_ble_eq_true rfl) (mRecv C) (fun _ z => met_X4_many σ z) (fun r6 hr6 => ?_)
    refine v_icmp_ge C (tgt := 75) dX4_checksum_42 rfl (fun _ => ?_) (fun _ => ?_)
    · exact v_sub [0] rfl (w_checksum_75 C hm σ)
    · refine v_iconst C dX4_checksum_45 ci_0 ?_
      refine v_istore_n C (lv' := [(2, .int 0), (0, .ref (mad P 0)), (1, .int x1)]) dX4_checksum_46 (Nat.le_of_ble_eq_true rfl) rfl ?_
      exact v_sub [1, 2, 0] rfl (w_checksum_47 C hm (M_checksum_37 F n) ih F 0 σ)
theorem w_checksum_35 {P : MP} {X : Ctx} {l : Launch} {S0 : MS} {F : Nat} (C : CX (OM P) X l cX4_checksum 3 RX4 (some .long)) (hm : X.2.2.2.2.2.2.2.2.2 = none) (σ : MS) : VF (OM P) X 3 9 243 S0 f_ml (M_checksum_35 F σ) σ 35 [(0, .ref (mad P 0))] [] := by
  unfold M_checksum_35
  refine v_iconst C dX4_checksum_35 ci_0 ?_
  refine v_istore_n C (lv' := [(1, .int 0), (0, .ref (mad P 0))]) dX4_checksum_36 (Nat.le_of_ble_eq_true rfl) rfl ?_
  exact v_sub [1, 0] rfl (w_checksum_37 C hm F 0 σ)
theorem w_checksum_14 {P : MP} {X : Ctx} {l : Launch} {S0 : MS} {F : Nat} (C : CX (OM P) X l cX4_checksum 3 RX4 (some .long)) (hm : X.2.2.2.2.2.2.2.2.2 = none)   : ∀ (n : Nat) (x1 : Int32) (σ : MS), VF (OM P) X 3 9 243 S0 f_ml (M_checksum_14 F n x1 σ) σ 14 [(0, .ref (mad P 0)), (1, .int x1)] [] := by
  intro n
  induction n with
  | zero => intro x1 σ; exact VF.none
  | succ n ih =>
    intro x1 σ
    unfold M_checksum_14
    refine v_iload_n C dX4_checksum_14 1 rfl ?_
    refine v_iconst C dX4_checksum_15 ci_4 ?_
    refine v_icmp_ge C (tgt := 35) dX4_checksum_16 rfl (fun _ => ?_) (fun _ => ?_)
    · exact v_sub [0] rfl (w_checksum_35 C hm σ)
    · refine v_aload_n C dX4_checksum_19 0 rfl ?_
      refine v_aload_n C dX4_checksum_20 0 rfl ?_
      refine v_iload_n C dX4_checksum_21 1 rfl ?_
      refine v_callV_mi C (As := [.int x1]) (st := [.ref (mad P 0)]) lkX4_126 dX4_checksum_22 rfl (Nat.le_of_ble_eq_true rfl) (Nat.le_of_ble_eq_true rfl) (Nat.le_of_ble_eq_true rfl) (mRecv C) (fun _ z => met_X4_counted F σ x1 z) (fun r3 hr3 => ?_)
      refine v_i2l C dX4_checksum_25 ?_
      refine v_callV_mv C (As := [.long ((r3.1).toInt64)]) (st := []) lkX4_315 dX4_checksum_26 rfl (Nat.le_of_ble_eq_true rfl) (Nat.le_of_ble_eq_true rfl) (Nat.le_of_ble_eq_true rfl) (mRecv C) (fun _ z => met_X4_mix r3.2 ((r3.1).toInt64) z) (fun r4 hr4 => ?_)
      refine v_iincN C (lv' := fun y5 => [(1, .int y5), (0, .ref (mad P 0))]) dX4_checksum_29 1 rfl ci_1 (Nat.le_of_ble_eq_true rfl) (fun _ => rfl) (fun y5 hy5 => ?_)
      refine v_goto C (tgt := 14) dX4_checksum_32 rfl ?_
      exact v_sub [1, 0] rfl (ih y5 r4)
theorem met_X4_checksum {P : MP} {l : Launch} (F : Nat) (σ : MS) {r : Int64 × MS} (h : M_checksum F σ = some r) : FM l (OM P) yX4_checksum (ws_ yX4_checksum cX4_checksum 3 (some .long)) 9 243 [.ref (mad P 0)] σ (f_ml r) := by
  refine FM.of (own := RX4) (lv := [(0, .ref (mad P 0))]) (OM_ok P) pl_X4 rfl (Nat.le_of_ble_eq_true rfl) rfl h OM_le (fun X C hm => ?_)
  unfold M_checksum
  refine v_aload_n C dX4_checksum_0 0 rfl ?_
  refine v_iconst C dX4_checksum_1 ci_0 ?_
  refine mp_refusal C dX4_checksum_2 (fun σ1 hσ1 => ?_)
  refine v_aload_n C dX4_checksum_5 0 rfl ?_
  refine v_ldc2 C dX4_checksum_6 q2508 ?_
  refine mp_hash C dX4_checksum_9 (fun σ2 hσ2 => ?_)
  refine v_iconst C dX4_checksum_12 ci_0 ?_
  refine v_istore_n C (lv' := [(1, .int 0), (0, .ref (mad P 0))]) dX4_checksum_13 (Nat.le_of_ble_eq_true rfl) rfl ?_
  exact v_sub [1, 0] rfl (w_checksum_14 C hm F 0 σ2)
