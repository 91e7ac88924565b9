/-! THE CLASS READS COMMANDS -/
theorem pb_assoc {α β γ : Type} (r : Nat ⊕ α) (f : α → Nat ⊕ β) (g : β → Nat ⊕ γ) : pb (pb r f) g = pb r (fun a => pb (f a) g) := by
  cases r <;> rfl
def twoP (t : List Int) (z : Int) (p : Nat) : Nat ⊕ (Int × Int × Nat) := pb (num t p) fun a => pb (sgn t z a.2) fun q => pb (num t q) fun b => .inr (a.1, b.1, b.2)
theorem cmdP_two (t : List Int) (q : Nat) : cmdP t q = pb (twoP t (if chr t q = 120 then 58 else if isLt (chr t q) then 61 else 45) (if isLt (chr t q) then q + 1 else q)) fun w =>
    if chr t q = 120 ∨ ¬ isLt (chr t q) then pb (sgn t (if chr t q = 120 then 45 else 58) w.2.2) fun p => pb (num t p) fun d => pb (sgn t 59 d.2) fun p => .inr ((if isLt (chr t q) then chr t q else 0, w.1, w.2.1, d.1), p)
    else pb (sgn t 59 w.2.2) fun p => .inr ((if isLt (chr t q) then chr t q else 0, w.1, w.2.1, 0), p) := by
  unfold cmdP twoP
  dsimp only
  rw [pb_assoc]
  congr 1
  funext a
  rw [pb_assoc]
  congr 1
  funext p
  rw [pb_assoc]
  rfl
/-- which constant of Kind -/
def kIx (k : Int) : Nat := if k = 0 then 0 else if k = 119 then 1 else if k = 118 then 2 else 3
theorem twoP_ok {t : List Int} {z : Int} {p : Nat} (hz : z ≠ 0) (hp : p ≤ t.length) {w : Int × Int × Nat} (h : twoP t z p = .inr w) : w.2.2 ≤ t.length := by
  unfold twoP at h
  obtain ⟨a, ha, h⟩ := pb_inr h
  obtain ⟨a1, a2, -⟩ := (num_ok hp).2 a.1 a.2 ha
  obtain ⟨q, hq, h⟩ := pb_inr h
  obtain ⟨b1, b2⟩ := (sgn_ok hz a2).2 q hq
  obtain ⟨b, hb, h⟩ := pb_inr h
  obtain ⟨c1, c2, -⟩ := (num_ok b2).2 b.1 b.2 hb
  have := Sum.inr.inj h
  rw [← this]; exact c2
section RC
variable {S0 S T : St} {c d y tx nb p : Nat} {kd : Value} {t : List Int} {g : Nat → Int32} {F : Nat} {ek : Nat → Nat}
theorem C_two {z : Int} (hX : rdX0 S0 tx t) (h : rdT S0 S c d y tx nb kd p g) (hp : p ≤ t.length) (hz : 0 < z) (hz2 : z ≤ 126) (hF : 4294967296 < F) : RdO (U_X10_two F ek S y 0 (i32 z)) (C_X10_two F ek S y 0 (i32 z)) (twoP t z p) (QFt S0 y nb c d) (fun w T => ∃ g', rdT S0 T c d y tx nb kd w.2.2 g' ∧ g' 0 = i32 w.1 ∧ g' 1 = i32 w.2.1) := by
  unfold U_X10_two C_X10_two twoP
  rw [gO_of h.2.2.2.1, gA_of (k := 1) h.2.2.2.1 rfl]
  refine RdO.let (RdO.let (RdO.seq (C_number hX h hp hF) ?_))
  rintro ⟨a, q⟩ ⟨v, V⟩ ea ⟨rfl, hV⟩
  obtain ⟨a1, a2, -⟩ := (num_ok hp).2 a q ea
  dsimp only at hV ⊢
  obtain ⟨V2, e1, e2⟩ := hV.setn (i := 0) (v := i32 a) hX (by decide)
  rw [show (0 : Int32) = i32 ((0 : Nat) : Int) from rfl, e1]
  refine RdO.let (RdO.seq (C_expect hX e2 a2 hz hz2 hF) ?_)
  intro q2 V3 eq2 h3
  obtain ⟨b1, b2⟩ := (sgn_ok (by omega) a2).2 q2 eq2
  rw [gA_of (k := 1) h3.2.2.2.1 rfl]
  refine RdO.let (RdO.seq (C_number hX h3 b2 hF) ?_)
  rintro ⟨b, q3⟩ ⟨v, V4⟩ eb ⟨rfl, h4⟩
  dsimp only at h4 ⊢
  obtain ⟨V5, e5, e6⟩ := h4.setn (i := 1) (v := i32 b) hX (by decide)
  refine ⟨rfl, ?_⟩
  show Rt ((tI V4 0 nb (i32 ((1 : Nat) : Int)) (i32 b)) >>= _) _
  rw [e5]
  exact Rt.let (Rt.some ⟨_, e6, by rw [upd_at, if_neg (by decide), upd_at, if_pos rfl], by rw [upd_at, if_pos rfl]⟩)
/-- the end of a command of three numbers -/
theorem C_three {z : Int} {w : Int × Int × Nat} {K : Int} (hX : rdX0 S0 tx t) (h : rdT S0 S c d y tx nb kd w.2.2 g) (hw : w.2.2 ≤ t.length) (h0 : g 0 = i32 w.1) (h1 : g 1 = i32 w.2.1) (hz : 0 < z) (hz2 : z ≤ 126) (hF : 4294967296 < F) :
    RdO (torU (U_X10_expect F ek S y (i32 z)) ((C_X10_expect F ek S y (i32 z)) >>= fun r6 => (gA r6 9 y 1) >>= fun y7 => torU (U_X10_number F ek r6 y) ((C_X10_number F ek r6 y) >>= fun r8 => (tI r8.2 0 y7 2 (r8.1)) >>= fun S9 => U_X10_command_156 F ek y S9)))
      ((C_X10_expect F ek S y (i32 z)) >>= fun r6 => (gA r6 9 y 1) >>= fun y7 => (C_X10_number F ek r6 y) >>= fun r8 => (tI r8.2 0 y7 2 (r8.1)) >>= fun S9 => C_X10_command_156 F ek y S9)
      (pb (sgn t z w.2.2) fun p => pb (num t p) fun d => pb (sgn t 59 d.2) fun p => .inr ((K, w.1, w.2.1, d.1), p) : Nat ⊕ (Cmd × Nat)) (QFt S0 y nb c d) (fun v T => ∃ g', rdT S0 T c d y tx nb kd v.2 g' ∧ g' 0 = i32 v.1.2.1 ∧ g' 1 = i32 v.1.2.2.1 ∧ g' 2 = i32 v.1.2.2.2) := by
  refine RdO.seq (C_expect hX h hw hz hz2 hF) ?_
  intro q V eq hV
  obtain ⟨b1, b2⟩ := (sgn_ok (by omega) hw).2 q eq
  rw [gA_of (k := 1) hV.2.2.2.1 rfl]
  refine RdO.let (RdO.seq (C_number hX hV b2 hF) ?_)
  rintro ⟨b, q3⟩ ⟨v, V4⟩ eb ⟨rfl, h4⟩
  obtain ⟨c1, c2, -⟩ := (num_ok b2).2 b q3 eb
  dsimp only at h4 ⊢
  obtain ⟨V5, e5, e6⟩ := h4.setn (i := 2) (v := i32 b) hX (by decide)
  rw [show (2 : Int32) = i32 ((2 : Nat) : Int) from rfl, e5]
  refine RdO.let ?_
  unfold U_X10_command_156 C_X10_command_156
  refine RdO.seq (C_expect (z := 59) hX e6 c2 (by decide) (by decide) hF) ?_
  intro q5 V6 _ h6
  exact ⟨rfl, Rt.some ⟨_, h6, by rw [upd_at, if_neg (by decide)]; exact h0, by rw [upd_at, if_neg (by decide)]; exact h1, by rw [upd_at, if_pos rfl]⟩⟩
/-- the end of a command of two numbers -/
theorem C_twoEnd {w : Int × Int × Nat} {K : Int} (hX : rdX0 S0 tx t) (h : rdT S0 S c d y tx nb kd w.2.2 g) (hw : w.2.2 ≤ t.length) (h0 : g 0 = i32 w.1) (h1 : g 1 = i32 w.2.1) (hF : 4294967296 < F) :
    RdO (U_X10_command_156 F ek y S) (C_X10_command_156 F ek y S) (pb (sgn t 59 w.2.2) fun p => .inr ((K, w.1, w.2.1, 0), p) : Nat ⊕ (Cmd × Nat)) (QFt S0 y nb c d) (fun v T => ∃ g', rdT S0 T c d y tx nb kd v.2 g' ∧ g' 0 = i32 v.1.2.1 ∧ g' 1 = i32 v.1.2.2.1) := by
  unfold U_X10_command_156 C_X10_command_156
  refine RdO.seq (C_expect (z := 59) hX h hw (by decide) (by decide) hF) ?_
  intro q5 V6 _ h6
  exact ⟨rfl, Rt.some ⟨_, h6, h0, h1⟩⟩
/-- what a command leaves -/
def cmQ (S0 : St) (c d y tx nb : Nat) (ek : Nat → Nat) (v : Cmd × Nat) (T : St) : Prop := ∃ g', rdT S0 T c d y tx nb (.ref (ek (kIx v.1.1))) v.2 g' ∧ g' 0 = i32 v.1.2.1 ∧ g' 1 = i32 v.1.2.2.1 ∧ (v.1.1 = 0 ∨ v.1.1 = 120 → g' 2 = i32 v.1.2.2.2)
theorem C_command (hX : rdX0 S0 tx t) (h : rdT S0 S c d y tx nb kd p g) (hp : p < t.length) (hsk : skp t p = p) (hF : 4294967296 < F) : RdO (U_X10_command F ek S y) (C_X10_command F ek S y) (cmdP t p) (QFt S0 y nb c d) (cmQ S0 c d y tx nb ek) := by
  have hl := hX.2.2.1
  have cr := hX.chR hp
  have i48 : (48 : Int32) = i32 48 := rfl
  have i57 : (57 : Int32) = i32 57 := rfl
  have nq : nx t p = chr t p := by unfold nx; rw [if_pos hp]
  have i119 : (119 : Int32) = i32 119 := rfl
  have i118 : (118 : Int32) = i32 118 := rfl
  have i120 : (120 : Int32) = i32 120 := rfl
  rw [cmdP_two]
  unfold U_X10_command C_X10_command
  rw [gO_of h.2.2.2.1]
  refine RdO.let (RdO.bind (C_token hX h (by omega) hF) ?_)
  rintro ⟨v, V⟩ ⟨rfl, hV⟩
  rw [hsk] at hV
  rw [hsk, nq]
  dsimp only
  refine RdO.let ?_
  rw [i48, i57, C_isIn ⟨by omega, by omega⟩ (by decide) (by decide)]
  refine RdO.let (RdO.ite (fun e => ?_) (fun e => ?_))
  · rw [i_c0] at e
    have nd : ¬ dig (chr t p) := tr01_n e
    -- a letter
    have letter : isLt (chr t p) → RdO (U_X10_command_68 F ek y (i32 (chr t p)) y V) (C_X10_command_68 F ek y (i32 (chr t p)) y V) (pb (twoP t (if chr t p = 120 then 58 else if isLt (chr t p) then 61 else 45) (if isLt (chr t p) then p + 1 else p)) fun w =>
      if chr t p = 120 ∨ ¬ isLt (chr t p) then pb (sgn t (if chr t p = 120 then 45 else 58) w.2.2) fun p' => pb (num t p') fun d => pb (sgn t 59 d.2) fun p' => .inr ((if isLt (chr t p) then chr t p else 0, w.1, w.2.1, d.1), p')
      else pb (sgn t 59 w.2.2) fun p' => .inr ((if isLt (chr t p) then chr t p else 0, w.1, w.2.1, 0), p')) (QFt S0 y nb c d) (cmQ S0 c d y tx nb ek) := by
      intro hlt
      have hlt' := hlt
      rw [if_pos hlt, if_pos hlt, if_pos hlt]
      unfold U_X10_command_68 C_X10_command_68 U_X10_command_73 C_X10_command_73
      obtain ⟨r1, r2⟩ := C_req1 (ek := ek) hV
      rw [r1, r2]
      show RdO ((some V) >>= _) ((some V) >>= _) _ _ _
      refine RdO.let ?_
      rw [gI_of (k := 3) hV.2.2.2.1 rfl]
      refine RdO.let ?_
      have en : i32 (p : Int) + 1 = i32 ((p + 1 : Nat) : Int) := by rw [i_c1, i_add]; congr 1
      obtain ⟨V2, e1, e2⟩ := hV.setp (p' := p + 1) hX
      rw [en, e1]
      refine RdO.let ?_
      have go : ∀ k : Nat, k = kIx (chr t p) → RdO (U_X10_command_114 F ek y (i32 (chr t p)) y (ek k) V2) (C_X10_command_114 F ek y (i32 (chr t p)) y (ek k) V2) (pb (twoP t (if chr t p = 120 then 58 else 61) (p + 1)) fun w =>
        if chr t p = 120 ∨ ¬ isLt (chr t p) then pb (sgn t (if chr t p = 120 then 45 else 58) w.2.2) fun p' => pb (num t p') fun d => pb (sgn t 59 d.2) fun p' => .inr ((chr t p, w.1, w.2.1, d.1), p')
        else pb (sgn t 59 w.2.2) fun p' => .inr ((chr t p, w.1, w.2.1, 0), p')) (QFt S0 y nb c d) (cmQ S0 c d y tx nb ek) := by
        rintro k rfl
        obtain ⟨V3, e3, e4⟩ := e2.setk (kd' := .ref (ek (kIx (chr t p)))) hX
        unfold U_X10_command_114 C_X10_command_114
        rw [e3]
        refine RdO.let (RdO.ite (fun e => ?_) (fun e => ?_))
        · rw [i120, i_eq (by omega) (by omega) (by omega) (by omega)] at e
          rw [if_pos e]
          refine RdO.seq (C_two (z := 58) hX e4 (by omega) (by decide) (by decide) hF) ?_
          rintro w V4 ew ⟨g', h5, h6, h7⟩
          rw [if_pos (Or.inl e), if_pos e]
          refine RdO.mono (C_three (z := 45) (K := chr t p) hX h5 (twoP_ok (by decide) (by omega) ew) h6 h7 (by decide) (by decide) hF) ?_
          rintro v T ev ⟨g'', q1, q2, q3, q4⟩
          have ek1 : v.1.1 = chr t p := by
            obtain ⟨_, _, ev⟩ := pb_inr ev
            obtain ⟨_, _, ev⟩ := pb_inr ev
            obtain ⟨_, _, ev⟩ := pb_inr ev
            rw [← Sum.inr.inj ev]
          exact ⟨g'', by rw [ek1]; exact q1, q2, q3, fun _ => q4⟩
        · rw [i120, i_eq (by omega) (by omega) (by omega) (by omega)] at e
          rw [if_neg e]
          refine RdO.seq (C_two (z := 61) hX e4 (by omega) (by decide) (by decide) hF) ?_
          rintro w V4 ew ⟨g', h5, h6, h7⟩
          rw [if_neg (by rintro (z | z); exact e z; exact z hlt')]
          refine RdO.mono (C_twoEnd (K := chr t p) hX h5 (twoP_ok (by decide) (by omega) ew) h6 h7 hF) ?_
          rintro v T ev ⟨g'', q1, q2, q3⟩
          have ek1 : v.1.1 = chr t p := by
            obtain ⟨_, _, ev⟩ := pb_inr ev
            rw [← Sum.inr.inj ev]
          exact ⟨g'', by rw [ek1]; exact q1, q2, q3, fun z => by rw [ek1] at z; rcases hlt' with q | q | q <;> omega⟩
      refine RdO.ite (fun e => ?_) (fun e => ?_)
      · rw [i119, i_eq (by omega) (by omega) (by omega) (by omega)] at e
        exact go 1 (by unfold kIx; rw [e]; rfl)
      · rw [i119, i_eq (by omega) (by omega) (by omega) (by omega)] at e
        refine RdO.ite (fun e2 => ?_) (fun e2 => ?_)
        · rw [i118, i_eq (by omega) (by omega) (by omega) (by omega)] at e2
          exact go 2 (by unfold kIx; rw [e2]; rfl)
        · rw [i118, i_eq (by omega) (by omega) (by omega) (by omega)] at e2
          have e3 : chr t p = 120 := by rcases hlt' with q | q | q; exact absurd q e; exact absurd q e2; exact q
          exact go 3 (by unfold kIx; rw [e3]; rfl)
    refine RdO.ite (fun e => ?_) (fun e1 => RdO.ite (fun e => ?_) (fun e2 => RdO.ite (fun e => ?_) (fun e3 => ?_)))
    · rw [i119, i_eq (by omega) (by omega) (by omega) (by omega)] at e
      exact letter (Or.inl e)
    · rw [i118, i_eq (by omega) (by omega) (by omega) (by omega)] at e
      exact letter (Or.inr (Or.inl e))
    · rw [i120, i_eq (by omega) (by omega) (by omega) (by omega)] at e
      exact letter (Or.inr (Or.inr e))
    · rw [i119, i_eq (by omega) (by omega) (by omega) (by omega)] at e1
      rw [i118, i_eq (by omega) (by omega) (by omega) (by omega)] at e2
      rw [i120, i_eq (by omega) (by omega) (by omega) (by omega)] at e3
      have nl : ¬ isLt (chr t p) := by rintro (z | z | z); exact e1 z; exact e2 z; exact e3 z
      have en : num t (if isLt (chr t p) then p + 1 else p) = .inl p := by
        rw [if_neg nl]
        unfold num
        dsimp only
        rw [hsk, if_neg nd]
      unfold twoP
      rw [en]
      unfold U_X10_command_73 C_X10_command_73
      obtain ⟨w, w1, w2⟩ := C_req0 (ek := ek) hX hV
      exact ⟨w, by rw [w1]; rfl, w2⟩
  · rw [i_c0] at e
    have yd : dig (chr t p) := tr01_y e
    have nl : ¬ isLt (chr t p) := by rintro (z | z | z) <;> (have := yd.2; omega)
    rw [if_neg nl, if_neg nl, if_neg nl, if_neg (show ¬ chr t p = 120 by have := yd.2; omega), if_neg (show ¬ chr t p = 120 by have := yd.2; omega)]
    obtain ⟨V3, e3, e4⟩ := hV.setk (kd' := .ref (ek 0)) hX
    rw [e3]
    refine RdO.let (RdO.seq (C_two (z := 45) hX e4 (by omega) (by decide) (by decide) hF) ?_)
    rintro w V4 ew ⟨g', h5, h6, h7⟩
    rw [if_pos (Or.inr nl)]
    refine RdO.mono (C_three (z := 58) (K := 0) hX h5 (twoP_ok (by decide) (by omega) ew) h6 h7 (by decide) (by decide) hF) ?_
    rintro v T ev ⟨g'', q1, q2, q3, q4⟩
    have ek1 : v.1.1 = 0 := by
      obtain ⟨_, _, ev⟩ := pb_inr ev
      obtain ⟨_, _, ev⟩ := pb_inr ev
      obtain ⟨_, _, ev⟩ := pb_inr ev
      rw [← Sum.inr.inj ev]
    exact ⟨g'', by rw [ek1]; exact q1, q2, q3, fun _ => q4⟩
/-- a new reader -/
theorem C_newReader (hX : rdX0 S tx t) : ∃ T, C_X10_init (al S (cO 9 df_9) 4) S.2.1 tx = some T ∧ rdT S T 2 7 S.2.1 tx (S.2.1 + 1) .null 0 (fun _ => 0) := by
  have hw := hX.1
  have n1 : (al S (cO 9 df_9) 4).2.1 = S.2.1 + 1 := rfl
  have x1 : ex 1 4 S (al S (cO 9 df_9) 4) := ex.al hw
  have c1 : (al (al S (cO 9 df_9) 4) (cI 0 3 (fun _ => 0)) 3).1 S.2.1 = some (cO 9 df_9) := by rw [al_ne (by omega)]; exact al_me _ _ _
  have p1 : gP (al (al S (cO 9 df_9) 4) (cI 0 3 (fun _ => 0)) 3) 9 S.2.1 1 (.ref (S.2.1 + 1)) = some (put (al (al S (cO 9 df_9) 4) (cI 0 3 (fun _ => 0)) 3) S.2.1 (cO 9 [.null, .ref (S.2.1 + 1), .null, .int 0])) := gP_of c1 (by decide)
  have p2 : gP (put (al (al S (cO 9 df_9) 4) (cI 0 3 (fun _ => 0)) 3) S.2.1 (cO 9 [.null, .ref (S.2.1 + 1), .null, .int 0])) 9 S.2.1 0 (.ref tx) = some (put (put (al (al S (cO 9 df_9) 4) (cI 0 3 (fun _ => 0)) 3) S.2.1 (cO 9 [.null, .ref (S.2.1 + 1), .null, .int 0])) S.2.1 (cO 9 [.ref tx, .ref (S.2.1 + 1), .null, .int 0])) := gP_of (put_me _ _ _) (by simp)
  rw [put_put] at p2
  refine ⟨put (al (al S (cO 9 df_9) 4) (cI 0 3 (fun _ => 0)) 3) S.2.1 (cO 9 [.ref tx, .ref (S.2.1 + 1), .null, .int 0]), ?_, ((rx.rf (y := S.2.1) (nb := S.2.1 + 1) (c := 0) (d := 0) hw).ala.ala : rx S.2.1 (S.2.1 + 1) 2 7 S _).put (Or.inl rfl) c1, (fun e he => by have := hw.lt he; omega), (fun e he => by have := hw.lt he; omega), put_me _ _ _, ?_⟩
  · unfold C_X10_init
    have mk : nI_ (al S (cO 9 df_9) 4) 0 3 = some (S.2.1 + 1, al (al S (cO 9 df_9) 4) (cI 0 3 (fun _ => 0)) 3) := mkI (n := 3) (by decide) (by decide)
    rw [mk]
    simp only [Option.bind_eq_bind, Option.bind_some]
    rw [p1]
    simp only [Option.bind_eq_bind, Option.bind_some]
    rw [p2]
    rfl
  · rw [put_ne (by omega)]; exact al_me _ _ _
theorem fltA_pb {r : Nat ⊕ List Cmd} {x : Cmd} : fltA (pb r (fun l => .inr (x :: l))) = fltA r := by cases r <;> rfl
/-- fault() -/
theorem C_fault12 {G : Int} (hX : rdX0 S0 tx t) (h : rdT S0 S c d y tx nb kd p g) (hp : p ≤ t.length) {m : Nat} (hm : t.length - p < m) (hG : fltA (scrF t m p) = G) (hF : 4294967296 < F) : Rt (C_X1_fault_12 F ek y F S) (fun v => v.1 = i32 G ∧ rx y nb (c + 1) (d + 7) S0 v.2) := by
  have hl := hX.2.2.1
  refine Rt.loop1 (ι := Nat) (fun p V => p ≤ t.length ∧ (∃ kd g, rdT S0 V c d y tx nb kd p g) ∧ ∃ m, t.length - p < m ∧ fltA (scrF t m p) = G) (fun p => t.length - p) ?_ F p _ ⟨hp, ⟨kd, g, h⟩, m, hm, hG⟩ (by omega)
  clear hG hm h hp
  rintro n p V ⟨hp, ⟨kd, g, hV⟩, m, hm, hG⟩ ih
  obtain ⟨m', rfl⟩ : ∃ m', m = m' + 1 := ⟨m - 1, by omega⟩
  have sk := skp_ok hp
  unfold scrF at hG
  unfold C_X1_fault_12
  refine Rt.bind (C_isAtEnd hX hV hp hF) ?_
  rintro ⟨v, V2⟩ ⟨rfl, h2⟩
  dsimp only
  refine Rt.ite (fun z => ?_) (fun z => ?_)
  · rw [i_c0] at z
    have z' := tr01_n z
    rw [if_neg z'] at hG
    have cm := C_command (ek := ek) hX h2 (show skp t p < t.length by omega) (skp_skp hp) hF
    have ok := cmdP_ok (t := t) (q := skp t p) (by omega)
    match hr : cmdP t (skp t p), cm with
    | .inl f, cm =>
      rw [hr] at hG
      obtain ⟨⟨a, W⟩, w1, w2, w3⟩ := cm
      rw [w1]
      show Rt (C_X1_fault_29 F ek a W) _
      unfold C_X1_fault_29
      rw [w2]
      exact Rt.let (Rt.some ⟨by rw [← hG]; rfl, w3⟩)
    | .inr cq, cm =>
      rw [hr] at hG
      obtain ⟨w0, W, w1, g', w2, -⟩ := cm
      obtain ⟨k1, k2, -⟩ := ok.2 cq.1 cq.2 hr
      rw [w0, w1]
      show Rt (C_X1_fault_12 F ek y n W) _
      have hG' : fltA (scrF t m' cq.2) = G := by rw [← hG]; exact fltA_pb.symm
      exact ih cq.2 _ ⟨k2, ⟨_, g', w2⟩, m', by omega, hG'⟩ (by omega)
  · rw [i_c0] at z
    have z' := tr01_y z
    rw [if_pos z'] at hG
    unfold C_X1_fault_26
    exact Rt.some ⟨by rw [← hG]; rfl, h2.1.le (by omega) (by omega)⟩
end RC
