/-! A SET OF BITS in the heap -/
section CS
variable {S T : St} {b B W M u : Nat} {mem : Nat → Prop} {F : Nat}
def bsC (b : Nat) (S : St) (B W M u : Nat) (mem : Nat → Prop) : Prop := (b ≤ B ∧ b ≤ W) ∧ S.1 B = some (cO 16 [.ref W, .int (i32 u), .int 0]) ∧ (u ≤ M ∧ 1 ≤ M ∧ M ≤ 1000) ∧ (∃ (f : Nat → Int64) (g : Nat → Nat), S.1 W = some (cJ M f) ∧ ∀ k, k < M → f k = j64 (g k) ∧ g k < 2 ^ 64 ∧ ∀ t, t < 64 → ((g k).testBit t = true ↔ mem (64 * k + t))) ∧ ∀ i, mem i → i < 64 * u
theorem C_chk {fs : List Value} (h : gO S 16 B = some fs) : C_J27_checkInvariants S B = some () := by
  unfold C_J27_checkInvariants C_J27_checkInvariants_37 C_J27_checkInvariants_70
  rw [h]
  rfl
theorem cJ_of {a M' : Nat} {f g : Nat → Int64} {sp dp n : Int} (h : S.1 a = some (cJ M f)) (hb : S.1 B = some (cJ M' g)) (h0 : 0 ≤ sp) (h1 : 0 ≤ dp) (h2 : 0 ≤ n) (h3 : sp + n ≤ M) (h4 : dp + n ≤ M') (h5 : (M : Int) ≤ 2147483647) (h6 : (M' : Int) ≤ 2147483647) :
    cJ_ S 1 a B (i32 sp) (i32 dp) (i32 n) = some (put S B (cJ M' (va_cpy f g sp.toNat dp.toNat n.toNat))) := by
  unfold cJ_; rw [aJ_of h, aJ_of hb]
  show (if i32 sp < 0 ∨ i32 dp < 0 ∨ i32 n < 0 ∨ M < (i32 sp).toNatClampNeg + (i32 n).toNatClampNeg ∨ M' < (i32 dp).toNatClampNeg + (i32 n).toNatClampNeg then none else _) = _
  rw [if_neg (cbnd h0 h1 h2 h3 h4 h5 h6), i_nat h0 (by omega), i_nat h1 (by omega), i_nat h2 (by omega)]; rfl
theorem C_bsInit (hw : wfS S) : ∃ T, C_J27_init (al S (cO 16 df_16) 3) S.2.1 = some T ∧ ex 2 4 S T ∧ (b ≤ S.2.1 → bsC b T S.2.1 (S.2.1 + 1) 1 0 (fun _ => False)) ∧ T.2.1 = S.2.1 + 2 := by
  have e1 : gP (al S (cO 16 df_16) 3) 16 S.2.1 1 (.int 0) = some (al S (cO 16 df_16) 3) := by
    rw [gP_of (al_me S 3 (cO 16 df_16)) (by decide), put_al]; rfl
  have e2 : gP (al S (cO 16 df_16) 3) 16 S.2.1 2 (.int 0) = some (al S (cO 16 df_16) 3) := by
    rw [gP_of (al_me S 3 (cO 16 df_16)) (by decide), put_al]; rfl
  have e3 : C_J27_wordIndex (64 - 1) = some 0 := by decide
  have e4 : nJ_ (al S (cO 16 df_16) 3) 1 (0 + 1) = some (S.2.1 + 1, al (al S (cO 16 df_16) 3) (cJ 1 (fun _ => 0)) 1) := mkJ (n := 1) (by decide) (by decide)
  have m1 : (al (al S (cO 16 df_16) 3) (cJ 1 (fun _ => 0)) 1).1 S.2.1 = some (cO 16 df_16) := by
    rw [al_ne (by show S.2.1 ≠ S.2.1 + 1; omega)]; exact al_me _ _ _
  have e5 : gP (al (al S (cO 16 df_16) 3) (cJ 1 (fun _ => 0)) 1) 16 S.2.1 0 (.ref (S.2.1 + 1)) = some (put (al (al S (cO 16 df_16) 3) (cJ 1 (fun _ => 0)) 1) S.2.1 (cO 16 [.ref (S.2.1 + 1), .int 0, .int 0])) := gP_of m1 (by decide)
  have e6 : gP (put (al (al S (cO 16 df_16) 3) (cJ 1 (fun _ => 0)) 1) S.2.1 (cO 16 [.ref (S.2.1 + 1), .int 0, .int 0])) 16 S.2.1 2 (.int 0) = some (put (al (al S (cO 16 df_16) 3) (cJ 1 (fun _ => 0)) 1) S.2.1 (cO 16 [.ref (S.2.1 + 1), .int 0, .int 0])) := by
    rw [gP_of (put_me _ _ _) (by simp), put_put]; rfl
  refine ⟨put (al (al S (cO 16 df_16) 3) (cJ 1 (fun _ => 0)) 1) S.2.1 (cO 16 [.ref (S.2.1 + 1), .int 0, .int 0]), ?_, ?_, fun hb => ⟨⟨hb, by omega⟩, put_me _ _ _, ⟨by omega, by omega, by omega⟩, ⟨fun _ => 0, fun _ => 0, ?_, fun k hk => ⟨rfl, show 0 < 2 ^ 64 by decide, fun t _ => ?_⟩⟩, fun i hi => hi.elim⟩, rfl⟩
  · unfold C_J27_init C_J27_initWords
    rw [e1]
    simp only [Option.bind_eq_bind, Option.bind_some]
    rw [e2]
    simp only [Option.bind_eq_bind, Option.bind_some]
    rw [gO_of (al_me S 3 (cO 16 df_16)), e3]
    simp only [Option.bind_eq_bind, Option.bind_some]
    rw [e4]
    simp only [Option.bind_eq_bind, Option.bind_some]
    rw [e5]
    simp only [Option.bind_eq_bind, Option.bind_some]
    rw [e6]
    rfl
  · exact ex.put (e' := cO 16 df_16) hw ((ex.al hw).tr (ex.al hw.al) (Nat.le_refl _) (Nat.le_refl _)) (Nat.le_refl _) m1
  · rw [put_ne (by omega)]; exact al_me _ _ _
  · rw [Nat.zero_testBit]; simp
/-- what else is there stays -/
def bsK (S T : St) (B W W' : Nat) (c d : Nat) : Prop := wfS T ∧ S.2.1 ≤ T.2.1 ∧ T.2.2.1 ≤ S.2.2.1 + c ∧ T.2.2.2 ≤ S.2.2.2 + d ∧ (∀ q e, S.1 q = some e → q ≠ B → q ≠ W → T.1 q = some e) ∧ (W' = W ∨ S.2.1 ≤ W')
theorem C_bsSet {i : Nat} (hw : wfS S) (h : bsC b S B W M u mem) (hi : i < 3200) (hM : M ≤ 100) (hF : 4294967296 < F) : Rt (C_J27_set F S B (i32 i)) (fun T => ∃ W' M' u', bsC b T B W' M' u' (fun j => mem j ∨ j = i) ∧ M ≤ M' ∧ (M' = M ∨ M' ≤ 2 * (i / 64 + 1)) ∧ bsK S T B W W' (M' - M) (2 * (M' - M))) := by
  obtain ⟨⟨h1, h2⟩, h3, ⟨h4, h5, h6⟩, ⟨f, g, f1, f2⟩, h7⟩ := h
  have dm := Nat.div_add_mod i 64
  have ml := Nat.mod_lt i (show 0 < 64 by decide)
  have hBW : B ≠ W := by rintro rfl; rw [h3] at f1; cases f1
  have lB := hw.lt h3
  have lW := hw.lt f1
  -- the end: the word is there
  have fin : ∀ (T : St) (W' M' u' : Nat) (f' : Nat → Int64) (g' : Nat → Nat), T.1 B = some (cO 16 [.ref W', .int (i32 u'), .int 0]) → T.1 W' = some (cJ M' f') → b ≤ W' → W' ≠ B → i / 64 < u' → u ≤ u' → u' ≤ M' → M' ≤ 1000 → M ≤ M' → (M' = M ∨ M' ≤ 2 * (i / 64 + 1)) → (∀ k, k < M' → f' k = j64 (g' k) ∧ g' k < 2 ^ 64 ∧ ∀ t, t < 64 → ((g' k).testBit t = true ↔ mem (64 * k + t))) → bsK S T B W W' (M' - M) (2 * (M' - M)) →
      Rt ((gA T 16 B 0) >>= fun y3 => (lJ T 1 y3 (i32 ((i / 64 : Nat) : Int))) >>= fun y4 => (tJ T 1 y3 (i32 ((i / 64 : Nat) : Int)) (y4 ||| (((1) : Int64) <<< (((i32 i) : Int32).toInt64 &&& 63)))) >>= fun S5 => (C_J27_checkInvariants S5 B) >>= fun r6 => some S5) (fun T => ∃ W' M' u', bsC b T B W' M' u' (fun j => mem j ∨ j = i) ∧ M ≤ M' ∧ (M' = M ∨ M' ≤ 2 * (i / 64 + 1)) ∧ bsK S T B W W' (M' - M) (2 * (M' - M))) := by
    intro T W' M' u' f' g' t1 t2 t3 t4 t5 t6 t7 t8 t9 t10 t11 t12
    obtain ⟨k1, k2, k3⟩ := t11 (i / 64) (by omega)
    rw [gA_of (k := 0) t1 rfl]
    refine Rt.let ?_
    rw [lJ_of t2 (by omega) (by omega) (by omega), Int.toNat_natCast, k1]
    refine Rt.let ?_
    rw [w_set (by omega), tJ_of t2 (by omega) (by omega) (by omega), Int.toNat_natCast]
    refine Rt.let ?_
    have b1 : (put T W' (cJ M' (vp_updL f' (i / 64) (j64 ((g' (i / 64) ||| 2 ^ (i % 64) : Nat) : Int))))).1 B = some (cO 16 [.ref W', .int (i32 u'), .int 0]) := by rw [put_ne (Ne.symm t4)]; exact t1
    rw [C_chk (gO_of b1)]
    refine Rt.let (Rt.some ⟨W', M', u', ⟨⟨h1, t3⟩, b1, ⟨t7, by omega, t8⟩, ⟨_, fun k => if k = i / 64 then g' (i / 64) ||| 2 ^ (i % 64) else g' k, put_me _ _ _, fun k hk => ?_⟩, ?_⟩, t9, t10, ?_⟩)
    · rw [updL_at]
      by_cases c : k = i / 64
      · rw [if_pos c]
        simp only [if_pos c]
        refine ⟨trivial, Nat.or_lt_two_pow k2 (Nat.pow_lt_pow_right (by decide) ml), fun t ht => ?_⟩
        rw [w_set_bit, Bool.or_eq_true, k3 t ht, decide_eq_true_iff, c]
        constructor
        · rintro (z | z)
          · exact Or.inl z
          · exact Or.inr (by omega)
        · rintro (z | z)
          · exact Or.inl z
          · exact Or.inr (by omega)
      · rw [if_neg c]
        simp only [if_neg c]
        obtain ⟨l1, l2, l3⟩ := t11 k hk
        refine ⟨l1, l2, fun t ht => ?_⟩
        rw [l3 t ht]
        constructor
        · exact Or.inl
        · rintro (z | z)
          · exact z
          · omega
    · rintro j (hj | rfl)
      · have := h7 j hj; omega
      · omega
    · obtain ⟨s1, s2, s3, s4, s5, s6⟩ := t12
      refine ⟨s1.put t2, s2, s3, s4, fun q e hq n1 n2 => ?_, s6⟩
      have : q ≠ W' := by
        rintro rfl
        rcases s6 with s6 | s6
        · exact n2 s6
        · have := hw.lt hq; omega
      rw [put_ne this]; exact s5 q e hq n1 n2
  unfold C_J27_set C_J27_expandTo C_J27_ensureCapacity
  rw [gO_of h3]
  refine Rt.let (Rt.ite (fun _ => ?_) (fun hh => ?_))
  rotate_left
  · rw [i_c0, i_le (by omega) (by omega) (by omega) (by omega)] at hh; omega
  rw [w_idx (by omega)]
  refine Rt.let ?_
  rw [gI_of (k := 1) h3 rfl]
  simp only [Option.bind_eq_bind, Option.bind_some, i_c1, i_add]
  by_cases c1 : ((i / 64 : Nat) : Int) + 1 ≤ u
  · rw [if_pos (by rw [i_le (by omega) (by omega) (by omega) (by omega)]; exact c1)]
    exact fin S W M u f g h3 f1 h2 (Ne.symm hBW) (by omega) (Nat.le_refl _) h4 (by omega) (Nat.le_refl _) (Or.inl rfl) f2 ⟨hw, Nat.le_refl _, by omega, by omega, fun q e hq _ _ => hq, Or.inl rfl⟩
  rw [if_neg (by rw [i_le (by omega) (by omega) (by omega) (by omega)]; exact c1), gA_of (k := 0) h3 rfl]
  simp only [Option.bind_eq_bind, Option.bind_some]
  rw [aN_of f1]
  simp only [Option.bind_eq_bind, Option.bind_some]
  by_cases c2 : ((i / 64 : Nat) : Int) + 1 ≤ M
  · rw [if_pos (by rw [i_le (by omega) (by omega) (by omega) (by omega)]; exact c2)]
    simp only [Option.bind_eq_bind, Option.bind_some]
    rw [gP_of h3 (by simp)]
    have b1 := put_me S B (cO 16 [.ref W, .int (i32 (((i / 64 : Nat) : Int) + 1)), .int 0])
    exact fin (put S B (cO 16 [.ref W, .int (i32 (((i / 64 : Nat) : Int) + 1)), .int 0])) W M (i / 64 + 1) f g b1 (by rw [put_ne (Ne.symm hBW)]; exact f1) h2 (Ne.symm hBW) (by omega) (by omega) (by omega) (by omega) (Nat.le_refl _) (Or.inl rfl) f2 ⟨hw.put h3, Nat.le_refl _, by show S.2.2.1 ≤ _; omega, by show S.2.2.2 ≤ _; omega, fun q e hq n1 _ => by rw [put_ne n1]; exact hq, Or.inl rfl⟩
  rw [if_neg (by rw [i_le (by omega) (by omega) (by omega) (by omega)]; exact c2)]
  -- longer words
  have eM : ∃ M' : Nat, (if 2 * i32 (M : Int) < i32 (((i / 64 : Nat) : Int) + 1) then i32 (((i / 64 : Nat) : Int) + 1) else 2 * i32 (M : Int)) = i32 (M' : Int) ∧ 2 * M ≤ M' ∧ i / 64 + 1 ≤ M' ∧ (M' ≤ 2 * M ∨ M' ≤ i / 64 + 1) := by
    rw [i_c2, i_mul]
    have el := i_lt (a := 2 * (M : Int)) (b := ((i / 64 : Nat) : Int) + 1) (by omega) (by omega) (by omega) (by omega)
    by_cases c : 2 * (M : Int) < ((i / 64 : Nat) : Int) + 1
    · rw [if_pos (by rw [el]; exact c)]; exact ⟨i / 64 + 1, rfl, by omega, by omega, by omega⟩
    · rw [if_neg (by rw [el]; exact c)]; exact ⟨2 * M, rfl, by omega, by omega, by omega⟩
  obtain ⟨M', m1, m2, m3, m4⟩ := eM
  unfold C_J12_copyOf_2
  simp only [m1, Option.bind_eq_bind, Option.bind_some]
  rw [aN_of f1]
  simp only [Option.bind_eq_bind, Option.bind_some]
  rw [if_neg (by rw [i_eq (by omega) (by omega) (by omega) (by omega)]; show ¬ (M' : Int) = (M : Int); omega), mkJ (by omega) (by omega)]
  simp only [Option.bind_eq_bind, Option.bind_some, Int.toNat_natCast]
  have a1 : (al S (cJ M' (fun _ => 0)) M').1 W = some (cJ M f) := by rw [al_ne (by omega)]; exact f1
  have a2 := al_me S M' (cJ M' (fun _ => 0))
  rw [aN_of a1]
  simp only [Option.bind_eq_bind, Option.bind_some]
  rw [if_neg (by rw [i_lt (by omega) (by omega) (by omega) (by omega)]; show ¬ (M' : Int) < (M : Int); omega)]
  have cp := cJ_of (sp := 0) (dp := 0) (n := (M : Int)) a1 a2 (by omega) (by omega) (by omega) (by omega) (by omega) (by omega) (by omega)
  rw [put_al] at cp
  rw [i_c0]
  rw [show (((1, M, Sum.inr (Sum.inl f)) : Nat × vp_A).2.1 : Int) = (M : Int) from rfl, cp]
  simp only [Option.bind_eq_bind, Option.bind_some, Int.toNat_natCast, Int.toNat_zero]
  have a3 : (al S (cJ M' (va_cpy f (fun _ => 0) 0 0 M)) M').1 B = some (cO 16 [.ref W, .int (i32 u), .int 0]) := by rw [al_ne (by omega)]; exact h3
  rw [gP_of a3 (by simp)]
  simp only [Option.bind_eq_bind, Option.bind_some]
  rw [gP_of (put_me _ _ _) (by simp), put_put]
  simp only [Option.bind_eq_bind, Option.bind_some]
  rw [gP_of (put_me _ _ _) (by simp), put_put]
  simp only [Option.bind_eq_bind, Option.bind_some]
  refine fin _ S.2.1 M' (i / 64 + 1) (va_cpy f (fun _ => 0) 0 0 M) (fun k => if k < M then g k else 0) (put_me _ _ _) ?_ (by omega) (by omega) (by omega) (by omega) (by omega) (by omega) (by omega) (by omega) (fun k hk => ?_) ⟨hw.al.put a3, Nat.le_succ _, ?_, ?_, fun q e hq n1 _ => ?_, Or.inr (Nat.le_refl _)⟩
  · rw [put_ne (by omega)]; exact al_me _ _ _
  · rw [cpy_at]
    by_cases c : k < M
    · rw [if_pos (by omega), show 0 + (k - 0) = k by omega]
      simp only [if_pos c]
      exact f2 k c
    · rw [if_neg (by omega)]
      simp only [if_neg c]
      refine ⟨rfl, show 0 < 2 ^ 64 by decide, fun t ht => ?_⟩
      rw [Nat.zero_testBit]
      constructor
      · intro z; cases z
      · intro z; have := h7 _ z; omega
  · show S.2.2.1 + 1 ≤ _; omega
  · show S.2.2.2 + M' ≤ _; omega
  · have := hw.lt hq
    rw [put_ne n1, al_ne (by omega)]; exact hq
/-- the next bit from i on -/
def nxB (mem : Nat → Prop) (i : Nat) (r : Int) : Prop := (r = -1 ∧ ∀ j, i ≤ j → ¬ mem j) ∨ ∃ k : Nat, r = k ∧ i ≤ k ∧ mem k ∧ ∀ j, i ≤ j → j < k → ¬ mem j
theorem C_next {i : Nat} (h : bsC b S B W M u mem) (hi : i < 100000) (hF : 4294967296 < F) : Rt (C_J27_nextSetBit F S B (i32 i)) (fun v => ∃ r, v = (i32 r, S) ∧ nxB mem i r) := by
  obtain ⟨⟨h1, h2⟩, h3, ⟨h4, h5, h6⟩, ⟨f, g, f1, f2⟩, h7⟩ := h
  have dm := Nat.div_add_mod i 64
  have ml := Nat.mod_lt i (show 0 < 64 by decide)
  unfold C_J27_nextSetBit
  rw [gO_of h3]
  refine Rt.let (Rt.ite (fun _ => ?_) (fun hh => ?_))
  rotate_left
  · rw [i_c0, i_le (by omega) (by omega) (by omega) (by omega)] at hh; omega
  rw [C_chk (gO_of h3), w_idx (by omega), gI_of (k := 1) h3 rfl]
  refine Rt.let (Rt.let (Rt.let (Rt.ite (fun hh => ?_) (fun hh => ?_))))
  rotate_left
  · rw [i_lt (by omega) (by omega) (by omega) (by omega)] at hh
    exact Rt.some ⟨-1, rfl, Or.inl ⟨rfl, fun j hj z => by have := h7 j z; omega⟩⟩
  rw [i_lt (by omega) (by omega) (by omega) (by omega)] at hh
  rw [gA_of (k := 0) h3 rfl]
  refine Rt.let ?_
  obtain ⟨k1, k2, k3⟩ := f2 (i / 64) (by omega)
  rw [lJ_of f1 (by omega) (by omega) (by omega), Int.toNat_natCast, k1]
  refine Rt.let ?_
  obtain ⟨R, r1, r2, r3⟩ := w_from (i := i) k2 (by omega)
  rw [r2]
  refine Rt.let ?_
  -- the words: none ahead of k
  refine Rt.loop3 (ι := Nat) (fun k a c V => a = i32 k ∧ V = S ∧ k < u ∧ i / 64 ≤ k ∧ ∃ R : Nat, c = j64 R ∧ R < 2 ^ 64 ∧ (∀ t, t < 64 → (R.testBit t = true ↔ mem (64 * k + t) ∧ i ≤ 64 * k + t)) ∧ ∀ j, i ≤ j → j < 64 * k → ¬ mem j) (fun k => u - k) ?_ F (i / 64) _ _ _ ⟨rfl, rfl, by omega, Nat.le_refl _, R, rfl, r1, fun t ht => ?_, fun j q1 q2 => by omega⟩ (by omega)
  rotate_left
  · rw [r3, Bool.and_eq_true, k3 t ht, decide_eq_true_iff]
    constructor
    · rintro ⟨z1, z2⟩; exact ⟨z1, by omega⟩
    · rintro ⟨z1, z2⟩; exact ⟨z1, by omega⟩
  clear r1 r2 r3 R k1 k2 k3
  rintro n k _ _ _ ⟨rfl, rfl, hk, hik, R, rfl, r1, r2, r3⟩ ih
  unfold C_J27_nextSetBit_63
  refine Rt.ite (fun h0 => ?_) (fun h0 => ?_)
  · rw [j_z r1] at h0
    subst h0
    have r4 : ∀ j, i ≤ j → j < 64 * (k + 1) → ¬ mem j := by
      intro j q1 q2 z
      by_cases c : j < 64 * k
      · exact r3 j q1 c z
      · have := (r2 (j - 64 * k) (by omega)).mpr ⟨by rw [show 64 * k + (j - 64 * k) = j by omega]; exact z, by omega⟩
        rw [Nat.zero_testBit] at this; cases this
    rw [i_c1, i_add, gI_of (k := 1) h3 rfl]
    refine Rt.let (Rt.let (Rt.ite (fun h8 => ?_) (fun h8 => ?_)))
    · rw [i_eq (by omega) (by omega) (by omega) (by omega)] at h8
      refine Rt.some ⟨-1, rfl, Or.inl ⟨rfl, fun j hj z => ?_⟩⟩
      have := h7 j z
      exact r4 j hj (by omega) z
    · rw [i_eq (by omega) (by omega) (by omega) (by omega)] at h8
      obtain ⟨k1, k2, k3⟩ := f2 (k + 1) (by omega)
      rw [gA_of (k := 0) h3 rfl]
      refine Rt.let ?_
      rw [lJ_of f1 (by omega) (by omega) (by omega), show ((k : Int) + 1).toNat = k + 1 by omega, k1]
      refine Rt.let ?_
      refine ih (k + 1) _ _ _ ⟨rfl, rfl, by omega, by omega, _, rfl, k2, fun t ht => ?_, r4⟩ (by omega)
      rw [k3 t ht]
      exact ⟨fun z => ⟨z, by omega⟩, fun z => z.1⟩
  · rw [j_z r1] at h0
    obtain ⟨t, t1, t2⟩ : ∃ t, R.testBit t = true ∧ ∀ s, s < t → R.testBit s = false := by
      have : ∃ t, R.testBit t = true := Nat.exists_testBit_of_ne_zero h0
      obtain ⟨t, ht⟩ := this
      induction t using Nat.strongRecOn with
      | _ t ihh =>
        by_cases c : ∃ s, s < t ∧ R.testBit s = true
        · obtain ⟨s, s1, s2⟩ := c; exact ihh s s1 s2
        · exact ⟨t, ht, fun s hs => by
            cases z : R.testBit s
            · rfl
            · exact absurd ⟨s, hs, z⟩ c⟩
    have tl : t < 64 := by
      apply Classical.byContradiction
      intro hn
      rw [Nat.testBit_lt_two_pow (Nat.lt_of_lt_of_le r1 (Nat.pow_le_pow_right (by decide) (by omega)))] at t1; cases t1
    unfold C_J27_nextSetBit_69
    rw [C_ntz r1 t1 t2]
    refine Rt.let (Rt.some ⟨((64 * k + t : Nat) : Int), ?_, Or.inr ⟨64 * k + t, rfl, ((r2 t tl).mp t1).2, ((r2 t tl).mp t1).1, fun j q1 q2 z => ?_⟩⟩)
    · rw [i_c64, i_mul, i_add]; congr 2; push_cast; omega
    · by_cases c : j < 64 * k
      · exact r3 j q1 c z
      · have := (r2 (j - 64 * k) (by omega)).mpr ⟨by rw [show 64 * k + (j - 64 * k) = j by omega]; exact z, by omega⟩
        rw [t2 (j - 64 * k) (by omega)] at this; cases this
end CS
