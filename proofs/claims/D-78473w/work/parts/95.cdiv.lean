/-! THE CLASS's DIVISIONS -/
theorem low_bit : ∀ s : Fin 256, s.1 ≠ 0 → ∃ i : Fin 8, s.1.testBit i.1 = true ∧ i32 (s.1 : Int) &&& (-(i32 (s.1 : Int))) = i32 ((2 ^ i.1 : Nat) : Int) := by decide +kernel
theorem grp_bit {t i j : Nat} : (t ||| 2 ^ i).testBit j = (t.testBit j || decide (i = j)) := by rw [Nat.testBit_or, Nat.testBit_two_pow]
theorem rst_bit {s i j : Nat} : (s ^^^ 2 ^ i).testBit j = (s.testBit j ^^ decide (i = j)) := by rw [Nat.testBit_xor, Nat.testBit_two_pow]
theorem grp_xr {s t i : Nat} (hi : s.testBit i = true) (ht : sub t (s ^^^ 2 ^ i)) : sub (t ||| 2 ^ i) s ∧ s ^^^ (t ||| 2 ^ i) = (s ^^^ 2 ^ i) ^^^ t := by
  have ti : t.testBit i = false := by
    cases z : t.testBit i
    · rfl
    · have := ht i z
      rw [rst_bit, hi] at this; simp at this
  constructor
  · intro j hj
    rw [grp_bit, Bool.or_eq_true] at hj
    by_cases e : i = j
    · rw [← e]; exact hi
    · rcases hj with hj | hj
      · have := ht j hj
        rw [rst_bit] at this; simpa [e] using this
      · simp [e] at hj
  · apply Nat.eq_of_testBit_eq
    intro j
    rw [Nat.testBit_xor, grp_bit, Nat.testBit_xor, rst_bit]
    by_cases e : i = j
    · rw [← e, ti, hi]; simp
    · simp [e]
theorem grp_of {s a i : Nat} (hi : s.testBit i = true) (ha : sub a s) (hai : a.testBit i = true) : ∃ t, sub t (s ^^^ 2 ^ i) ∧ a = t ||| 2 ^ i := by
  refine ⟨a ^^^ 2 ^ i, fun j hj => ?_, ?_⟩
  · rw [rst_bit] at hj ⊢
    by_cases e : i = j
    · rw [← e, hai] at hj; simp at hj
    · simp [e] at hj ⊢; exact ha j hj
  · apply Nat.eq_of_testBit_eq
    intro j
    rw [grp_bit, rst_bit]
    by_cases e : i = j
    · rw [← e, hai]; simp
    · simp [e]
section CJ
variable {S T : St} {b x p : Nat} {N : Net} {w : Nat → Int} {F : Nat} {j : Nat}
theorem C_isAtM {s : Nat} {a : Fq} (hN : okN N) (hw9 : okw9 (nN N) w) (hc : cnN N) (he : 0 < eN N) (hs : s < 2 ^ nN N) (hS : plS j b S p x N w) (ha : 0 ≤ a.1 ∧ a.1 ≤ 10177200000) (ha2 : 0 < a.2 ∧ a.2 ≤ 1000) (hF : 4294967296 < F) :
    Rt (C_X3_isAtMost F S p (i32 s) (j64 a.1) (j64 a.2)) (fun v => ∃ T, v = (i32 (tr01 (atM (radF N w) a s)), T) ∧ frJ b p j 2 S T ∧ plS 2 b T p x N w) := by
  refine Rt.mono (C_isAtMost hN hw9 hc he hs hS ha ha2 hF) ?_
  rintro ⟨v, T⟩ ⟨h1, h2, e, y, h3, h4⟩
  dsimp only at h1 h2 h4
  have hr : isRad N w s (hgt N w s e y, y.2) := ⟨e, y, h3, rfl⟩
  have e1 : fle (hgt N w s e y, y.2) a = atM (radF N w) a s := propext (fle_congl (isRad_pos hr).1 (radF_pos N w s).1 ha2.1 (isRad_F hr))
  exact ⟨T, by rw [h4, e1], h1, h2⟩
theorem hgF_0 (v : Nat → Int) (m : Nat) : hgF v 0 m = 0 := by
  induction m with
  | zero => rfl
  | succ m ih => unfold hgF; rw [ih]; simp
theorem atM_0 {a : Fq} (ha : 0 ≤ a.1) : atM (radF N w) a 0 := by
  by_cases h : ∃ r, isRad N w 0 r
  · obtain ⟨r, e, y, c, rfl⟩ := h
    exact radF_z ⟨_, ⟨e, y, c, rfl⟩, hgF_0 _ _⟩ ha
  · unfold atM radF
    rw [dif_neg h]
    show (0 : Int) * a.2 ≤ a.1 * 1
    omega
/-- into k groups within the bound -/
theorem C_isDiv {a : Fq} (hN : okN N) (hw9 : okw9 (nN N) w) (hc : cnN N) (he : 0 < eN N) (ha : 0 ≤ a.1 ∧ a.1 ≤ 10177200000) (ha2 : 0 < a.2 ∧ a.2 ≤ 1000) (hF : 4294967296 < F) : ∀ (d k s j : Nat) (S : St), k < d → k ≤ 100 → s < 2 ^ nN N → plS j b S p x N w →
    Rt (C_X3_isDivided_d F d S p (i32 s) (i32 k) (j64 a.1) (j64 a.2)) (fun v => ∃ T j', v = (i32 (tr01 (dv (atM (radF N w) a) k s)), T) ∧ frJ b p j j' S T ∧ plS j' b T p x N w) := by
  intro d
  induction d with
  | zero => intro k s j S hk; omega
  | succ d ihd =>
    intro k s j S hkd hk100 hs hS
    have t2 := two_n hN
    obtain ⟨D0, _, _, _, _, hpl⟩ := hS.pl
    obtain ⟨⟨fs, g0⟩, -⟩ := hpl.g
    unfold C_X3_isDivided_d C_X3_isDivided_b
    rw [g0]
    have base : (k = 0 ∨ s = 0) → Rt (C_X3_isDivided_8 F (C_X3_isDivided_d F d) (i32 s) S) (fun v => ∃ T j', v = (i32 (tr01 (dv (atM (radF N w) a) k s)), T) ∧ frJ b p j j' S T ∧ plS j' b T p x N w) := by
      intro h0
      unfold C_X3_isDivided_8
      refine Rt.ite (fun h1 => ?_) (fun h1 => ?_)
      · rw [i_c0, i_eq (by omega) (by omega) (by omega) (by omega)] at h1
        have h1' : s = 0 := by omega
        have : dv (atM (radF N w) a) k s := by rw [h1']; exact dv_zero (atM_0 ha.1) k
        exact Rt.some ⟨S, j, by rw [← tr_1 this], frJ.rf hS.1, hS⟩
      · rw [i_c0, i_eq (by omega) (by omega) (by omega) (by omega)] at h1
        have hk0 : k = 0 := by omega
        have : ¬ dv (atM (radF N w) a) k s := by
          rw [hk0]; intro z
          have z' : s = 0 := z
          omega
        exact Rt.some ⟨S, j, by rw [← tr_0 this], frJ.rf hS.1, hS⟩
    refine Rt.let (Rt.ite (fun h0 => ?_) (fun h0 => Rt.ite (fun h1 => ?_) (fun h1 => Rt.ite (fun h2 => ?_) (fun h2 => ?_))))
    · rw [i_c0, i_eq (by omega) (by omega) (by omega) (by omega)] at h0
      exact base (Or.inl (by omega))
    · rw [i_c0, i_eq (by omega) (by omega) (by omega) (by omega)] at h1
      exact base (Or.inr (by omega))
    · rw [i_c1, i_eq (by omega) (by omega) (by omega) (by omega)] at h2
      obtain rfl : k = 1 := by omega
      refine Rt.bind (C_isAtM hN hw9 hc he hs hS ha ha2 hF) ?_
      rintro _ ⟨T, rfl, t1, t3⟩
      dsimp only
      rw [zz_tr]
      refine Rt.let (Rt.some ⟨T, 2, ?_, t1, t3⟩)
      rw [show dv (atM (radF N w) a) 1 s = atM (radF N w) a s from propext dv_one]
    · rw [i_c0, i_eq (by omega) (by omega) (by omega) (by omega)] at h0 h1
      rw [i_c1, i_eq (by omega) (by omega) (by omega) (by omega)] at h2
      obtain ⟨⟨i, i8⟩, i1, i2⟩ := low_bit ⟨s, by omega⟩ (by show s ≠ 0; omega)
      dsimp only at i1 i2
      rw [i2]
      refine Rt.let ?_
      rw [i_xor2]
      refine Rt.let ?_
      have rs : s ^^^ 2 ^ i < 2 ^ nN N := sub_lt (xr_sub (fun q hq => by rw [Nat.testBit_two_pow] at hq; have : i = q := by simpa using hq
                                                                         rw [← this]; exact i1)) hs
      obtain ⟨k', rfl⟩ : ∃ k', k = k' + 1 := ⟨k - 1, by omega⟩
      refine Rt.loop (ι := Nat) (fun t v U => v = i32 t ∧ sub t (s ^^^ 2 ^ i) ∧ (∀ q, sub q (s ^^^ 2 ^ i) → t < q → ¬ (atM (radF N w) a (q ||| 2 ^ i) ∧ dv (atM (radF N w) a) k' ((s ^^^ 2 ^ i) ^^^ q))) ∧ ∃ j', frJ b p j j' S U ∧ plS j' b U p x N w) (fun t => t) ?_ F (s ^^^ 2 ^ i) _ _ ⟨rfl, sub_refl _, fun q hq hl => by have := sub_le hq; omega, j, frJ.rf hS.1, hS⟩ (by omega)
      rintro n t _ U ⟨rfl, ht, hno, j', fU, hU⟩ ih
      obtain ⟨gs, gx⟩ := grp_xr i1 ht
      have gl := sub_lt gs hs
      have tl : t ≤ s ^^^ 2 ^ i := sub_le ht
      have nxt : ∀ (V : St) (j2 : Nat), frJ b p j j2 S V → plS j2 b V p x N w → ¬ (atM (radF N w) a (t ||| 2 ^ i) ∧ dv (atM (radF N w) a) k' ((s ^^^ 2 ^ i) ^^^ t)) → Rt (C_X3_isDivided_83 F (C_X3_isDivided_d F d) (C_X3_isDivided_48 F (C_X3_isDivided_d F d) p (i32 ((k' + 1 : Nat) : Int)) (j64 a.1) (j64 a.2) (i32 ((2 ^ i : Nat) : Int)) (i32 ((s ^^^ 2 ^ i : Nat) : Int)) n) p (i32 ((k' + 1 : Nat) : Int)) (j64 a.1) (j64 a.2) (i32 ((2 ^ i : Nat) : Int)) (i32 ((s ^^^ 2 ^ i : Nat) : Int)) (i32 t) V) (fun v => ∃ T j', v = (i32 (tr01 (dv (atM (radF N w) a) (k' + 1) s)), T) ∧ frJ b p j j' S T ∧ plS j' b T p x N w) := by
        intro V j2 fV hV hn
        unfold C_X3_isDivided_83
        refine Rt.ite (fun z => ?_) (fun z => ?_)
        · rw [i_c0, i_eq (by omega) (by omega) (by omega) (by omega)] at z
          have z0 : t = 0 := by omega
          have : ¬ dv (atM (radF N w) a) (k' + 1) s := by
            intro hd
            obtain ⟨g, g1, g2, g3, g4⟩ := dv_first hd i1
            obtain ⟨q, q1, rfl⟩ := grp_of i1 g1 g2
            rw [(grp_xr i1 q1).2] at g4
            by_cases e : q = t
            · rw [e] at g3 g4; exact hn ⟨g3, g4⟩
            · exact hno q q1 (by omega) ⟨g3, g4⟩
          exact Rt.some ⟨V, j2, by rw [← tr_0 this], fV, hV⟩
        · rw [i_c0, i_eq (by omega) (by omega) (by omega) (by omega)] at z
          have z0 : t ≠ 0 := by omega
          have e1 : i32 (t : Int) - 1 = i32 ((t - 1 : Nat) : Int) := by rw [i_c1, i_sub]; congr 1; omega
          rw [e1, i_and2]
          refine Rt.let (ih ((t - 1) &&& (s ^^^ 2 ^ i)) _ _ ⟨rfl, pred_sub _ _, fun q hq hl => ?_, j2, fV, hV⟩ (pred_lt z0))
          by_cases e : q = t
          · rw [e]; exact hn
          · by_cases l : t < q
            · exact hno q hq l
            · have := pred_and ht hq (by omega); omega
      unfold C_X3_isDivided_48
      rw [i_or2]
      refine Rt.bind (C_isAtM hN hw9 hc he gl hU ha ha2 hF) ?_
      rintro _ ⟨V, rfl, v1, v2⟩
      dsimp only
      refine Rt.ite (fun z => ?_) (fun z => ?_)
      · rw [i_c0] at z
        exact nxt V 2 (fU.tr v1) v2 (fun q => tr01_n z q.1)
      · rw [i_c0] at z
        have hA := tr01_y z
        have e1 : i32 ((k' + 1 : Nat) : Int) - 1 = i32 ((k' : Nat) : Int) := by rw [i_c1, i_sub]; congr 1; omega
        rw [i_xor2, e1]
        have rl : (s ^^^ 2 ^ i) ^^^ t < 2 ^ nN N := sub_lt (xr_sub ht) rs
        refine Rt.bind (ihd k' _ 2 V (by omega) (by omega) rl v2) ?_
        rintro _ ⟨X, j2, rfl, x1, x2⟩
        dsimp only
        refine Rt.ite (fun y => ?_) (fun y => ?_)
        · rw [i_c0] at y
          exact nxt X j2 ((fU.tr v1).tr x1) x2 (fun q => tr01_n y q.2)
        · rw [i_c0] at y
          have : dv (atM (radF N w) a) (k' + 1) s := ⟨t ||| 2 ^ i, gs, hA, by rw [gx]; exact tr01_y y⟩
          exact Rt.some ⟨X, j2, by rw [← tr_1 this], (fU.tr v1).tr x1, x2⟩
end CJ
