/-! THE CLASS's TEXT: a StringBuilder of signs from 0 to 126 -/
theorem ch_ok : ∀ c : Fin 127, zc (((i32 (c.1 : Int) &&& 255).toUInt32 % 65536).toInt32) = some (i32 (c.1 : Int)) ∧ zc (i32 (c.1 : Int)) = some (i32 (c.1 : Int)) ∧ vp_nar .byte ((i32 (c.1 : Int)).toInt8.toInt32) = i32 (c.1 : Int) ∧ fits .byte (.int (i32 (c.1 : Int))) = true ∧ ((i32 (c.1 : Int)).toUInt32 % 65536).toInt32 = i32 (c.1 : Int) := by decide +kernel
theorem ch_z {z : Int} (h0 : 0 ≤ z) (h1 : z ≤ 126) : zc (((i32 z &&& 255).toUInt32 % 65536).toInt32) = some (i32 z) ∧ zc (i32 z) = some (i32 z) ∧ vp_nar .byte ((i32 z).toInt8.toInt32) = i32 z ∧ fits .byte (.int (i32 z)) = true ∧ ((i32 z).toUInt32 % 65536).toInt32 = i32 z := by
  have := ch_ok ⟨z.toNat, by omega⟩
  simp only at this
  rwa [show ((z.toNat : Nat) : Int) = z by omega] at this
theorem i_shr0 (x : Int32) : x >>> (0 &&& 31 : Int32) = x := by
  rw [show (0 &&& 31 : Int32) = 0 from rfl]; exact Int32.shiftRight_zero
theorem i_shl0 (x : Int32) : x <<< (0 &&& 31 : Int32) = x := by
  rw [show (0 &&& 31 : Int32) = 0 from rfl]; exact Int32.shiftLeft_zero
def txC (S : St) (x : Nat) (t : List Int) : Prop := ∃ (v L : Nat) (f : Nat → Int32) (ml : Int32), S.1 x = some (cO 12 [.ref v, .int 0, .int ml, .int (i32 t.length)]) ∧ S.1 v = some (cI 2 L f) ∧ (16 ≤ L ∧ L ≤ 300 ∧ t.length ≤ L) ∧ (∀ i, i < L → ∃ z : Int, f i = i32 z ∧ 0 ≤ z ∧ z ≤ 126) ∧ ∀ i, i < t.length → f i = i32 (chr t i)
/-- cells that are not a text's -/
def tk (c : Cel) : Prop := match c with
  | .inl (k, _) => k ≠ 2
  | .inr (ci, _) => ci ≠ 12
section TX
variable {S T : St} {x : Nat} {t : List Int} {F : Nat} {ek : Nat → Nat}
theorem txC.ke (h : txC S x t) (k : ∀ q e, S.1 q = some e → ¬ tk e → T.1 q = some e) : txC T x t := by
  obtain ⟨v, L, f, ml, a, b, c⟩ := h
  exact ⟨v, L, f, ml, k _ _ a (fun z => z rfl), k _ _ b (fun z => z rfl), c⟩
theorem C_length (h : txC S x t) : C_J4_length S x = some (i32 t.length) := by
  obtain ⟨v, L, f, ml, a, b, c⟩ := h
  unfold C_J4_length C_J3_length
  rw [gO_of a, gI_of (k := 3) a rfl]
  rfl
theorem C_charAt {p : Nat} (h : txC S x t) (hp : p < t.length) : C_J4_charAt ek S x (i32 p) = some (i32 (chr t p)) := by
  obtain ⟨v, L, f, ml, a, b, ⟨c1, c2, c3⟩, d1, d2⟩ := h
  obtain ⟨z, z1, z2, z3⟩ := d1 p (by omega)
  have e := d2 p hp
  rw [e] at z1
  have cz := ch_z z2 z3
  rw [← z1] at cz
  unfold C_J4_charAt C_J3_charAt
  rw [gO_of a, gI_of (k := 1) a rfl, gA_of (k := 0) a rfl, gI_of (k := 3) a rfl]
  simp only [Option.bind_eq_bind, Option.bind_some]
  rw [aN_of b]
  simp only [Option.bind_eq_bind, Option.bind_some]
  rw [i_shr0]
  have m : (if i32 (L : Int) < i32 (t.length : Int) then i32 (L : Int) else i32 (t.length : Int)) = i32 (t.length : Int) := if_neg (by rw [i_lt (by omega) (by omega) (by omega) (by omega)]; omega)
  show ((C_J5_checkIndex ek (i32 p) (if i32 (L : Int) < i32 (t.length : Int) then i32 (L : Int) else i32 (t.length : Int))).bind _).bind _ = _
  rw [m]
  unfold C_J5_checkIndex C_J20_checkIndex
  rw [if_neg (by rw [i_c0, i_lt (by omega) (by omega) (by omega) (by omega)]; omega), if_pos (by rw [i_lt (by omega) (by omega) (by omega) (by omega)]; omega)]
  simp only [Option.bind_eq_bind, Option.bind_some]
  rw [if_pos trivial, lI_of b (by omega) (by omega) (by omega), Int.toNat_natCast, e]
  simp only [Option.bind_eq_bind, Option.bind_some]
  rw [cz.1]
  simp only [Option.bind_eq_bind, Option.bind_some]
  rw [cz.2.1]
  rfl
/-- room for one more -/
theorem C_ensure {v L : Nat} {f : Nat → Int32} {ml : Int32} {n : Nat} (hw : wfS S) (a : S.1 x = some (cO 12 [.ref v, .int 0, .int ml, .int (i32 n)])) (b : S.1 v = some (cI 2 L f)) (hL : 16 ≤ L ∧ L ≤ 300) (hn : n ≤ L) (hn2 : n < 120) (hf : ∀ i, i < L → ∃ z : Int, f i = i32 z ∧ 0 ≤ z ∧ z ≤ 126) :
    ∃ T v' L' f', C_J3_ensureCapacityInternal S x (i32 n + 1) = some T ∧ wfS T ∧ S.2.1 ≤ T.2.1 ∧ T.2.2.1 ≤ S.2.2.1 + 1 ∧ T.2.2.2 ≤ S.2.2.2 + 300 ∧ (∀ q e, S.1 q = some e → q ≠ x → T.1 q = some e) ∧ T.1 x = some (cO 12 [.ref v', .int 0, .int ml, .int (i32 n)]) ∧ T.1 v' = some (cI 2 L' f') ∧ (16 ≤ L' ∧ L' ≤ 300) ∧ n < L' ∧ (∀ i, i < L' → ∃ z : Int, f' i = i32 z ∧ 0 ≤ z ∧ z ≤ 126) ∧ (∀ i, i < n → f' i = f i) := by
  have en : i32 (n : Int) + 1 = i32 ((n + 1 : Nat) : Int) := by rw [i_c1, i_add]; congr 1
  have ee : i32 ((n + 1 : Nat) : Int) - i32 (L : Int) = i32 (((n + 1 : Nat) : Int) - L) := i_sub _ _
  rw [en]
  by_cases h : n < L
  · refine ⟨S, v, L, f, ?_, hw, Nat.le_refl _, by omega, by omega, fun q e hq _ => hq, a, b, hL, h, hf, fun i _ => rfl⟩
    unfold C_J3_ensureCapacityInternal
    rw [gO_of a, gA_of (k := 0) a rfl, gI_of (k := 1) a rfl]
    simp only [Option.bind_eq_bind, Option.bind_some]
    rw [aN_of b]
    simp only [Option.bind_eq_bind, Option.bind_some]
    rw [i_shr0]
    show (if i32 ((n + 1 : Nat) : Int) - i32 (L : Int) ≤ 0 then _ else _) = _
    rw [ee, if_pos (by rw [i_c0, i_le (by omega) (by omega) (by omega) (by omega)]; omega)]
  · obtain rfl : n = L := by omega
    have xv : x ≠ v := by
      rintro rfl
      rw [a] at b; cases b
    have eL : ∀ e : Cel, (al S e (2 * n + 2)).1 v = some (cI 2 n f) := fun e => by rw [al_ne (by have := hw.lt b; omega)]; exact b
    have eX : ∀ e : Cel, (al S e (2 * n + 2)).1 x = some (cO 12 [.ref v, .int 0, .int ml, .int (i32 n)]) := fun e => by rw [al_ne (by have := hw.lt a; omega)]; exact a
    have nc : C_J3_newCapacity S x (i32 ((n + 1 : Nat) : Int)) = some (i32 ((2 * n + 2 : Nat) : Int)) := by
      unfold C_J3_newCapacity
      rw [gO_of a, gA_of (k := 0) a rfl, gI_of (k := 1) a rfl]
      simp only [Option.bind_eq_bind, Option.bind_some]
      rw [aN_of b]
      simp only [Option.bind_eq_bind, Option.bind_some]
      rw [i_shl0, i_shl0]
      have e1 : i32 ((n + 1 : Nat) : Int) - i32 (n : Int) = i32 1 := by rw [i_sub]; congr 1; omega
      have e2 : i32 (n : Int) + 2 = i32 ((n : Int) + 2) := by rw [i_c2, i_add]
      show ((C_J19_newLength (i32 n) (i32 ((n + 1 : Nat) : Int) - i32 (n : Int)) (i32 (n : Int) + 2)).bind _) = _
      rw [e1, e2]
      have nl : C_J19_newLength (i32 n) (i32 1) (i32 ((n : Int) + 2)) = some (i32 ((2 * n + 2 : Nat) : Int)) := by
        unfold C_J19_newLength
        rw [if_pos (by rw [i_lt (by omega) (by omega) (by omega) (by omega)]; omega), i_add]
        simp only [Option.bind_eq_bind, Option.bind_some]
        rw [show (n : Int) + (n + 2) = ((2 * n + 2 : Nat) : Int) by omega]
        rw [if_neg (by rw [i_c0, i_le (by omega) (by omega) (by omega) (by omega)]; omega), if_neg (by rw [show (2147483639 : Int32) = i32 2147483639 from rfl, i_lt (by omega) (by omega) (by omega) (by omega)]; omega)]
      rw [nl]
      simp only [Option.bind_eq_bind, Option.bind_some]
      rw [if_neg (by rw [show (2147483647 : Int32) = i32 2147483647 from rfl, i_eq (by omega) (by omega) (by omega) (by omega)]; omega), i_shr0]
    have cp : C_J12_copyOf S v (i32 ((2 * n + 2 : Nat) : Int)) = some (S.2.1, al S (cI 2 (2 * n + 2) (va_cpy f (fun _ => 0) 0 0 n)) (2 * n + 2)) := by
      unfold C_J12_copyOf
      rw [aN_of b]
      simp only [Option.bind_eq_bind, Option.bind_some]
      rw [if_neg (by show ¬ i32 ((2 * n + 2 : Nat) : Int) = i32 (n : Int); rw [i_eq (by omega) (by omega) (by omega) (by omega)]; omega), mkI (by omega) (by omega), Int.toNat_natCast]
      simp only [Option.bind_eq_bind, Option.bind_some]
      rw [aN_of (eL _)]
      simp only [Option.bind_eq_bind, Option.bind_some]
      have mn : (if i32 ((2 * n + 2 : Nat) : Int) < i32 (n : Int) then i32 ((2 * n + 2 : Nat) : Int) else i32 (n : Int)) = i32 (n : Int) := if_neg (by rw [i_lt (by omega) (by omega) (by omega) (by omega)]; omega)
      show (cB_ _ v S.2.1 0 0 (if i32 ((2 * n + 2 : Nat) : Int) < i32 (n : Int) then i32 ((2 * n + 2 : Nat) : Int) else i32 (n : Int))).bind _ = _
      rw [mn]
      unfold cB_
      rw [aI_of (eL _)]
      simp only [Option.bind_eq_bind, Option.bind_some]
      rw [if_pos, i_c0, cI_of (eL _) (al_me _ _ _) (by omega) (by omega) (by omega) (by omega) (by omega) (by omega) (by omega), put_al, Int.toNat_natCast]
      · rfl
      · unfold fitB
        rw [i_nat (by omega) (by omega), List.all_eq_true, Int.toNat_natCast]
        intro i hi
        rw [List.mem_range] at hi
        obtain ⟨z, z1, z2, z3⟩ := hf i hi
        rw [show (0 : Int32).toNatClampNeg + i = i by rw [show (0 : Int32).toNatClampNeg = 0 from rfl, Nat.zero_add], z1]
        exact (ch_z z2 z3).2.2.2.1
    have xs : x ≠ S.2.1 := by have := hw.lt a; omega
    refine ⟨put (al S (cI 2 (2 * n + 2) (va_cpy f (fun _ => 0) 0 0 n)) (2 * n + 2)) x (cO 12 [.ref S.2.1, .int 0, .int ml, .int (i32 n)]), S.2.1, 2 * n + 2, va_cpy f (fun _ => 0) 0 0 n, ?_, (hw.al).put (eX _), Nat.le_succ _, Nat.le_refl _, ?_, fun q e hq hne => ?_, put_me _ _ _, ?_, ⟨by omega, by omega⟩, by omega, fun i hi => ?_, fun i hi => ?_⟩
    · unfold C_J3_ensureCapacityInternal
      rw [gO_of a, gA_of (k := 0) a rfl, gI_of (k := 1) a rfl]
      simp only [Option.bind_eq_bind, Option.bind_some]
      rw [aN_of b]
      simp only [Option.bind_eq_bind, Option.bind_some]
      rw [i_shr0]
      show (if i32 ((n + 1 : Nat) : Int) - i32 (n : Int) ≤ 0 then _ else _) = _
      rw [ee, if_neg (by rw [i_c0, i_le (by omega) (by omega) (by omega) (by omega)]; omega), nc]
      simp only [Option.bind_eq_bind, Option.bind_some]
      rw [i_shl0, cp]
      simp only [Option.bind_eq_bind, Option.bind_some]
      have p1 : gP (al S (cI 2 (2 * n + 2) (va_cpy f (fun _ => 0) 0 0 n)) (2 * n + 2)) 12 x 0 (.ref S.2.1) = some (put (al S (cI 2 (2 * n + 2) (va_cpy f (fun _ => 0) 0 0 n)) (2 * n + 2)) x (cO 12 [.ref S.2.1, .int 0, .int ml, .int (i32 n)])) := gP_of (eX _) (by simp)
      rw [p1]
      rfl
    · show S.2.2.2 + (2 * n + 2) ≤ _; omega
    · rw [put_ne hne, al_ne (by have := hw.lt hq; omega)]; exact hq
    · rw [put_ne (Ne.symm xs)]; exact al_me _ _ _
    · rw [cpy_at]
      by_cases q : i < n
      · rw [if_pos (by omega), show 0 + (i - 0) = i by omega]; exact hf i q
      · rw [if_neg (by omega)]; exact ⟨0, rfl, by omega, by omega⟩
    · rw [cpy_at, if_pos (by omega), show 0 + (i - 0) = i by omega]
/-- one more sign -/
theorem C_append {c : Int} (hw : wfS S) (h : txC S x t) (ht : t.length < 120) (h0 : 0 ≤ c) (h1 : c ≤ 126) : ∃ T, C_J4_append_3 S x (i32 c) = some (x, T) ∧ wfS T ∧ S.2.1 ≤ T.2.1 ∧ T.2.2.1 ≤ S.2.2.1 + 1 ∧ T.2.2.2 ≤ S.2.2.2 + 300 ∧ (∀ q e, S.1 q = some e → tk e → T.1 q = some e) ∧ txC T x (t ++ [c]) := by
  obtain ⟨v, L, f, ml, a, b, ⟨c1, c2, c3⟩, d1, d2⟩ := h
  obtain ⟨U, v', L', f', u1, u2, u3, u4, u5, u6, u7, u8, u9, u10, u11, u12⟩ := C_ensure hw a b ⟨c1, c2⟩ c3 ht d1
  have en : i32 (t.length : Int) + 1 = i32 ((t.length + 1 : Nat) : Int) := by rw [i_c1, i_add]; congr 1
  have xv : v' ≠ x := by
    rintro rfl
    rw [u7] at u8; cases u8
  have p1 : gP U 12 x 3 (.int (i32 t.length + 1)) = some (put U x (cO 12 [.ref v', .int 0, .int ml, .int (i32 t.length + 1)])) := gP_of u7 (by simp)
  have cv : (put U x (cO 12 [.ref v', .int 0, .int ml, .int (i32 t.length + 1)])).1 v' = some (cI 2 L' f') := by rw [put_ne xv]; exact u8
  refine ⟨put (put U x (cO 12 [.ref v', .int 0, .int ml, .int (i32 t.length + 1)])) v' (cI 2 L' (upd f' t.length (i32 c))), ?_, (u2.put u7).put cv, u3, u4, u5, fun q e hq hk => ?_, v', L', upd f' t.length (i32 c), ml, ?_, put_me _ _ _, ⟨u9.1, u9.2, ?_⟩, fun i hi => ?_, fun i hi => ?_⟩
  · unfold C_J4_append_3 C_J3_append_3
    rw [gO_of a, gI_of (k := 3) a rfl]
    simp only [Option.bind_eq_bind, Option.bind_some]
    rw [u1]
    simp only [Option.bind_eq_bind, Option.bind_some]
    unfold C_J3_isLatin1
    rw [gO_of u7, gI_of (k := 1) u7 rfl, if_neg (by decide)]
    simp only [Option.bind_eq_bind, Option.bind_some]
    rw [if_pos trivial]
    simp only [Option.bind_eq_bind, Option.bind_some]
    rw [if_neg (by decide)]
    unfold C_J21_canEncode
    rw [if_neg (by rw [show (255 : Int32) = i32 255 from rfl, i_lt (by omega) (by omega) (by omega) (by omega)]; omega)]
    simp only [Option.bind_eq_bind, Option.bind_some]
    rw [if_neg (by decide), gA_of (k := 0) u7 rfl, gI_of (k := 3) u7 rfl]
    simp only [Option.bind_eq_bind, Option.bind_some]
    rw [p1]
    simp only [Option.bind_eq_bind, Option.bind_some]
    rw [(ch_z h0 h1).2.2.1, tI_of cv (by omega) (by omega) (by omega), Int.toNat_natCast]
    rfl
  · have n1 : q ≠ x := by
      rintro rfl
      rw [a] at hq; cases hq; exact hk rfl
    have hq' := u6 q e hq n1
    have n2 : q ≠ v' := by
      rintro rfl
      rw [u8] at hq'; cases hq'; exact hk rfl
    rw [put_ne n2, put_ne n1]; exact hq'
  · rw [put_ne (Ne.symm xv), put_me, en, List.length_append]; rfl
  · rw [List.length_append]; show t.length + 1 ≤ L'; omega
  · rw [upd_at]
    by_cases q : i = t.length
    · rw [if_pos q]; exact ⟨c, rfl, h0, h1⟩
    · rw [if_neg q]; exact u11 i hi
  · rw [List.length_append] at hi
    have hi' : i < t.length + 1 := hi
    rw [upd_at]
    unfold chr
    rw [getD_app]
    by_cases q : i = t.length
    · rw [if_pos q, if_neg (by omega), if_pos q]
    · rw [if_neg q, if_pos (by omega), u12 i (by omega)]; exact d2 i (by omega)
/-- the text is emptied -/
theorem C_clear (hw : wfS S) (h : txC S x t) (ht : t.length ≤ 120) : ∃ T, C_J4_setLength F S x 0 = some T ∧ wfS T ∧ T.2 = S.2 ∧ (∀ q e, S.1 q = some e → tk e → T.1 q = some e) ∧ txC T x [] := by
  obtain ⟨v, L, f, ml, a, b, ⟨c1, c2, c3⟩, d1, d2⟩ := h
  have xv : v ≠ x := by
    rintro rfl
    rw [a] at b; cases b
  have en : C_J3_ensureCapacityInternal S x 0 = some S := by
    unfold C_J3_ensureCapacityInternal
    rw [gO_of a, gA_of (k := 0) a rfl, gI_of (k := 1) a rfl]
    simp only [Option.bind_eq_bind, Option.bind_some]
    rw [aN_of b]
    simp only [Option.bind_eq_bind, Option.bind_some]
    rw [i_shr0]
    show (if (0 : Int32) - i32 (L : Int) ≤ 0 then _ else _) = _
    rw [i_c0, i_sub, if_pos (by rw [i_le (by omega) (by omega) (by omega) (by omega)]; omega)]
  have fin : ∀ ml' : Int32, ∀ U : St, U.1 x = some (cO 12 [.ref v, .int 0, .int ml', .int (i32 t.length)]) → (∀ q, q ≠ x → U.1 q = S.1 q) → U.2 = S.2 → wfS U → ∃ T, C_J3_setLength_76 F x 0 U = some T ∧ wfS T ∧ T.2 = S.2 ∧ (∀ q e, S.1 q = some e → tk e → T.1 q = some e) ∧ txC T x [] := by
    intro ml' U hU hq h2 hwU
    refine ⟨put U x (cO 12 [.ref v, .int 0, .int ml', .int 0]), ?_, hwU.put hU, h2, fun q e he hk => ?_, v, L, f, ml', put_me _ _ _, ?_, ⟨c1, c2, by simp⟩, d1, fun i hi => by simp at hi⟩
    · unfold C_J3_setLength_76
      have p1 : gP U 12 x 3 (.int 0) = some (put U x (cO 12 [.ref v, .int 0, .int ml', .int 0])) := gP_of hU (by simp)
      rw [p1]
      rfl
    · have n1 : q ≠ x := by
        rintro rfl
        rw [a] at he; cases he; exact hk rfl
      rw [put_ne n1, hq q n1]; exact he
    · rw [put_ne xv, hq v xv]; exact b
  have pre : ∀ {T : St}, (if i32 (t.length : Int) ≤ 0 then C_J3_setLength_76 F x 0 S else (gP S 12 x 2 (.int 1)) >>= fun S4 => C_J3_setLength_76 F x 0 S4) = some T → C_J4_setLength F S x 0 = some T := by
    intro T hT
    unfold C_J4_setLength C_J3_setLength
    rw [gO_of a, if_pos (by decide), en]
    simp only [Option.bind_eq_bind, Option.bind_some]
    rw [gI_of (k := 3) a rfl]
    simp only [Option.bind_eq_bind, Option.bind_some]
    rw [if_pos (by rw [i_c0, i_le (by omega) (by omega) (by omega) (by omega)]; omega)]
    rw [show (if i32 (t.length : Int) ≤ 0 then C_J3_setLength_76 F x 0 S else (gP S 12 x 2 (.int 1)).bind fun S4 => C_J3_setLength_76 F x 0 S4) = some T from hT]
    rfl
  by_cases hz : i32 (t.length : Int) ≤ 0
  · obtain ⟨T, e1, e2⟩ := fin ml S a (fun _ _ => rfl) rfl hw
    exact ⟨T, pre (by rw [if_pos hz]; exact e1), e2⟩
  · have p1 : gP S 12 x 2 (.int 1) = some (put S x (cO 12 [.ref v, .int 0, .int 1, .int (i32 t.length)])) := gP_of a (by simp)
    obtain ⟨T, e1, e2⟩ := fin 1 (put S x (cO 12 [.ref v, .int 0, .int 1, .int (i32 t.length)])) (put_me _ _ _) (fun q hq => put_ne hq) rfl (hw.put a)
    exact ⟨T, pre (by rw [if_neg hz, p1]; exact e1), e2⟩
/-- a new text -/
theorem C_newText {S0 : St} (hw : wfS S) (a : S.1 x = some (cO 12 df_12)) : ∃ T, C_J4_init S x = some T ∧ wfS T ∧ T.2 = (S.2.1 + 1, S.2.2.1 + 1, S.2.2.2 + 16) ∧ (∀ q e, S.1 q = some e → q ≠ x → T.1 q = some e) ∧ txC T x [] := by
  have xs : x ≠ S.2.1 := by have := hw.lt a; omega
  have eX : (al S (cI 2 16 (fun _ => 0)) 16).1 x = some (cO 12 df_12) := by rw [al_ne xs]; exact a
  have p1 : gP (al S (cI 2 16 (fun _ => 0)) 16) 12 x 0 (.ref S.2.1) = some (put (al S (cI 2 16 (fun _ => 0)) 16) x (cO 12 [.ref S.2.1, .int 0, .int 0, .int 0])) := gP_of eX (by decide)
  have p2 : gP (put (al S (cI 2 16 (fun _ => 0)) 16) x (cO 12 [.ref S.2.1, .int 0, .int 0, .int 0])) 12 x 1 (.int 0) = some (put (put (al S (cI 2 16 (fun _ => 0)) 16) x (cO 12 [.ref S.2.1, .int 0, .int 0, .int 0])) x (cO 12 [.ref S.2.1, .int 0, .int 0, .int 0])) := gP_of (put_me _ _ _) (by simp)
  rw [put_put] at p2
  refine ⟨put (al S (cI 2 16 (fun _ => 0)) 16) x (cO 12 [.ref S.2.1, .int 0, .int 0, .int 0]), ?_, hw.al.put eX, rfl, fun q e hq hne => ?_, S.2.1, 16, fun _ => 0, 0, put_me _ _ _, ?_, ⟨by omega, by omega, by simp⟩, fun i _ => ⟨0, rfl, by omega, by omega⟩, fun i hi => by simp at hi⟩
  · unfold C_J4_init C_J3_init
    have mk : nI_ S 2 16 = some (S.2.1, al S (cI 2 16 (fun _ => 0)) 16) := mkI (n := 16) (by decide) (by decide)
    rw [if_neg (by decide), mk]
    simp only [Option.bind_eq_bind, Option.bind_some]
    rw [p1]
    simp only [Option.bind_eq_bind, Option.bind_some]
    rw [p2]
    rfl
  · rw [put_ne hne, al_ne (by have := hw.lt hq; omega)]; exact hq
  · rw [put_ne (Ne.symm xs)]; exact al_me _ _ _
end TX
