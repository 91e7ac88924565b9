/-! BITS: words of a set of bits; the count of trailing zeros -/
theorem lowbit {V t : Nat} (h1 : V.testBit t = true) (h2 : ∀ s, s < t → V.testBit s = false) : V = 2 ^ (t + 1) * (V / 2 ^ (t + 1)) + 2 ^ t := by
  have hm : V % 2 ^ (t + 1) = 2 ^ t := by
    apply Nat.eq_of_testBit_eq
    intro j
    rw [Nat.testBit_mod_two_pow, Nat.testBit_two_pow]
    by_cases e : j = t
    · subst e; rw [h1]; simp
    · by_cases l : j < t
      · rw [h2 j l]; simp; omega
      · have : ¬ j < t + 1 := by omega
        simp [this]; omega
  have := Nat.div_add_mod V (2 ^ (t + 1))
  rw [hm] at this
  exact this.symm
theorem predbit {V t j : Nat} (h1 : V.testBit t = true) (h2 : ∀ s, s < t → V.testBit s = false) : (V - 1).testBit j = if j < t then true else if j = t then false else V.testBit j := by
  have h := lowbit h1 h2
  have h0 : 1 ≤ 2 ^ t := Nat.one_le_two_pow
  have e : V - 1 = 2 ^ (t + 1) * (V / 2 ^ (t + 1)) + (2 ^ t - 1) := by omega
  have l : 2 ^ t - 1 < 2 ^ (t + 1) := by rw [Nat.pow_succ]; omega
  rw [e, Nat.testBit_two_pow_mul_add _ l, Nat.testBit_two_pow_sub_one, Nat.testBit_div_two_pow]
  by_cases c1 : j < t
  · rw [if_pos (by omega), if_pos c1]; simp [c1]
  · rw [if_neg c1]
    by_cases c2 : j = t
    · rw [if_pos (by omega), if_pos c2]; simp [c1]
    · rw [if_neg (by omega), if_neg c2]; congr 1; omega
theorem i_bv (a : Nat) : (i32 (a : Int)).toBitVec = BitVec.ofNat 32 a := by unfold i32; rw [Int32.toBitVec_ofInt, BitVec.ofInt_natCast]
theorem j_bv (a : Nat) : (j64 (a : Int)).toBitVec = BitVec.ofNat 64 a := by unfold j64; rw [Int64.toBitVec_ofInt, BitVec.ofInt_natCast]
theorem ntz_arg {V t : Nat} (ht : t < 32) (h1 : V.testBit t = true) (h2 : ∀ s, s < t → V.testBit s = false) : (i32 (V : Int) ^^^ (-1)) &&& (i32 (V : Int) - 1) = i32 ((2 ^ t - 1 : Nat) : Int) := by
  have hV : 1 ≤ V := by
    apply Classical.byContradiction
    intro hn
    rw [show V = 0 by omega, Nat.zero_testBit] at h1; cases h1
  apply Int32.toBitVec.inj
  show ((i32 (V : Int)).toBitVec ^^^ BitVec.allOnes 32) &&& ((i32 (V : Int)).toBitVec - 1#32) = _
  rw [i_bv, i_bv]
  have e : BitVec.ofNat 32 V - 1#32 = BitVec.ofNat 32 (V - 1) := by
    have e2 : BitVec.ofNat 32 V = BitVec.ofNat 32 (V - 1) + 1#32 := by
      apply BitVec.eq_of_toNat_eq
      rw [BitVec.toNat_add, BitVec.toNat_ofNat, BitVec.toNat_ofNat]
      simp
      rw [show V - 1 + 1 = V by omega]
    rw [e2, BitVec.add_sub_cancel]
  rw [e]
  apply BitVec.eq_of_getLsbD_eq
  intro j hj
  rw [BitVec.getLsbD_and, BitVec.getLsbD_xor, BitVec.getLsbD_ofNat, BitVec.getLsbD_ofNat, BitVec.getLsbD_ofNat, BitVec.getLsbD_allOnes, predbit h1 h2, Nat.testBit_two_pow_sub_one]
  by_cases c1 : j < t
  · rw [if_pos c1, h2 j c1]; simp [hj, c1]
  · rw [if_neg c1]
    by_cases c2 : j = t
    · rw [if_pos c2]; simp [c1]
    · rw [if_neg c2]; cases V.testBit j <;> simp [c1]
def gz (y1 : Int32) : Option Int32 :=
  if 0 < y1 then (
  if y1 ≤ 65536 then (
  C_J22_numberOfTrailingZeros_34 y1 1)
  else (
  (some (1 + 16)) >>= fun y2 =>
  (some ((((y1) : Int32).toUInt32 >>> (((16) : Int32).toUInt32 &&& Int32.toUInt32 31)).toInt32)) >>= fun y3 =>
  C_J22_numberOfTrailingZeros_34 y3 y2))
  else (
  some (y1 &&& 32))
theorem gz_all : ∀ t : Fin 32, gz (i32 ((2 ^ t.1 - 1 : Nat) : Int)) = some (i32 (t.1 : Int)) := by decide +kernel
theorem C_ntz32 {V t : Nat} (ht : t < 32) (h1 : V.testBit t = true) (h2 : ∀ s, s < t → V.testBit s = false) : C_J22_numberOfTrailingZeros (i32 (V : Int)) = some (i32 (t : Int)) := by
  show gz ((i32 (V : Int) ^^^ (-1)) &&& (i32 (V : Int) - 1)) = _
  rw [ntz_arg ht h1 h2]
  exact gz_all ⟨t, ht⟩
theorem j_lo (W : Nat) : (j64 (W : Int)).toInt32 = i32 ((W % 2 ^ 32 : Nat) : Int) := by
  apply Int32.toBitVec.inj
  rw [i_bv, Int64.toBitVec_toInt32, j_bv]
  apply BitVec.eq_of_toNat_eq
  rw [BitVec.signExtend_eq_setWidth_of_le _ (by decide)]
  simp
theorem j_hi {W : Nat} (hW : W < 2 ^ 64) : (((j64 (W : Int)).toUInt64 >>> (((32) : Int32).toInt64.toUInt64 &&& Int64.toUInt64 63)).toInt64).toInt32 = i32 ((W / 2 ^ 32 : Nat) : Int) := by
  apply Int32.toBitVec.inj
  rw [i_bv, Int64.toBitVec_toInt32]
  show ((j64 (W : Int)).toBitVec >>> 32#64 : BitVec 64).signExtend 32 = _
  rw [j_bv]
  apply BitVec.eq_of_toNat_eq
  rw [BitVec.signExtend_eq_setWidth_of_le _ (by decide)]
  simp [Nat.shiftRight_eq_div_pow]
  omega
theorem C_ntz {W t : Nat} (hW : W < 2 ^ 64) (h1 : W.testBit t = true) (h2 : ∀ s, s < t → W.testBit s = false) : C_J28_numberOfTrailingZeros (j64 (W : Int)) = some (i32 (t : Int)) := by
  have ht : t < 64 := by
    apply Classical.byContradiction
    intro hn
    rw [Nat.testBit_lt_two_pow (Nat.lt_of_lt_of_le hW (Nat.pow_le_pow_right (by decide) (by omega)))] at h1; cases h1
  unfold C_J28_numberOfTrailingZeros
  rw [j_lo, j_hi hW]
  simp only [Option.bind_eq_bind, Option.bind_some]
  by_cases c : t < 32
  · have h1' : (W % 2 ^ 32).testBit t = true := by rw [Nat.testBit_mod_two_pow, h1]; simp [c]
    have h2' : ∀ s, s < t → (W % 2 ^ 32).testBit s = false := by intro s hs; rw [Nat.testBit_mod_two_pow, h2 s hs]; simp
    have nz : ¬ i32 ((W % 2 ^ 32 : Nat) : Int) = 0 := by
      intro z
      have z1 : (i32 ((W % 2 ^ 32 : Nat) : Int)).toBitVec = 0#32 := by rw [z]; rfl
      rw [i_bv] at z1
      have z2 : (BitVec.ofNat 32 (W % 2 ^ 32)).getLsbD t = false := by rw [z1]; simp
      rw [BitVec.getLsbD_ofNat, h1'] at z2
      simp [c] at z2
    rw [if_neg nz, C_ntz32 c h1' h2']; rfl
  · have z0 : W % 2 ^ 32 = 0 := by
      apply Nat.eq_of_testBit_eq
      intro j
      rw [Nat.testBit_mod_two_pow, Nat.zero_testBit]
      by_cases cj : j < 32
      · rw [h2 j (by omega)]; simp
      · simp [cj]
    rw [z0, if_pos (show i32 ((0 : Nat) : Int) = 0 from rfl)]
    rw [C_ntz32 (V := W / 2 ^ 32) (t := t - 32) (by omega) (by rw [Nat.testBit_div_two_pow, show t - 32 + 32 = t by omega]; exact h1) (fun s hs => by rw [Nat.testBit_div_two_pow]; exact h2 _ (by omega))]
    simp only [Option.bind_eq_bind, Option.bind_some]
    rw [i_c32, i_add]
    congr 2
    omega
theorem j_z {W : Nat} (hW : W < 2 ^ 64) : j64 (W : Int) = 0 ↔ W = 0 := by
  constructor
  · intro z
    have z1 : (j64 (W : Int)).toBitVec = 0#64 := by rw [z]; rfl
    rw [j_bv] at z1
    have := congrArg BitVec.toNat z1
    rw [BitVec.toNat_ofNat] at this
    simp at this; omega
  · rintro rfl; rfl
theorem j_sh1 : ∀ s : Fin 64, (1 : Int64) <<< j64 (s.1 : Int) = j64 ((2 ^ s.1 : Nat) : Int) := by decide +kernel
theorem j_shm : ∀ s : Fin 64, (-1 : Int64) <<< j64 (s.1 : Int) = j64 ((2 ^ 64 - 2 ^ s.1 : Nat) : Int) := by decide +kernel
theorem j_63 {i : Nat} (hi : i < 2147483648) : (i32 (i : Int)).toInt64 &&& 63 = j64 ((i % 64 : Nat) : Int) := by
  rw [i_long (by omega) (by omega)]
  apply Int64.toBitVec.inj
  show (j64 (i : Int)).toBitVec &&& 63#64 = _
  rw [j_bv, j_bv, ← BitVec.ofNat_and, show (63 : Nat) = 2 ^ 6 - 1 from rfl, Nat.and_two_pow_sub_one_eq_mod]
theorem j_or {a c : Nat} : j64 (a : Int) ||| j64 (c : Int) = j64 ((a ||| c : Nat) : Int) := by
  apply Int64.toBitVec.inj
  show (j64 (a : Int)).toBitVec ||| (j64 (c : Int)).toBitVec = _
  rw [j_bv, j_bv, j_bv, BitVec.ofNat_or]
theorem j_and {a c : Nat} : j64 (a : Int) &&& j64 (c : Int) = j64 ((a &&& c : Nat) : Int) := by
  apply Int64.toBitVec.inj
  show (j64 (a : Int)).toBitVec &&& (j64 (c : Int)).toBitVec = _
  rw [j_bv, j_bv, j_bv, BitVec.ofNat_and]
/-- a bit more -/
theorem w_set {W i : Nat} (hi : i < 2147483648) : j64 (W : Int) ||| ((1 : Int64) <<< ((i32 (i : Int)).toInt64 &&& 63)) = j64 ((W ||| 2 ^ (i % 64) : Nat) : Int) := by
  rw [j_63 hi, j_sh1 ⟨i % 64, Nat.mod_lt _ (by decide)⟩, j_or]
theorem w_set_bit {W s j : Nat} : (W ||| 2 ^ s).testBit j = (W.testBit j || decide (s = j)) := by rw [Nat.testBit_or, Nat.testBit_two_pow]
/-- the bits from i on -/
theorem w_from {W i : Nat} (hW : W < 2 ^ 64) (hi : i < 2147483648) : ∃ R : Nat, R < 2 ^ 64 ∧ j64 (W : Int) &&& ((-1 : Int64) <<< ((i32 (i : Int)).toInt64 &&& 63)) = j64 (R : Int) ∧ ∀ j, R.testBit j = (W.testBit j && decide (i % 64 ≤ j)) := by
  have hs : i % 64 < 64 := Nat.mod_lt _ (by decide)
  refine ⟨W &&& (2 ^ 64 - 2 ^ (i % 64)), Nat.lt_of_le_of_lt Nat.and_le_left hW, ?_, fun j => ?_⟩
  · rw [j_63 hi, j_shm ⟨i % 64, hs⟩, j_and]
  · generalize i % 64 = s at *
    have e : 2 ^ 64 - 2 ^ s = 2 ^ s * (2 ^ (64 - s) - 1) := by rw [Nat.mul_sub, ← Nat.pow_add, show s + (64 - s) = 64 by omega, Nat.mul_one]
    rw [Nat.testBit_and, e, Nat.testBit_two_pow_mul, Nat.testBit_two_pow_sub_one]
    by_cases c : j < 64
    · by_cases c2 : s ≤ j
      · simp [c2]; intro _; omega
      · simp [c2]
    · rw [Nat.testBit_lt_two_pow (Nat.lt_of_lt_of_le hW (Nat.pow_le_pow_right (by decide) (by omega)))]; rfl
theorem w_idx {i : Nat} (hi : i < 2147483648) : C_J27_wordIndex (i32 (i : Int)) = some (i32 ((i / 64 : Nat) : Int)) := by
  unfold C_J27_wordIndex
  have := i_shr (s := i) (k := 6) hi (by decide)
  rw [show (6 &&& 31 : Int32) = i32 ((6 : Nat) : Int) &&& i32 31 from rfl, this]
