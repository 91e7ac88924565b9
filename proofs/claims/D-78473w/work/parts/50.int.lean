/-! INTEGERS OF THE MACHINE AS INTEGERS -/
def i32 (z : Int) : Int32 := Int32.ofInt z
def j64 (z : Int) : Int64 := Int64.ofInt z
theorem i_toInt {z : Int} (h1 : -2147483648 ≤ z) (h2 : z < 2147483648) : (i32 z).toInt = z := Int32.toInt_ofInt_of_le h1 h2
theorem j_toInt {z : Int} (h1 : -9223372036854775808 ≤ z) (h2 : z < 9223372036854775808) : (j64 z).toInt = z := Int64.toInt_ofInt_of_le h1 h2
theorem i_of (x : Int32) : x = i32 x.toInt := (Int32.ofInt_toInt x).symm
theorem j_of (x : Int64) : x = j64 x.toInt := (Int64.ofInt_toInt x).symm
theorem i_add (a b : Int) : i32 a + i32 b = i32 (a + b) := (Int32.ofInt_add a b).symm
theorem i_sub (a b : Int) : i32 a - i32 b = i32 (a - b) := (Int32.ofInt_sub a b).symm
theorem i_mul (a b : Int) : i32 a * i32 b = i32 (a * b) := (Int32.ofInt_mul a b).symm
theorem i_neg (a : Int) : -i32 a = i32 (-a) := (Int32.ofInt_neg a).symm
theorem j_add (a b : Int) : j64 a + j64 b = j64 (a + b) := (Int64.ofInt_add a b).symm
theorem j_sub (a b : Int) : j64 a - j64 b = j64 (a - b) := (Int64.ofInt_sub a b).symm
theorem j_mul (a b : Int) : j64 a * j64 b = j64 (a * b) := (Int64.ofInt_mul a b).symm
theorem j_neg (a : Int) : -j64 a = j64 (-a) := (Int64.ofInt_neg a).symm
theorem i_le {a b : Int} (h1 : -2147483648 ≤ a) (h2 : a < 2147483648) (h3 : -2147483648 ≤ b) (h4 : b < 2147483648) : (i32 a ≤ i32 b) = (a ≤ b) := by rw [Int32.le_iff_toInt_le, i_toInt h1 h2, i_toInt h3 h4]
theorem i_lt {a b : Int} (h1 : -2147483648 ≤ a) (h2 : a < 2147483648) (h3 : -2147483648 ≤ b) (h4 : b < 2147483648) : (i32 a < i32 b) = (a < b) := by rw [Int32.lt_iff_toInt_lt, i_toInt h1 h2, i_toInt h3 h4]
theorem i_eq {a b : Int} (h1 : -2147483648 ≤ a) (h2 : a < 2147483648) (h3 : -2147483648 ≤ b) (h4 : b < 2147483648) : (i32 a = i32 b) = (a = b) := by rw [← Int32.toInt_inj, i_toInt h1 h2, i_toInt h3 h4]
theorem j_le {a b : Int} (h1 : -9223372036854775808 ≤ a) (h2 : a < 9223372036854775808) (h3 : -9223372036854775808 ≤ b) (h4 : b < 9223372036854775808) : (j64 a ≤ j64 b) = (a ≤ b) := by rw [Int64.le_iff_toInt_le, j_toInt h1 h2, j_toInt h3 h4]
theorem j_lt {a b : Int} (h1 : -9223372036854775808 ≤ a) (h2 : a < 9223372036854775808) (h3 : -9223372036854775808 ≤ b) (h4 : b < 9223372036854775808) : (j64 a < j64 b) = (a < b) := by rw [Int64.lt_iff_toInt_lt, j_toInt h1 h2, j_toInt h3 h4]
theorem j_eq {a b : Int} (h1 : -9223372036854775808 ≤ a) (h2 : a < 9223372036854775808) (h3 : -9223372036854775808 ≤ b) (h4 : b < 9223372036854775808) : (j64 a = j64 b) = (a = b) := by rw [← Int64.toInt_inj, j_toInt h1 h2, j_toInt h3 h4]
theorem i_long {a : Int} (h1 : -2147483648 ≤ a) (h2 : a < 2147483648) : (i32 a).toInt64 = j64 a := Int32.toInt64_ofInt h1 (by show a ≤ 2147483647; omega)
theorem j_int (a : Int) : (j64 a).toInt32 = i32 a := Int64.toInt32_ofInt
theorem i_nat {a : Int} (h1 : 0 ≤ a) (h2 : a < 2147483648) : (i32 a).toNatClampNeg = a.toNat := Int32.toNatClampNeg_ofInt_of_le (by omega) h2
theorem i_div {a b : Int} (h1 : 0 ≤ a) (h2 : a < 2147483648) (h3 : 0 < b) (h4 : b < 2147483648) : i32 a / i32 b = i32 (a / b) := by
  have h := Int32.ofInt_tdiv (a := a) (b := b) (by show -2147483648 ≤ a; omega) (by show a ≤ 2147483647; omega) (by show -2147483648 ≤ b; omega) (by show b ≤ 2147483647; omega)
  rw [Int.tdiv_eq_ediv_of_nonneg h1] at h
  exact h.symm
theorem j_tdiv {a b : Int} (h1 : -9223372036854775808 ≤ a) (h2 : a < 9223372036854775808) (h3 : -9223372036854775808 ≤ b) (h4 : b < 9223372036854775808) : j64 a / j64 b = j64 (a.tdiv b) :=
  (Int64.ofInt_tdiv (a := a) (b := b) h1 (by show a ≤ 9223372036854775807; omega) h3 (by show b ≤ 9223372036854775807; omega)).symm
theorem j_div {a b : Int} (h1 : 0 ≤ a) (h2 : a < 9223372036854775808) (h3 : 0 < b) (h4 : b < 9223372036854775808) : j64 a / j64 b = j64 (a / b) := by
  rw [j_tdiv (by omega) h2 (by omega) h4, Int.tdiv_eq_ediv_of_nonneg h1]
theorem i_c0 : (0 : Int32) = i32 0 := rfl
theorem i_c1 : (1 : Int32) = i32 1 := rfl
theorem i_c2 : (2 : Int32) = i32 2 := rfl
theorem i_c3 : (3 : Int32) = i32 3 := rfl
theorem i_c4 : (4 : Int32) = i32 4 := rfl
theorem i_c5 : (5 : Int32) = i32 5 := rfl
theorem i_c6 : (6 : Int32) = i32 6 := rfl
theorem i_c8 : (8 : Int32) = i32 8 := rfl
theorem i_c9 : (9 : Int32) = i32 9 := rfl
theorem i_c10 : (10 : Int32) = i32 10 := rfl
theorem i_c12 : (12 : Int32) = i32 12 := rfl
theorem i_c16 : (16 : Int32) = i32 16 := rfl
theorem i_c17 : (17 : Int32) = i32 17 := rfl
theorem i_c18 : (18 : Int32) = i32 18 := rfl
theorem i_c31 : (31 : Int32) = i32 31 := rfl
theorem i_c32 : (32 : Int32) = i32 32 := rfl
theorem i_c45 : (45 : Int32) = i32 45 := rfl
theorem i_c48 : (48 : Int32) = i32 48 := rfl
theorem i_c50 : (50 : Int32) = i32 50 := rfl
theorem i_c54 : (54 : Int32) = i32 54 := rfl
theorem i_c55 : (55 : Int32) = i32 55 := rfl
theorem i_c57 : (57 : Int32) = i32 57 := rfl
theorem i_c58 : (58 : Int32) = i32 58 := rfl
theorem i_c59 : (59 : Int32) = i32 59 := rfl
theorem i_c61 : (61 : Int32) = i32 61 := rfl
theorem i_c64 : (64 : Int32) = i32 64 := rfl
theorem i_c73 : (73 : Int32) = i32 73 := rfl
theorem i_c118 : (118 : Int32) = i32 118 := rfl
theorem i_c119 : (119 : Int32) = i32 119 := rfl
theorem i_c120 : (120 : Int32) = i32 120 := rfl
theorem i_c126 : (126 : Int32) = i32 126 := rfl
theorem i_c365 : (365 : Int32) = i32 365 := rfl
theorem i_c1000 : (1000 : Int32) = i32 1000 := rfl
theorem i_cFAR : (100000 : Int32) = i32 100000 := rfl
theorem j_c0 : (0 : Int64) = j64 0 := rfl
theorem j_c1 : (1 : Int64) = j64 1 := rfl
theorem j_c2 : (2 : Int64) = j64 2 := rfl
theorem i_shl {k : Nat} (h : k ≤ 8) : i32 1 <<< (i32 (k : Int) &&& i32 31) = i32 ((2 ^ k : Nat) : Int) := by
  match k, h with
  | 0, _ => decide
  | 1, _ => decide
  | 2, _ => decide
  | 3, _ => decide
  | 4, _ => decide
  | 5, _ => decide
  | 6, _ => decide
  | 7, _ => decide
  | 8, _ => decide
/-- whether a set holds a node -/
def bt (s k : Nat) : Int := if s.testBit k = true then 1 else 0
theorem i_has_all : ∀ s : Nat, s < 256 → ∀ k : Nat, k < 8 → (i32 (s : Int) >>> (i32 (k : Int) &&& i32 31)) &&& i32 1 = i32 (bt s k) := by decide +kernel
theorem i_has {s k : Nat} (hs : s < 256) (hk : k < 8) : (i32 (s : Int) >>> (i32 (k : Int) &&& i32 31)) &&& i32 1 = i32 (bt s k) := i_has_all s hs k hk
