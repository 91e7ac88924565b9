/-! NETWORKS AS VALUES; the model's row -/
abbrev Net : Type := List (Int × Int) × List Ed × List (Nat × Int × Int)
def nN (N : Net) : Nat := N.1.length
def wN (N : Net) (i : Nat) : Int := (N.1.getD i (0, 0)).1
def tN (N : Net) (i : Nat) : Int := (N.1.getD i (0, 0)).2
def eN (N : Net) : Nat := N.2.1.length
def ed (N : Net) (e : Nat) : Ed := N.2.1.getD e (0, 0, 0)
def sN (N : Net) : Nat := N.2.2.length
def sd (N : Net) (k : Nat) : Nat × Int × Int := N.2.2.getD k (0, 0, 0)
def okN (N : Net) : Prop := 1 ≤ nN N ∧ nN N ≤ 8 ∧ (∀ i, i < nN N → 0 ≤ wN N i ∧ wN N i ≤ 9 ∧ 0 ≤ tN N i ∧ tN N i ≤ 9) ∧ eN N ≤ 12 ∧
  (∀ e, e < eN N → (ed N e).1 < nN N ∧ (ed N e).2.1 < nN N ∧ (ed N e).1 ≠ (ed N e).2.1 ∧ 1 ≤ (ed N e).2.2 ∧ (ed N e).2.2 ≤ 50) ∧ sN N ≤ 6 ∧
  ∀ k, k < sN N → (sd N k).1 < eN N ∧ 0 ≤ (sd N k).2.1 ∧ (sd N k).2.1 < (sd N k).2.2 ∧ (sd N k).2.2 ≤ (ed N (sd N k).1).2.2
/-- a partial answer that is there, and is so -/
def Rt {ρ : Type} (E : Option ρ) (Q : ρ → Prop) : Prop := ∃ r, E = some r ∧ Q r
theorem Rt.some {ρ : Type} {Q : ρ → Prop} {a : ρ} (h : Q a) : Rt (some a) Q := ⟨a, rfl, h⟩
theorem Rt.of {ρ : Type} {E : Option ρ} {Q : ρ → Prop} {a : ρ} (e : E = Option.some a) (h : Q a) : Rt E Q := ⟨a, e, h⟩
theorem Rt.bind {α ρ : Type} {F : Option α} {P : α → Prop} {G : α → Option ρ} {Q : ρ → Prop} (h : Rt F P) (k : ∀ a, P a → Rt (G a) Q) : Rt (F >>= G) Q := by
  obtain ⟨a, e, h⟩ := h
  obtain ⟨r, e2, h2⟩ := k a h
  exact ⟨r, by rw [e]; exact e2, h2⟩
theorem Rt.bindE {α ρ : Type} {F : Option α} {G : α → Option ρ} {Q : ρ → Prop} {a : α} (h : F = Option.some a) (k : Rt (G a) Q) : Rt (F >>= G) Q := by rw [h]; exact k
theorem Rt.let {α ρ : Type} {G : α → Option ρ} {Q : ρ → Prop} {a : α} (k : Rt (G a) Q) : Rt ((Option.some a) >>= G) Q := k
theorem Rt.ite {ρ : Type} {c : Prop} {ic : Decidable c} {A B : Option ρ} {Q : ρ → Prop} (ha : c → Rt A Q) (hb : ¬ c → Rt B Q) : Rt (@_root_.ite _ c ic A B) Q := by
  by_cases h : c
  · rw [if_pos h]; exact ha h
  · rw [if_neg h]; exact hb h
theorem Rt.mono {ρ : Type} {E : Option ρ} {Q Q' : ρ → Prop} (h : Rt E Q) (k : ∀ r, Q r → Q' r) : Rt E Q' := by obtain ⟨r, e, q⟩ := h; exact ⟨r, e, k r q⟩
theorem rdI_i {f : Nat → Int32} {n : Nat} {i : Int} (h0 : 0 ≤ i) (h1 : i < n) (h2 : (n : Int) ≤ 2147483647) : rdI f n (i32 i) = some (f i.toNat) := by
  unfold rdI
  have h : ¬ (i32 i < 0 ∨ n ≤ (i32 i).toNatClampNeg) := by
    rw [i_nat h0 (by omega), i_c0, i_lt (by omega) (by omega) (by omega) (by omega)]; omega
  rw [if_neg h, i_nat h0 (by omega)]
theorem rdL_i {f : Nat → Int64} {n : Nat} {i : Int} (h0 : 0 ≤ i) (h1 : i < n) (h2 : (n : Int) ≤ 2147483647) : rdL f n (i32 i) = some (f i.toNat) := by
  unfold rdL
  have h : ¬ (i32 i < 0 ∨ n ≤ (i32 i).toNatClampNeg) := by
    rw [i_nat h0 (by omega), i_c0, i_lt (by omega) (by omega) (by omega) (by omega)]; omega
  rw [if_neg h, i_nat h0 (by omega)]
theorem stA_i {σ : MS} {k n : Nat} {x : Int32} {i : Int} (h0 : 0 ≤ i) (h1 : i < n) (h2 : (n : Int) ≤ 2147483647) : stA σ k n (i32 i) x = some (sA σ k (upd (mA σ k) i.toNat x)) := by
  unfold stA
  have h : ¬ (i32 i < 0 ∨ n ≤ (i32 i).toNatClampNeg) := by
    rw [i_nat h0 (by omega), i_c0, i_lt (by omega) (by omega) (by omega) (by omega)]; omega
  rw [if_neg h, i_nat h0 (by omega)]
theorem stB_i {σ : MS} {k n : Nat} {x : Int64} {i : Int} (h0 : 0 ≤ i) (h1 : i < n) (h2 : (n : Int) ≤ 2147483647) : stB σ k n (i32 i) x = some (sB σ k (vp_updL (mB σ k) i.toNat x)) := by
  unfold stB
  have h : ¬ (i32 i < 0 ∨ n ≤ (i32 i).toNatClampNeg) := by
    rw [i_nat h0 (by omega), i_c0, i_lt (by omega) (by omega) (by omega) (by omega)]; omega
  rw [if_neg h, i_nat h0 (by omega)]
theorem mI_sI (σ : MS) (k j : Nat) (v : Int32) : mI (sI σ k v) j = if j = k then v else mI σ j := rfl
theorem mI_sL (σ : MS) (k j : Nat) (v : Int64) : mI (sL σ k v) j = mI σ j := rfl
theorem mI_sA (σ : MS) (k j : Nat) (v : Nat → Int32) : mI (sA σ k v) j = mI σ j := rfl
theorem mI_sB (σ : MS) (k j : Nat) (v : Nat → Int64) : mI (sB σ k v) j = mI σ j := rfl
theorem mL_sI (σ : MS) (k j : Nat) (v : Int32) : mL (sI σ k v) j = mL σ j := rfl
theorem mL_sL (σ : MS) (k j : Nat) (v : Int64) : mL (sL σ k v) j = if j = k then v else mL σ j := rfl
theorem mL_sA (σ : MS) (k j : Nat) (v : Nat → Int32) : mL (sA σ k v) j = mL σ j := rfl
theorem mL_sB (σ : MS) (k j : Nat) (v : Nat → Int64) : mL (sB σ k v) j = mL σ j := rfl
theorem mA_sI (σ : MS) (k j : Nat) (v : Int32) : mA (sI σ k v) j = mA σ j := rfl
theorem mA_sL (σ : MS) (k j : Nat) (v : Int64) : mA (sL σ k v) j = mA σ j := rfl
theorem mA_sA (σ : MS) (k j : Nat) (v : Nat → Int32) : mA (sA σ k v) j = if j = k then v else mA σ j := rfl
theorem mA_sB (σ : MS) (k j : Nat) (v : Nat → Int64) : mA (sB σ k v) j = mA σ j := rfl
theorem mB_sI (σ : MS) (k j : Nat) (v : Int32) : mB (sI σ k v) j = mB σ j := rfl
theorem mB_sL (σ : MS) (k j : Nat) (v : Int64) : mB (sL σ k v) j = mB σ j := rfl
theorem mB_sA (σ : MS) (k j : Nat) (v : Nat → Int32) : mB (sA σ k v) j = mB σ j := rfl
theorem mB_sB (σ : MS) (k j : Nat) (v : Nat → Int64) : mB (sB σ k v) j = if j = k then v else mB σ j := rfl
theorem upd_at (f : Nat → Int32) (k j : Nat) (x : Int32) : upd f k x j = if j = k then x else f j := rfl
theorem updL_at (f : Nat → Int64) (k j : Nat) (x : Int64) : vp_updL f k x j = if j = k then x else f j := rfl
/-- what may change: the listed int fields, long fields, int arrays, long arrays -/
def kp (iS lS aS bS : List Nat) (σ τ : MS) : Prop := (∀ k, k ∉ iS → mI τ k = mI σ k) ∧ (∀ k, k ∉ lS → mL τ k = mL σ k) ∧ (∀ k, k ∉ aS → mA τ k = mA σ k) ∧ ∀ k, k ∉ bS → mB τ k = mB σ k
theorem kp.rf {iS lS aS bS : List Nat} {σ : MS} : kp iS lS aS bS σ σ := ⟨fun _ _ => rfl, fun _ _ => rfl, fun _ _ => rfl, fun _ _ => rfl⟩
theorem kp.tr {iS lS aS bS : List Nat} {σ τ υ : MS} (h : kp iS lS aS bS σ τ) (h2 : kp iS lS aS bS τ υ) : kp iS lS aS bS σ υ :=
  ⟨fun k hk => (h2.1 k hk).trans (h.1 k hk), fun k hk => (h2.2.1 k hk).trans (h.2.1 k hk), fun k hk => (h2.2.2.1 k hk).trans (h.2.2.1 k hk), fun k hk => (h2.2.2.2 k hk).trans (h.2.2.2 k hk)⟩
theorem kp.le {iS lS aS bS iS' lS' aS' bS' : List Nat} {σ τ : MS} (h : kp iS lS aS bS σ τ) (h1 : ∀ k ∈ iS, k ∈ iS' := by decide) (h2 : ∀ k ∈ lS, k ∈ lS' := by decide) (h3 : ∀ k ∈ aS, k ∈ aS' := by decide) (h4 : ∀ k ∈ bS, k ∈ bS' := by decide) : kp iS' lS' aS' bS' σ τ :=
  ⟨fun k hk => h.1 k (fun z => hk (h1 k z)), fun k hk => h.2.1 k (fun z => hk (h2 k z)), fun k hk => h.2.2.1 k (fun z => hk (h3 k z)), fun k hk => h.2.2.2 k (fun z => hk (h4 k z))⟩
theorem kp.sI {k : Nat} {v : Int32} {iS lS aS bS : List Nat} {σ : MS} (h : k ∈ iS := by decide) : kp iS lS aS bS σ (sI σ k v) := ⟨fun j hj => if_neg (fun (z : j = k) => hj (by rw [z]; exact h)), fun _ _ => rfl, fun _ _ => rfl, fun _ _ => rfl⟩
theorem kp.sL {k : Nat} {v : Int64} {iS lS aS bS : List Nat} {σ : MS} (h : k ∈ lS := by decide) : kp iS lS aS bS σ (sL σ k v) := ⟨fun _ _ => rfl, fun j hj => if_neg (fun (z : j = k) => hj (by rw [z]; exact h)), fun _ _ => rfl, fun _ _ => rfl⟩
theorem kp.sA {k : Nat} {v : Nat → Int32} {iS lS aS bS : List Nat} {σ : MS} (h : k ∈ aS := by decide) : kp iS lS aS bS σ (sA σ k v) := ⟨fun _ _ => rfl, fun _ _ => rfl, fun j hj => if_neg (fun (z : j = k) => hj (by rw [z]; exact h)), fun _ _ => rfl⟩
theorem kp.sB {k : Nat} {v : Nat → Int64} {iS lS aS bS : List Nat} {σ : MS} (h : k ∈ bS := by decide) : kp iS lS aS bS σ (sB σ k v) := ⟨fun _ _ => rfl, fun _ _ => rfl, fun _ _ => rfl, fun j hj => if_neg (fun (z : j = k) => hj (by rw [z]; exact h))⟩
/-- the row that tells a network -/
def row (f : Nat → Int32) (N : Net) : Prop := f 0 = i32 (nN N) ∧ (∀ i, i < nN N → f (1 + i) = i32 (wN N i) ∧ f (9 + i) = i32 (tN N i)) ∧ f 17 = i32 (eN N) ∧
  (∀ e, e < eN N → f (18 + 3 * e) = i32 (ed N e).1 ∧ f (18 + 3 * e + 1) = i32 (ed N e).2.1 ∧ f (18 + 3 * e + 2) = i32 (ed N e).2.2) ∧ f 54 = i32 (sN N) ∧
  ∀ k, k < sN N → f (55 + 3 * k) = i32 (sd N k).1 ∧ f (55 + 3 * k + 1) = i32 (sd N k).2.1 ∧ f (55 + 3 * k + 2) = i32 (sd N k).2.2
/-- the model's network -/
def mN (σ : MS) (N : Net) : Prop := row (mA σ 0) N ∧ okN N
theorem mN.kp {iS lS aS bS : List Nat} {σ τ : MS} {N : Net} (h : mN σ N) (hk : kp iS lS aS bS σ τ) (h0 : 0 ∉ aS := by decide) : mN τ N := ⟨by rw [hk.2.2.1 0 h0]; exact h.1, h.2⟩
section MB
variable {σ : MS} {N : Net} {F : Nat}
theorem M_many_eq (h : mN σ N) : M_many σ = some (i32 (nN N)) := by
  unfold M_many
  rw [i_c0, rdI_i (by omega) (by omega) (by omega)]
  exact congrArg some h.1.1
theorem M_edgeMany_eq (h : mN σ N) : M_edgeMany σ = some (i32 (eN N)) := by
  unfold M_edgeMany
  rw [i_c17, rdI_i (by omega) (by omega) (by omega)]
  exact congrArg some h.1.2.2.1
theorem M_stretchMany_eq (h : mN σ N) : M_stretchMany σ = some (i32 (sN N)) := by
  unfold M_stretchMany
  rw [i_c54, rdI_i (by omega) (by omega) (by omega)]
  exact congrArg some h.1.2.2.2.2.1
theorem M_of_at {e j : Int} (h : mN σ N) (he : 0 ≤ e) (he2 : e < eN N) (hj : 0 ≤ j) (hj2 : j ≤ 2) : M_of σ (i32 e) (i32 j) = some (mA σ 0 (18 + 3 * e + j).toNat) := by
  have := h.2.2.2.2.1
  unfold M_of
  simp (disch := omega) only [i_c0, i_c1, i_c2, i_c3, i_c4, i_c5, i_c6, i_c8, i_c9, i_c10, i_c12, i_c16, i_c17, i_c18, i_c31, i_c32, i_c45, i_c48, i_c50, i_c54, i_c55, i_c57, i_c58, i_c59, i_c61, i_c64, i_c73, i_c118, i_c119, i_c120, i_c126, i_c365, i_c1000, i_cFAR, i_add, i_sub, i_mul, i_neg, rdI_i, Option.bind_eq_bind, Option.bind_some]
theorem M_of_0 {e : Nat} (h : mN σ N) (he : e < eN N) : M_of σ (i32 e) (i32 0) = some (i32 (ed N e).1) := by
  rw [M_of_at h (by omega) (by omega) (by omega) (by omega), ← (h.1.2.2.2.1 e he).1]; congr 2 <;> omega
theorem M_of_1 {e : Nat} (h : mN σ N) (he : e < eN N) : M_of σ (i32 e) (i32 1) = some (i32 (ed N e).2.1) := by
  rw [M_of_at h (by omega) (by omega) (by omega) (by omega), ← (h.1.2.2.2.1 e he).2.1]; congr 2 <;> omega
theorem M_of_2 {e : Nat} (h : mN σ N) (he : e < eN N) : M_of σ (i32 e) (i32 2) = some (i32 (ed N e).2.2) := by
  rw [M_of_at h (by omega) (by omega) (by omega) (by omega), ← (h.1.2.2.2.1 e he).2.2]; congr 2 <;> omega
theorem M_at_at {k j : Int} (h : mN σ N) (hk : 0 ≤ k) (hk2 : k < sN N) (hj : 0 ≤ j) (hj2 : j ≤ 2) : M_at σ (i32 k) (i32 j) = some (mA σ 0 (55 + 3 * k + j).toNat) := by
  have := h.2.2.2.2.2.2.1
  unfold M_at
  simp (disch := omega) only [i_c0, i_c1, i_c2, i_c3, i_c4, i_c5, i_c6, i_c8, i_c9, i_c10, i_c12, i_c16, i_c17, i_c18, i_c31, i_c32, i_c45, i_c48, i_c50, i_c54, i_c55, i_c57, i_c58, i_c59, i_c61, i_c64, i_c73, i_c118, i_c119, i_c120, i_c126, i_c365, i_c1000, i_cFAR, i_add, i_sub, i_mul, i_neg, rdI_i, Option.bind_eq_bind, Option.bind_some]
theorem M_at_0 {k : Nat} (h : mN σ N) (hk : k < sN N) : M_at σ (i32 k) (i32 0) = some (i32 (sd N k).1) := by
  rw [M_at_at h (by omega) (by omega) (by omega) (by omega), ← (h.1.2.2.2.2.2 k hk).1]; congr 2 <;> omega
theorem M_at_1 {k : Nat} (h : mN σ N) (hk : k < sN N) : M_at σ (i32 k) (i32 1) = some (i32 (sd N k).2.1) := by
  rw [M_at_at h (by omega) (by omega) (by omega) (by omega), ← (h.1.2.2.2.2.2 k hk).2.1]; congr 2 <;> omega
theorem M_at_2 {k : Nat} (h : mN σ N) (hk : k < sN N) : M_at σ (i32 k) (i32 2) = some (i32 (sd N k).2.2) := by
  rw [M_at_at h (by omega) (by omega) (by omega) (by omega), ← (h.1.2.2.2.2.2 k hk).2.2]; congr 2 <;> omega
/-- truth as an int -/
def b01 (c : Prop) [Decidable c] : Int := if c then 1 else 0
theorem M_within_eq (a b c : Int32) : M_within a b c = some (i32 (b01 (b.toInt ≤ a.toInt ∧ a.toInt ≤ c.toInt))) := by
  unfold M_within b01
  simp only [Int32.lt_iff_toInt_lt]
  by_cases h1 : a.toInt < b.toInt
  · rw [if_pos h1, if_neg (by omega)]; rfl
  · rw [if_neg h1]
    by_cases h2 : c.toInt < a.toInt
    · rw [if_pos h2, if_neg (by omega)]; rfl
    · rw [if_neg h2, if_pos (by omega)]; rfl
theorem b01_zero {c : Prop} [Decidable c] : (i32 (b01 c) = i32 0) = ¬ c := by
  unfold b01
  by_cases h : c
  · rw [if_pos h]; simp [h, i32]
  · rw [if_neg h]; simp [h]
theorem zz_b01 {c : Prop} [Decidable c] : zz (i32 (b01 c)) = some (i32 (b01 c)) := by
  unfold b01 zz
  by_cases h : c
  · rw [if_pos h]; rfl
  · rw [if_neg h]; rfl
theorem M_isNode_eq (h : mN σ N) (x : Int32) : M_isNode σ x = some (i32 (b01 (0 ≤ x.toInt ∧ x.toInt < nN N))) := by
  have := h.2.2.1
  have h1 : (i32 0).toInt = 0 := rfl
  have h2 : (i32 ((nN N : Int) - 1)).toInt = (nN N : Int) - 1 := i_toInt (by omega) (by omega)
  unfold M_isNode
  rw [M_many_eq h]
  simp only [i_c0, i_c1, i_c2, i_c3, i_c4, i_c5, i_c6, i_c8, i_c9, i_c10, i_c12, i_c16, i_c17, i_c18, i_c31, i_c32, i_c45, i_c48, i_c50, i_c54, i_c55, i_c57, i_c58, i_c59, i_c61, i_c64, i_c73, i_c118, i_c119, i_c120, i_c126, i_c365, i_c1000, i_cFAR, i_add, i_sub, i_mul, i_neg, Option.bind_eq_bind, Option.bind_some, M_within_eq, h1, h2, zz_b01]
  congr 2; unfold b01; congr 1; simp; omega
theorem M_isEdge_eq (h : mN σ N) (x : Int32) : M_isEdge σ x = some (i32 (b01 (0 ≤ x.toInt ∧ x.toInt < eN N))) := by
  have := h.2.2.2.2.1
  have h1 : (i32 0).toInt = 0 := rfl
  have h2 : (i32 ((eN N : Int) - 1)).toInt = (eN N : Int) - 1 := i_toInt (by omega) (by omega)
  unfold M_isEdge
  rw [M_edgeMany_eq h]
  simp only [i_c0, i_c1, i_c2, i_c3, i_c4, i_c5, i_c6, i_c8, i_c9, i_c10, i_c12, i_c16, i_c17, i_c18, i_c31, i_c32, i_c45, i_c48, i_c50, i_c54, i_c55, i_c57, i_c58, i_c59, i_c61, i_c64, i_c73, i_c118, i_c119, i_c120, i_c126, i_c365, i_c1000, i_cFAR, i_add, i_sub, i_mul, i_neg, Option.bind_eq_bind, Option.bind_some, M_within_eq, h1, h2, zz_b01]
  congr 2; unfold b01; congr 1; simp; omega
end MB
