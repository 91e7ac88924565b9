/-! THE CLASS's LINKED LIST -/
theorem rf_v (x : Option Nat) : va_rf x = vOf x := by cases x <;> rfl
def oif (c : Bool) (a : Nat) : Option Nat := if c then some a else none
/-- the list's cell and its nodes' cells -/
def nsC (S : St) (l n : Nat) (A : Nat → Nat) (fl : List Value) (cs : Nat → List Value) : Prop := S.1 l = some (cO 13 fl) ∧ (∀ i j, i < j → j < n → A i < A j) ∧ ∀ i, i < n → S.1 (A i) = some (cO 14 (cs i))
/-- only these change -/
def kpL (S T : St) (l n : Nat) (A : Nat → Nat) : Prop := T.2 = S.2 ∧ ∀ q, q ≠ l → (∀ i, i < n → q ≠ A i) → T.1 q = S.1 q
theorem kpL.rf {S : St} {l n : Nat} {A : Nat → Nat} : kpL S S l n A := ⟨rfl, fun _ _ _ => rfl⟩
theorem kpL.tr {S T U : St} {l n : Nat} {A : Nat → Nat} (h : kpL S T l n A) (h2 : kpL T U l n A) : kpL S U l n A := ⟨h2.1.trans h.1, fun q a c => (h2.2 q a c).trans (h.2 q a c)⟩
def upF {α : Type} (f : Nat → α) (k : Nat) (v : α) (i : Nat) : α := if i = k then v else f i
section LL
variable {S T : St} {l n k : Nat} {A Y : Nat → Nat} {fl : List Value} {cs : Nat → List Value} {F : Nat}
theorem nsC.inj (h : nsC S l n A fl cs) {i j : Nat} (hi : i < n) (hj : j < n) (e : A i = A j) : i = j := by
  by_cases c : i < j
  · have := h.2.1 i j c hj; omega
  · by_cases c2 : j < i
    · have := h.2.1 j i c2 hi; omega
    · omega
theorem nsC.ne (h : nsC S l n A fl cs) {i : Nat} (hi : i < n) : A i ≠ l := by
  intro e
  have h1 := h.2.2 i hi
  rw [e, h.1] at h1
  cases h1
theorem nsC.setN {f : Nat} {v : Value} (h : nsC S l n A fl cs) (hk : k < n) (hf : f < (cs k).length) : ∃ T, gP S 14 (A k) f v = some T ∧ nsC T l n A fl (upF cs k ((cs k).set f v)) ∧ kpL S T l n A := by
  refine ⟨_, gP_of (h.2.2 k hk) hf, ⟨?_, h.2.1, fun i hi => ?_⟩, rfl, fun q hq hA => put_ne (hA k hk)⟩
  · rw [put_ne (Ne.symm (h.ne hk))]; exact h.1
  · unfold upF
    by_cases c : i = k
    · subst c; rw [if_pos rfl]; exact put_me _ _ _
    · rw [if_neg c, put_ne (fun e => c (h.inj hi hk e))]; exact h.2.2 i hi
theorem nsC.setL {f : Nat} {v : Value} (h : nsC S l n A fl cs) (hf : f < fl.length) : ∃ T, gP S 13 l f v = some T ∧ nsC T l n A (fl.set f v) cs ∧ kpL S T l n A := by
  refine ⟨_, gP_of h.1 hf, ⟨put_me _ _ _, h.2.1, fun i hi => ?_⟩, rfl, fun q hq hA => put_ne hq⟩
  rw [put_ne (h.ne hi)]; exact h.2.2 i hi
/-- a node's fields -/
def ndF (n : Nat) (A Y : Nat → Nat) (i : Nat) : List Value := [.ref (Y i), vOf (oif (decide (i + 1 < n)) (A (i + 1))), vOf (oif (decide (0 < i)) (A (i - 1)))]
def llF (m : Int32) (n : Nat) (A : Nat → Nat) : List Value := [.int m, .int (i32 n), vOf (oif (decide (0 < n)) (A 0)), vOf (oif (decide (0 < n)) (A (n - 1)))]
def llC (S : St) (l : Nat) (m : Int32) (n : Nat) (A Y : Nat → Nat) : Prop := nsC S l n A (llF m n A) (ndF n A Y)
def er (k : Nat) (f : Nat → Nat) (i : Nat) : Nat := if i < k then f i else f (i + 1)
theorem oif_t {c : Bool} {a : Nat} (h : c = true) : oif c a = some a := by unfold oif; rw [if_pos h]
theorem oif_f {c : Bool} {a : Nat} (h : c = false) : oif c a = none := by unfold oif; rw [h]; rfl
/-- the fields of a list that has lost its k-th node -/
theorem llC.of {m : Int32} {U : St} (hk : k < n) (h : nsC U l n A [.int m, .int (i32 ((n - 1 : Nat) : Int)), vOf (oif (decide (1 < n)) (if k = 0 then A 1 else A 0)), vOf (oif (decide (1 < n)) (if k = n - 1 then A (n - 2) else A (n - 1)))] cs)
    (hcs : ∀ i, i < n → i ≠ k → cs i = [.ref (Y i), vOf (if i + 1 = k then oif (decide (k + 1 < n)) (A (k + 1)) else oif (decide (i + 1 < n)) (A (i + 1))), vOf (if i = k + 1 then oif (decide (0 < k)) (A (k - 1)) else oif (decide (0 < i)) (A (i - 1)))]) : llC U l m (n - 1) (er k A) (er k Y) := by
  refine ⟨?_, fun i j hij hj => ?_, fun i hi => ?_⟩
  · rw [h.1]
    unfold llF er
    have e1 : (decide (1 < n)) = decide (0 < n - 1) := by rw [decide_eq_decide]; omega
    rw [e1]
    by_cases c : 0 < n - 1
    · rw [decide_eq_true c]
      congr 5
      · by_cases k0 : k = 0
        · rw [if_pos k0, if_neg (by omega)]
        · rw [if_neg k0, if_pos (by omega)]
      · by_cases k1 : k = n - 1
        · rw [if_pos k1, if_pos (by omega)]; congr 1
        · rw [if_neg k1, if_neg (by omega), show n - 1 - 1 + 1 = n - 1 by omega]
    · rw [decide_eq_false c, oif_f rfl, oif_f rfl, oif_f rfl, oif_f rfl]
  · unfold er
    split
    · split
      · exact h.2.1 _ _ hij (by omega)
      · exact h.2.1 _ _ (by omega) (by omega)
    · rw [if_neg (by omega)]
      exact h.2.1 _ _ (by omega) (by omega)
  · unfold ndF er
    by_cases c : i < k
    · rw [if_pos c, if_pos c, h.2.2 i (by omega), hcs i (by omega) (by omega)]
      congr 4
      · by_cases c2 : i + 1 = k
        · rw [if_pos c2, if_neg (by omega)]
          have : decide (k + 1 < n) = decide (i + 1 < n - 1) := by rw [decide_eq_decide]; omega
          rw [this, c2]
        · rw [if_neg c2, if_pos (by omega)]
          have : decide (i + 1 < n) = decide (i + 1 < n - 1) := by rw [decide_eq_decide]; omega
          rw [this]
      · rw [if_neg (by omega)]
        by_cases c3 : 0 < i
        · rw [if_pos (by omega)]
        · rw [decide_eq_false c3, oif_f rfl, oif_f rfl]
    · rw [if_neg c, if_neg c, h.2.2 (i + 1) (by omega), hcs (i + 1) (by omega) (by omega)]
      congr 4
      · rw [if_neg (by omega), if_neg (by omega)]
        have : decide (i + 1 + 1 < n) = decide (i + 1 < n - 1) := by rw [decide_eq_decide]; omega
        rw [this]
      · by_cases c2 : i = k
        · subst c2
          rw [if_pos rfl]
          by_cases c3 : 0 < i
          · rw [if_pos (by omega)]
          · rw [decide_eq_false c3, oif_f rfl, oif_f rfl]
        · rw [if_neg (by omega), if_neg (by omega)]
          rw [decide_eq_true (show 0 < i + 1 by omega), decide_eq_true (show 0 < i by omega), show i + 1 - 1 = i by omega, show i - 1 + 1 = i by omega]
theorem C_unl64 {m : Int32} {a c : Value} {y : Nat} (h : nsC S l n A [.int m, .int (i32 n), a, c] cs) (hk : k < n) (h3 : (cs k).length = 3) : ∃ T cs', C_J17_unlink_64 l (A k) y S = some (y, T) ∧ nsC T l n A [.int (m + 1), .int (i32 ((n - 1 : Nat) : Int)), a, c] cs' ∧ (∀ i, i < n → i ≠ k → cs' i = cs i) ∧ kpL S T l n A := by
  obtain ⟨T1, e1, n1, k1⟩ := h.setN (f := 0) (v := va_rf none) hk (by omega)
  obtain ⟨T2, e2, n2, k2⟩ := n1.setL (f := 1) (v := .int (i32 n - 1)) (by simp)
  obtain ⟨T3, e3, n3, k3⟩ := n2.setL (f := 0) (v := .int (m + 1)) (by simp)
  have en : i32 (n : Int) - 1 = i32 ((n - 1 : Nat) : Int) := by rw [i_c1, i_sub]; congr 1; omega
  refine ⟨T3, upF cs k ((cs k).set 0 (va_rf none)), ?_, ?_, ?_, (k1.tr k2).tr k3⟩
  rotate_left
  · rw [← en]; exact n3
  · intro i _ hi; unfold upF; rw [if_neg hi]
  · unfold C_J17_unlink_64
    rw [e1]
    simp only [Option.bind_eq_bind, Option.bind_some]
    rw [gI_of (k := 1) (v := i32 n) n1.1 rfl]
    simp only [Option.bind_eq_bind, Option.bind_some]
    rw [e2]
    simp only [Option.bind_eq_bind, Option.bind_some]
    rw [gI_of (k := 0) (v := m) n2.1 rfl]
    simp only [Option.bind_eq_bind, Option.bind_some]
    rw [e3]
    rfl
theorem C_unl40 {m : Int32} {a c : Value} {y : Nat} {x4 : Option Nat} (h : nsC S l n A [.int m, .int (i32 n), a, c] cs) (hk : k < n) (h3 : ∀ i, i < n → (cs i).length = 3) : ∃ T cs', C_J17_unlink_40 l (A k) y (oif (decide (k + 1 < n)) (A (k + 1))) x4 S = some (y, T) ∧ nsC T l n A [.int (m + 1), .int (i32 ((n - 1 : Nat) : Int)), a, if k + 1 < n then c else vOf x4] cs' ∧ (∀ i, i < n → i ≠ k → cs' i = if i = k + 1 then (cs i).set 2 (vOf x4) else cs i) ∧ kpL S T l n A := by
  by_cases hl : k + 1 < n
  · obtain ⟨T1, e1, n1, k1⟩ := h.setN (k := k + 1) (f := 2) (v := vOf x4) hl (by rw [h3 _ hl]; omega)
    obtain ⟨T2, e2, n2, k2⟩ := n1.setN (k := k) (f := 1) (v := va_rf none) hk (by unfold upF; rw [if_neg (by omega), h3 _ hk]; omega)
    obtain ⟨T3, cs', e3, n3, c3, k3⟩ := C_unl64 (y := y) n2 hk (by unfold upF; rw [if_pos rfl, if_neg (by omega), List.length_set]; exact h3 _ hk)
    refine ⟨T3, cs', ?_, by rw [if_pos hl]; exact n3, fun i hin hi => ?_, (k1.tr k2).tr k3⟩
    · unfold C_J17_unlink_40
      rw [oif_t (decide_eq_true hl), if_neg (by simp)]
      simp only [Option.bind_eq_bind, Option.bind_some]
      rw [rf_v, e1]
      simp only [Option.bind_eq_bind, Option.bind_some]
      rw [e2]
      simp only [Option.bind_eq_bind, Option.bind_some]
      exact e3
    · rw [c3 i hin hi]
      unfold upF
      rw [if_neg hi]
      by_cases c : i = k + 1
      · rw [if_pos c, if_pos c, c]
      · rw [if_neg c, if_neg c]
  · obtain ⟨T1, e1, n1, k1⟩ := h.setL (f := 3) (v := vOf x4) (by simp)
    obtain ⟨T3, cs', e3, n3, c3, k3⟩ := C_unl64 (y := y) n1 hk (h3 _ hk)
    refine ⟨T3, cs', ?_, by rw [if_neg hl]; exact n3, fun i hin hi => ?_, k1.tr k3⟩
    · unfold C_J17_unlink_40
      rw [oif_f (decide_eq_false hl), if_pos rfl]
      simp only [Option.bind_eq_bind, Option.bind_some]
      rw [rf_v, e1]
      simp only [Option.bind_eq_bind, Option.bind_some]
      exact e3
    · rw [c3 i hin hi]
      rw [if_neg (by omega)]
/-- the k-th node goes -/
theorem C_unlink {m : Int32} (h : llC S l m n A Y) (hk : k < n) : ∃ T, C_J17_unlink S l (A k) = some (Y k, T) ∧ kpL S T l n A ∧ llC T l (m + 1) (n - 1) (er k A) (er k Y) := by
  have nk := h.2.2 k hk
  have g2 : gQ S 14 (A k) 1 = some (oif (decide (k + 1 < n)) (A (k + 1))) := gQ_of nk rfl
  have g3 : gQ S 14 (A k) 2 = some (oif (decide (0 < k)) (A (k - 1))) := gQ_of nk rfl
  by_cases h0 : 0 < k
  · obtain ⟨T1, e1, n1, k1⟩ := h.setN (k := k - 1) (f := 1) (v := vOf (oif (decide (k + 1 < n)) (A (k + 1)))) (by omega) (by unfold ndF; simp)
    obtain ⟨T2, e2, n2, k2⟩ := n1.setN (k := k) (f := 2) (v := va_rf none) hk (by unfold upF; rw [if_neg (by omega)]; unfold ndF; simp)
    obtain ⟨T3, cs', e3, n3, c3, k3⟩ := C_unl40 (y := Y k) (x4 := some (A (k - 1))) n2 hk (fun i hi => by
      unfold upF
      split
      · rw [List.length_set, if_neg (by omega)]; rfl
      · split
        · rw [List.length_set]; rfl
        · rfl)
    refine ⟨T3, ?_, (k1.tr k2).tr k3, llC.of hk ?_ (cs := cs') (fun i hi hik => ?_)⟩
    · unfold C_J17_unlink
      rw [gO_of h.1, gA_of (k := 0) (v := Y k) nk rfl, g2, g3]
      simp only [Option.bind_eq_bind, Option.bind_some]
      rw [oif_t (decide_eq_true h0), if_neg (by simp)]
      simp only [Option.bind_eq_bind, Option.bind_some]
      rw [rf_v, e1]
      simp only [Option.bind_eq_bind, Option.bind_some]
      rw [e2]
      simp only [Option.bind_eq_bind, Option.bind_some]
      exact e3
    · rw [decide_eq_true (show 1 < n by omega), if_neg (by omega)]
      rw [decide_eq_true (show 0 < n by omega)] at n3
      by_cases c : k + 1 < n
      · rw [if_pos c] at n3; rw [if_neg (by omega)]; exact n3
      · rw [if_neg c] at n3; rw [if_pos (by omega), oif_t rfl, show n - 2 = k - 1 by omega]; exact n3
    · rw [c3 i hi hik]
      unfold upF
      rw [if_neg hik]
      by_cases c : i = k - 1
      · rw [if_neg (by omega), if_pos c, if_pos (by omega), if_neg (by omega), ← c]; rfl
      · rw [if_neg c, if_neg (show ¬ i + 1 = k by omega)]
        by_cases c2 : i = k + 1
        · rw [if_pos c2, if_pos c2, oif_t (decide_eq_true h0)]; rfl
        · rw [if_neg c2, if_neg c2]; rfl
  · obtain rfl : k = 0 := by omega
    obtain ⟨T1, e1, n1, k1⟩ := h.setL (f := 2) (v := vOf (oif (decide (0 + 1 < n)) (A (0 + 1)))) (by unfold llF; simp)
    obtain ⟨T3, cs', e3, n3, c3, k3⟩ := C_unl40 (y := Y 0) (x4 := none) n1 hk (fun i hi => rfl)
    refine ⟨T3, ?_, k1.tr k3, llC.of hk ?_ (cs := cs') (fun i hi hik => ?_)⟩
    · unfold C_J17_unlink
      rw [gO_of h.1, gA_of (k := 0) (v := Y 0) nk rfl, g2, g3]
      simp only [Option.bind_eq_bind, Option.bind_some]
      rw [oif_f (a := A (0 - 1)) (decide_eq_false h0), if_pos rfl]
      rw [rf_v, e1]
      simp only [Option.bind_eq_bind, Option.bind_some]
      exact e3
    · rw [if_pos rfl]
      by_cases c : 0 + 1 < n
      · rw [if_pos c] at n3; rw [if_neg (by omega), decide_eq_true (show 1 < n by omega)]
        rw [decide_eq_true (show 0 < n by omega), decide_eq_true c] at n3
        exact n3
      · rw [if_neg c] at n3; rw [decide_eq_false (show ¬ 1 < n by omega), oif_f rfl, oif_f rfl]
        rw [decide_eq_false c, oif_f rfl] at n3
        exact n3
    · rw [c3 i hi hik, if_neg (show ¬ i + 1 = 0 by omega)]
      by_cases c2 : i = 0 + 1
      · rw [if_pos c2, if_pos c2, oif_f (a := A (0 - 1)) (decide_eq_false h0)]; rfl
      · rw [if_neg c2, if_neg c2]; rfl
/-- the first node goes -/
theorem C_removeFirst {m : Int32} (h : llC S l m n A Y) (hn : 0 < n) : ∃ T, C_J17_removeFirst S l = some (Y 0, T) ∧ kpL S T l n A ∧ llC T l (m + 1) (n - 1) (er 0 A) (er 0 Y) := by
  have nk := h.2.2 0 hn
  have g2 : gQ S 14 (A 0) 1 = some (oif (decide (0 + 1 < n)) (A (0 + 1))) := gQ_of nk rfl
  have gf : gQ S 13 l 2 = some (oif (decide (0 < n)) (A 0)) := gQ_of h.1 rfl
  have en : i32 (n : Int) - 1 = i32 ((n - 1 : Nat) : Int) := by rw [i_c1, i_sub]; congr 1; omega
  obtain ⟨T1, e1, n1, k1⟩ := h.setN (k := 0) (f := 0) (v := va_rf none) hn (by unfold ndF; simp)
  obtain ⟨T2, e2, n2, k2⟩ := n1.setN (k := 0) (f := 1) (v := va_rf none) hn (by unfold upF; rw [if_pos rfl]; unfold ndF; simp)
  obtain ⟨T3, e3, n3, k3⟩ := n2.setL (f := 2) (v := vOf (oif (decide (0 + 1 < n)) (A (0 + 1)))) (by unfold llF; simp)
  have k123 := (k1.tr k2).tr k3
  have fin : ∀ {U : St} {a c : Value} {cs : Nat → List Value}, nsC U l n A [.int m, .int (i32 n), a, c] cs → ∃ T, C_J17_unlinkFirst_42 l (Y 0) U = some (Y 0, T) ∧ nsC T l n A [.int (m + 1), .int (i32 ((n - 1 : Nat) : Int)), a, c] cs ∧ kpL U T l n A := by
    intro U a c cs hU
    obtain ⟨V1, d1, p1, q1⟩ := hU.setL (f := 1) (v := .int (i32 n - 1)) (by simp)
    obtain ⟨V2, d2, p2, q2⟩ := p1.setL (f := 0) (v := .int (m + 1)) (by simp)
    refine ⟨V2, ?_, by rw [← en]; exact p2, q1.tr q2⟩
    unfold C_J17_unlinkFirst_42
    rw [gI_of (k := 1) (v := i32 n) hU.1 rfl]
    simp only [Option.bind_eq_bind, Option.bind_some]
    rw [d1]
    simp only [Option.bind_eq_bind, Option.bind_some]
    rw [gI_of (k := 0) (v := m) p1.1 rfl]
    simp only [Option.bind_eq_bind, Option.bind_some]
    rw [d2]
    rfl
  have pre : ∀ {V : St}, (if oif (decide (0 + 1 < n)) (A (0 + 1)) = none then ((gP T3 13 l 3 (va_rf none)) >>= fun S6 => C_J17_unlinkFirst_42 l (Y 0) S6) else (oif (decide (0 + 1 < n)) (A (0 + 1)) >>= fun a7 => (gP T3 14 a7 2 (va_rf none)) >>= fun S8 => C_J17_unlinkFirst_42 l (Y 0) S8)) = some (Y 0, V) → C_J17_removeFirst S l = some (Y 0, V) := by
    intro V hV
    unfold C_J17_removeFirst
    rw [gO_of h.1, gf, oif_t (decide_eq_true hn)]
    simp only [Option.bind_eq_bind, Option.bind_some]
    rw [if_neg (by simp)]
    unfold C_J17_unlinkFirst
    rw [gO_of h.1, gA_of (k := 0) (v := Y 0) nk rfl, g2]
    simp only [Option.bind_eq_bind, Option.bind_some]
    rw [e1]
    simp only [Option.bind_eq_bind, Option.bind_some]
    rw [e2]
    simp only [Option.bind_eq_bind, Option.bind_some]
    rw [rf_v (oif _ _), e3]
    simp only [Option.bind_eq_bind, Option.bind_some]
    rw [show (if oif (decide (0 + 1 < n)) (A (0 + 1)) = none then ((gP T3 13 l 3 (va_rf none)).bind fun S6 => C_J17_unlinkFirst_42 l (Y 0) S6) else ((oif (decide (0 + 1 < n)) (A (0 + 1))).bind fun a7 => (gP T3 14 a7 2 (va_rf none)).bind fun S8 => C_J17_unlinkFirst_42 l (Y 0) S8)) = some (Y 0, V) from hV]
    rfl
  by_cases hl : 0 + 1 < n
  · obtain ⟨T4, e4, n4, k4⟩ := n3.setN (k := 0 + 1) (f := 2) (v := va_rf none) hl (by unfold upF; rw [if_neg (by omega), if_neg (by omega)]; unfold ndF; simp)
    obtain ⟨T5, e5, n5, k5⟩ := fin n4
    have efl : ([.int (m + 1), .int (i32 ((n - 1 : Nat) : Int)), vOf (oif (decide (1 < n)) (if 0 = 0 then A 1 else A 0)), vOf (oif (decide (1 < n)) (if 0 = n - 1 then A (n - 2) else A (n - 1)))] : List Value) = [.int (m + 1), .int (i32 ((n - 1 : Nat) : Int)), vOf (oif (decide (0 + 1 < n)) (A (0 + 1))), vOf (oif (decide (0 < n)) (A (n - 1)))] := by
      rw [if_pos rfl, if_neg (by omega), decide_eq_true (show 1 < n by omega), decide_eq_true hn]
    have n6 := n5
    rw [← efl] at n6
    refine ⟨T5, pre ?_, (k123.tr k4).tr k5, llC.of (k := 0) hn n6 (fun i hi hik => ?_)⟩
    rotate_left
    · unfold upF
      rw [if_neg hik, if_neg hik, if_neg (show ¬ i + 1 = 0 by omega)]
      by_cases c : i = 0 + 1
      · rw [if_pos c, if_pos c, oif_f (a := A (0 - 1)) (decide_eq_false (Nat.lt_irrefl 0)), c]; rfl
      · rw [if_neg c, if_neg c]; rfl
    · rw [oif_t (decide_eq_true hl), if_neg (by simp)]
      simp only [Option.bind_eq_bind, Option.bind_some]
      rw [e4]
      simp only [Option.bind_eq_bind, Option.bind_some]
      exact e5
  · obtain ⟨T4, e4, n4, k4⟩ := n3.setL (f := 3) (v := va_rf none) (by unfold llF; simp)
    obtain ⟨T5, e5, n5, k5⟩ := fin n4
    have efl : ([.int (m + 1), .int (i32 ((n - 1 : Nat) : Int)), vOf (oif (decide (1 < n)) (if 0 = 0 then A 1 else A 0)), vOf (oif (decide (1 < n)) (if 0 = n - 1 then A (n - 2) else A (n - 1)))] : List Value) = [.int (m + 1), .int (i32 ((n - 1 : Nat) : Int)), vOf (oif (decide (0 + 1 < n)) (A (0 + 1))), va_rf none] := by
      rw [decide_eq_false (show ¬ 1 < n by omega), oif_f rfl, oif_f rfl, oif_f rfl]; rfl
    have n6 := n5
    rw [← efl] at n6
    refine ⟨T5, pre ?_, (k123.tr k4).tr k5, llC.of (k := 0) hn n6 (fun i hi hik => by omega)⟩
    · rw [oif_f (decide_eq_false hl), if_pos rfl, e4]
      simp only [Option.bind_eq_bind, Option.bind_some]
      exact e5
end LL
