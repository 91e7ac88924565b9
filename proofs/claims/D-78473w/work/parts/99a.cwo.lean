/-! THE CLASS's NETWORK WITHOUT AN EDGE -/
def nl (c : Cel) : Prop := match c with
  | .inl _ => True
  | .inr (ci, _) => ci ≠ 13 ∧ ci ≠ 14
/-- all other cells are kept -/
def keL (S T : St) : Prop := ∀ q e, S.1 q = some e → nl e → T.1 q = some e
theorem keL.tr {S T U : St} (h : keL S T) (h2 : keL T U) : keL S U := fun q e hq hn => h2 q e (h q e hq hn) hn
theorem upF_me {α : Type} {f : Nat → α} {k : Nat} {v : α} : upF f k v k = v := if_pos rfl
theorem upF_ne {α : Type} {f : Nat → α} {k i : Nat} {v : α} (h : i ≠ k) : upF f k v i = f i := if_neg h
section LM
variable {S0 S T : St} {l n k c d t : Nat} {A Y : Nat → Nat} {F : Nat} {m : Int32}
/-- the list, all of it new -/
def lsT (S0 S : St) (c d l : Nat) (m : Int32) (n : Nat) (A Y : Nat → Nat) : Prop := ex c d S0 S ∧ llC S l m n A Y ∧ S0.2.1 ≤ l ∧ ∀ i, i < n → S0.2.1 ≤ A i
theorem llC.kp {U : St} (h : llC S l m n A Y) (hk : kpL S U l n A) : keL S U := by
  intro q e hq hn
  rw [hk.2 q ?_ ?_]
  · exact hq
  · rintro rfl
    rw [h.1] at hq; cases hq; exact hn.1 rfl
  · rintro i hi rfl
    rw [h.2.2 i hi] at hq; cases hq; exact hn.2 rfl
theorem lsT.kp {U : St} {m' : Int32} {n' : Nat} {A' Y' : Nat → Nat} (h : lsT S0 S c d l m n A Y) (h0 : wfS S0) (hk : kpL S U l n A) (hU : llC U l m' n' A' Y') (hA : ∀ i, i < n' → ∃ j, j < n ∧ A' i = A j) : lsT S0 U c d l m' n' A' Y' := by
  obtain ⟨⟨a1, a2, a3, a4, a5⟩, b, c1, c2⟩ := h
  refine ⟨⟨fun q hq => ?_, by rw [hk.1]; exact a2, by rw [hk.1]; exact a3, by rw [hk.1]; exact a4, fun q e hq => ?_⟩, hU, c1, fun i hi => ?_⟩
  · rw [hk.1] at hq
    rw [hk.2 q ?_ ?_]
    · exact a1 q hq
    · have := a1.lt b.1; omega
    · intro i hi; have := a1.lt (b.2.2 i hi); omega
  · have := h0.lt hq
    rw [hk.2 q (by omega) (fun i hi => by have := c2 i hi; omega)]
    exact a5 q e hq
  · obtain ⟨j, hj, e⟩ := hA i hi
    rw [e]; exact c2 j hj
theorem er_src {n k i : Nat} {A : Nat → Nat} (hk : k < n) (hi : i < n - 1) : ∃ j, j < n ∧ er k A i = A j := by
  unfold er
  split
  · exact ⟨i, by omega, rfl⟩
  · exact ⟨i + 1, by omega, rfl⟩
theorem lsT.unlink (h : lsT S0 S c d l m n A Y) (h0 : wfS S0) (hk : k < n) : ∃ T, C_J17_unlink S l (A k) = some (Y k, T) ∧ keL S T ∧ lsT S0 T c d l (m + 1) (n - 1) (er k A) (er k Y) := by
  obtain ⟨T, e1, e2, e3⟩ := C_unlink h.2.1 hk
  exact ⟨T, e1, h.2.1.kp e2, h.kp h0 e2 e3 (fun i hi => er_src hk hi)⟩
theorem lsT.first (h : lsT S0 S c d l m n A Y) (h0 : wfS S0) (hn : 0 < n) : ∃ T, C_J17_removeFirst S l = some (Y 0, T) ∧ keL S T ∧ lsT S0 T c d l (m + 1) (n - 1) (er 0 A) (er 0 Y) := by
  obtain ⟨T, e1, e2, e3⟩ := C_removeFirst h.2.1 hn
  exact ⟨T, e1, h.2.1.kp e2, h.kp h0 e2 e3 (fun i hi => er_src hn hi)⟩
/-- a put elsewhere, behind the old end -/
theorem lsT.pt {a : Nat} {e e' : Cel} (h : lsT S0 S c d l m n A Y) (h0 : wfS S0) (ha : S0.2.1 ≤ a) (hS : S.1 a = some e) (hn : nl e) : lsT S0 (put S a e') c d l m n A Y := by
  obtain ⟨a1, ⟨b1, b2, b3⟩, c1, c2⟩ := h
  refine ⟨ex.put h0 a1 ha hS, ⟨?_, b2, fun i hi => ?_⟩, c1, c2⟩
  · rw [put_ne]
    · exact b1
    · rintro rfl
      rw [b1] at hS; cases hS; exact hn.1 rfl
  · rw [put_ne]
    · exact b3 i hi
    · intro z
      rw [← z, b3 i hi] at hS; cases hS; exact hn.2 rfl
theorem lsT.ala {j : Nat} {e : Cel} (h : lsT S0 S c d l m n A Y) : lsT S0 (al S e j) (c + 1) (d + j) l m n A Y := by
  obtain ⟨a1, ⟨b1, b2, b3⟩, c1, c2⟩ := h
  have hw := a1.1
  refine ⟨ex_al a1, ⟨?_, b2, fun i hi => ?_⟩, c1, c2⟩
  · rw [al_ne (by have := hw.lt b1; omega)]; exact b1
  · rw [al_ne (by have := hw.lt (b3 i hi); omega)]; exact b3 i hi
/-- one more -/
theorem lsT.add {y : Nat} (h : lsT S0 S c d l m n A Y) (h0 : wfS S0) : ∃ T, C_J17_add S l y = some (1, T) ∧ keL S T ∧ lsT S0 T (c + 1) (d + 3) l (m + 1) (n + 1) (upF A n S.2.1) (upF Y n y) := by
  obtain ⟨a1, a2, c1, c2⟩ := id h
  have hw := a1.1
  have g1 : gQ S 13 l 3 = some (oif (decide (0 < n)) (A (n - 1))) := gQ_of a2.1 rfl
  have xl := hw.lt a2.1
  have e2 : C_J18_init (al S (cO 14 df_14) 3) S.2.1 (oif (decide (0 < n)) (A (n - 1))) y none = some (al S (cO 14 [.ref y, .null, vOf (oif (decide (0 < n)) (A (n - 1)))]) 3) := by
    have p1 : gP (al S (cO 14 df_14) 3) 14 S.2.1 0 (.ref y) = some (put (al S (cO 14 df_14) 3) S.2.1 (cO 14 [.ref y, .null, .null])) := gP_of (al_me _ _ _) (by decide)
    rw [put_al] at p1
    have p2 : gP (al S (cO 14 [.ref y, .null, .null]) 3) 14 S.2.1 1 (va_rf none) = some (put (al S (cO 14 [.ref y, .null, .null]) 3) S.2.1 (cO 14 [.ref y, .null, .null])) := gP_of (al_me _ _ _) (by simp)
    rw [put_al] at p2
    have p3 : gP (al S (cO 14 [.ref y, .null, .null]) 3) 14 S.2.1 2 (vOf (oif (decide (0 < n)) (A (n - 1)))) = some (put (al S (cO 14 [.ref y, .null, .null]) 3) S.2.1 (cO 14 [.ref y, .null, vOf (oif (decide (0 < n)) (A (n - 1)))])) := gP_of (al_me _ _ _) (by simp)
    rw [put_al] at p3
    unfold C_J18_init
    rw [rf_v (oif _ _)]
    simp only [p1, p2, p3, Option.bind_eq_bind, Option.bind_some]
  -- the state with the new node
  have hs : nsC (al S (cO 14 [.ref y, .null, vOf (oif (decide (0 < n)) (A (n - 1)))]) 3) l (n + 1) (upF A n S.2.1) (llF m n A) (upF (ndF n A Y) n [.ref y, .null, vOf (oif (decide (0 < n)) (A (n - 1)))]) := by
    refine ⟨by rw [al_ne (by omega)]; exact a2.1, fun i j hij hj => ?_, fun i hi => ?_⟩
    · unfold upF
      rw [if_neg (by omega)]
      by_cases q : j = n
      · rw [if_pos q]; exact hw.lt (a2.2.2 i (by omega))
      · rw [if_neg q]; exact a2.2.1 i j hij (by omega)
    · unfold upF
      by_cases q : i = n
      · rw [if_pos q, if_pos q]; exact al_me _ _ _
      · rw [if_neg q, if_neg q, al_ne (by have := hw.lt (a2.2.2 i (by omega)); omega)]; exact a2.2.2 i (by omega)
  have hl3 := h.ala (e := cO 14 [.ref y, .null, vOf (oif (decide (0 < n)) (A (n - 1)))]) (j := 3)
  have kA : keL S (al S (cO 14 [.ref y, .null, vOf (oif (decide (0 < n)) (A (n - 1)))]) 3) := fun q e hq _ => by rw [al_ne (by have := hw.lt hq; omega)]; exact hq
  obtain ⟨x1, -, -, -⟩ := hl3
  generalize hS1 : al S (cO 14 [.ref y, .null, vOf (oif (decide (0 < n)) (A (n - 1)))]) 3 = S1 at *
  obtain ⟨T1, q1, n1, k1⟩ := hs.setL (f := 3) (v := .ref S.2.1) (by unfold llF; simp)
  have fin : ∀ {U : St} {a b : Value} {cs : Nat → List Value}, nsC U l (n + 1) (upF A n S.2.1) [.int m, .int (i32 n), a, b] cs → ∃ T, C_J17_linkLast_38 l U = some T ∧ nsC T l (n + 1) (upF A n S.2.1) [.int (m + 1), .int (i32 ((n + 1 : Nat) : Int)), a, b] cs ∧ kpL U T l (n + 1) (upF A n S.2.1) := by
    intro U a b cs hU
    obtain ⟨V1, d1, p1, r1⟩ := hU.setL (f := 1) (v := .int (i32 n + 1)) (by simp)
    obtain ⟨V2, d2, p2, r2⟩ := p1.setL (f := 0) (v := .int (m + 1)) (by simp)
    have en : i32 (n : Int) + 1 = i32 ((n + 1 : Nat) : Int) := by rw [i_c1, i_add]; congr 1
    refine ⟨V2, ?_, by rw [← en]; exact p2, r1.tr r2⟩
    unfold C_J17_linkLast_38
    rw [gI_of (k := 1) (v := i32 n) hU.1 rfl]
    simp only [Option.bind_eq_bind, Option.bind_some]
    rw [d1]
    simp only [Option.bind_eq_bind, Option.bind_some]
    rw [gI_of (k := 0) (v := m) p1.1 rfl]
    simp only [Option.bind_eq_bind, Option.bind_some]
    rw [d2]
    rfl
  have pre : ∀ {V : St}, (if oif (decide (0 < n)) (A (n - 1)) = none then ((gP T1 13 l 2 (.ref S.2.1)) >>= fun S5 => C_J17_linkLast_38 l S5) else (oif (decide (0 < n)) (A (n - 1)) >>= fun a6 => (gP T1 14 a6 1 (.ref S.2.1)) >>= fun S7 => C_J17_linkLast_38 l S7)) = some V → C_J17_add S l y = some (1, V) := by
    intro V hV
    unfold C_J17_add
    rw [gO_of a2.1]
    simp only [Option.bind_eq_bind, Option.bind_some]
    have : C_J17_linkLast S l y = some V := by
      unfold C_J17_linkLast
      rw [gO_of a2.1, g1, nO_eq]
      simp only [Option.bind_eq_bind, Option.bind_some]
      rw [e2]
      simp only [Option.bind_eq_bind, Option.bind_some]
      rw [q1]
      exact hV
    rw [this]
    rfl
  have done : ∀ {U : St} {b : Value} {cs : Nat → List Value}, kpL S1 U l (n + 1) (upF A n S.2.1) → nsC U l (n + 1) (upF A n S.2.1) [.int (m + 1), .int (i32 ((n + 1 : Nat) : Int)), b, .ref S.2.1] cs → b = vOf (some (upF A n S.2.1 0)) → (∀ i, i < n + 1 → cs i = ndF (n + 1) (upF A n S.2.1) (upF Y n y) i) → keL S U ∧ lsT S0 U (c + 1) (d + 3) l (m + 1) (n + 1) (upF A n S.2.1) (upF Y n y) := by
    intro U b cs hk hU hb hcs
    have hw1 := x1.1
    have kk : keL S1 U := by
      intro q e hq hn
      rw [hk.2 q ?_ ?_]
      · exact hq
      · rintro rfl
        rw [hs.1] at hq; cases hq; exact hn.1 rfl
      · rintro i hi rfl
        rw [hs.2.2 i hi] at hq; cases hq; exact hn.2 rfl
    refine ⟨kA.tr kk, ⟨fun q hq => ?_, by rw [hk.1]; exact x1.2.1, by rw [hk.1]; exact x1.2.2.1, by rw [hk.1]; exact x1.2.2.2.1, fun q e hq => ?_⟩, ⟨?_, hU.2.1, fun i hi => by rw [hU.2.2 i hi, hcs i hi]⟩, c1, fun i hi => ?_⟩
    · rw [hk.1] at hq
      rw [hk.2 q (by have := hw1.lt hs.1; omega) (fun i hi => by have := hw1.lt (hs.2.2 i hi); omega)]
      exact hw1 q hq
    · have h1 := h0.lt hq
      have h2 := a1.2.1
      rw [hk.2 q (by omega) (fun i hi => ?_)]
      · exact x1.2.2.2.2 q e hq
      · unfold upF
        split
        · omega
        · have := c2 i (by omega); omega
    · rw [hU.1, hb]
      unfold llF
      rw [decide_eq_true (show 0 < n + 1 by omega), show n + 1 - 1 = n by omega]
      unfold upF
      rw [if_pos rfl]; rfl
    · have h2 := a1.2.1
      unfold upF
      split
      · omega
      · exact c2 i (by omega)
  by_cases hn : 0 < n
  · obtain ⟨T2, q2, n2, k2⟩ := n1.setN (k := n - 1) (f := 1) (v := .ref S.2.1) (by omega) (by unfold upF; rw [if_neg (by omega)]; unfold ndF; simp)
    obtain ⟨T3, q3, n3, k3⟩ := fin n2
    obtain ⟨r1, r2⟩ := done ((k1.tr k2).tr k3) n3 (by unfold upF; rw [if_neg (by omega), decide_eq_true hn]; rfl) (fun i hi => by
      by_cases q : i = n - 1
      · rw [q, upF_me, upF_ne (show n - 1 ≠ n by omega)]
        unfold ndF
        rw [upF_ne (show n - 1 ≠ n by omega), show n - 1 + 1 = n by omega, upF_me, upF_ne (show n - 1 - 1 ≠ n by omega), decide_eq_true (show n < n + 1 by omega)]; rfl
      · rw [upF_ne q]
        by_cases q2 : i = n
        · rw [q2, upF_me]
          unfold ndF
          rw [upF_me, upF_ne (show n - 1 ≠ n by omega), decide_eq_false (show ¬ n + 1 < n + 1 by omega), oif_f rfl]; rfl
        · rw [upF_ne q2]
          unfold ndF
          rw [upF_ne q2, upF_ne (show i + 1 ≠ n by omega), upF_ne (show i - 1 ≠ n by omega), decide_eq_true (show i + 1 < n + 1 by omega), decide_eq_true (show i + 1 < n by omega)])
    refine ⟨T3, pre ?_, r1, r2⟩
    have ea : upF A n S.2.1 (n - 1) = A (n - 1) := by unfold upF; rw [if_neg (by omega)]
    rw [ea] at q2
    rw [oif_t (decide_eq_true hn), if_neg (by simp)]
    simp only [Option.bind_eq_bind, Option.bind_some]
    rw [q2]
    simp only [Option.bind_eq_bind, Option.bind_some]
    exact q3
  · obtain ⟨T2, q2, n2, k2⟩ := n1.setL (f := 2) (v := .ref S.2.1) (by unfold llF; simp)
    obtain ⟨T3, q3, n3, k3⟩ := fin n2
    obtain ⟨r1, r2⟩ := done ((k1.tr k2).tr k3) n3 (by unfold upF; rw [if_pos (by omega)]; rfl) (fun i hi => by
      obtain rfl : i = 0 := by omega
      obtain rfl : n = 0 := by omega
      rfl)
    refine ⟨T3, pre ?_, r1, r2⟩
    rw [oif_f (decide_eq_false hn), if_pos rfl, q2]
    simp only [Option.bind_eq_bind, Option.bind_some]
    exact q3
end LM
