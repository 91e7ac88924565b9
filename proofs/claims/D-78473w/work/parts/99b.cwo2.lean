/-! THE CLASS's ITERATOR; a network without an edge -/
theorem sh_1 : ∀ n : Fin 8, i32 (n.1 : Int) >>> (1 &&& 31 : Int32) = i32 ((n.1 / 2 : Nat) : Int) := by decide +kernel
section LI
variable {S0 S T : St} {l n k c d t i : Nat} {A Y : Nat → Nat} {F : Nat} {m : Int32} {lr : Option Nat}
def itC (S : St) (t l : Nat) (m : Int32) (n : Nat) (A : Nat → Nat) (i : Nat) (lr : Option Nat) : Prop := S.1 t = some (cO 15 [vOf lr, vOf (oif (decide (i < n)) (A i)), .int (i32 i), .int m, .ref l])
theorem C_node0 (h : llC S l m n A Y) (hn : 0 < n) (hn6 : n ≤ 6) (hF : 4294967296 < F) : C_J17_node F S l 0 = some (A 0) := by
  obtain ⟨f, rfl⟩ : ∃ f, F = f + 1 := ⟨F - 1, by omega⟩
  unfold C_J17_node
  rw [gO_of h.1, gI_of (k := 1) (v := i32 n) h.1 rfl]
  simp only [Option.bind_eq_bind, Option.bind_some]
  have e := sh_1 ⟨n, by omega⟩
  simp only at e
  rw [e]
  have g3 : gQ S 13 l 3 = some (oif (decide (0 < n)) (A (n - 1))) := gQ_of h.1 rfl
  have g2 : gQ S 13 l 2 = some (oif (decide (0 < n)) (A 0)) := gQ_of h.1 rfl
  rw [decide_eq_true hn] at g2 g3
  have el := i_le (a := ((n / 2 : Nat) : Int)) (b := 0) (by omega) (by omega) (by omega) (by omega)
  by_cases h1 : n / 2 = 0
  · rw [if_pos (by rw [i_c0, el]; omega), g3]
    simp only [Option.bind_eq_bind, Option.bind_some]
    obtain rfl : n = 1 := by omega
    have e0 : i32 ((1 : Nat) : Int) - 1 = 0 := rfl
    rw [e0]
    unfold C_J17_node_47
    rw [if_pos (by decide)]
    rfl
  · rw [if_neg (by rw [i_c0, el]; omega), g2]
    simp only [Option.bind_eq_bind, Option.bind_some]
    unfold C_J17_node_17
    rw [if_pos (by decide)]
    rfl
theorem C_iterator (h : llC S l m n A Y) (hw : wfS S) (hn6 : n ≤ 6) (hF : 4294967296 < F) : C_J16_iterator F S l = some (S.2.1, al S (cO 15 [.null, vOf (oif (decide (0 < n)) (A 0)), .int (i32 0), .int m, .ref l]) 5) := by
  have hl := hw.lt h.1
  have pi : C_J17_isPositionIndex S l 0 = some 1 := by
    unfold C_J17_isPositionIndex
    rw [gO_of h.1, gI_of (k := 1) (v := i32 n) h.1 rfl]
    simp only [Option.bind_eq_bind, Option.bind_some]
    rw [if_neg (by decide), if_neg (by rw [i_c0, i_lt (by omega) (by omega) (by omega) (by omega)]; omega)]
  have hla : ∀ e : Cel, llC (al S e 5) l m n A Y := fun e => ⟨by rw [al_ne (by omega)]; exact h.1, h.2.1, fun i hi => by rw [al_ne (by have := hw.lt (h.2.2 i hi); omega)]; exact h.2.2 i hi⟩
  have p1 : gP (al S (cO 15 df_15) 5) 15 S.2.1 4 (.ref l) = some (put (al S (cO 15 df_15) 5) S.2.1 (cO 15 [.null, .null, .int 0, .int 0, .ref l])) := gP_of (al_me _ _ _) (by decide)
  rw [put_al] at p1
  have p2 : gP (al S (cO 15 [.null, .null, .int 0, .int 0, .ref l]) 5) 15 S.2.1 3 (.int m) = some (put (al S (cO 15 [.null, .null, .int 0, .int 0, .ref l]) 5) S.2.1 (cO 15 [.null, .null, .int 0, .int m, .ref l])) := gP_of (al_me _ _ _) (by simp)
  rw [put_al] at p2
  have p38 : ∀ s : Option Nat, C_J24_init_38 F S.2.1 0 S.2.1 s (al S (cO 15 [.null, .null, .int 0, .int m, .ref l]) 5) = some (al S (cO 15 [.null, vOf s, .int (i32 0), .int m, .ref l]) 5) := by
    intro s
    have p3 : gP (al S (cO 15 [.null, .null, .int 0, .int m, .ref l]) 5) 15 S.2.1 1 (vOf s) = some (put (al S (cO 15 [.null, .null, .int 0, .int m, .ref l]) 5) S.2.1 (cO 15 [.null, vOf s, .int 0, .int m, .ref l])) := gP_of (al_me _ _ _) (by simp)
    rw [put_al] at p3
    have p4 : gP (al S (cO 15 [.null, vOf s, .int 0, .int m, .ref l]) 5) 15 S.2.1 2 (.int 0) = some (put (al S (cO 15 [.null, vOf s, .int 0, .int m, .ref l]) 5) S.2.1 (cO 15 [.null, vOf s, .int 0, .int m, .ref l])) := gP_of (al_me _ _ _) (by simp)
    rw [put_al] at p4
    unfold C_J24_init_38
    rw [rf_v, p3]
    simp only [Option.bind_eq_bind, Option.bind_some]
    rw [p4]
    rfl
  have ini : C_J24_init F (al S (cO 15 df_15) 5) S.2.1 l 0 = some (al S (cO 15 [.null, vOf (oif (decide (0 < n)) (A 0)), .int (i32 0), .int m, .ref l]) 5) := by
    unfold C_J24_init
    rw [p1]
    simp only [Option.bind_eq_bind, Option.bind_some]
    rw [gA_of (k := 4) (v := l) (al_me _ _ _) rfl]
    simp only [Option.bind_eq_bind, Option.bind_some]
    rw [gI_of (k := 0) (v := m) (hla _).1 rfl]
    simp only [Option.bind_eq_bind, Option.bind_some]
    rw [p2]
    simp only [Option.bind_eq_bind, Option.bind_some]
    rw [gI_of (k := 1) (v := i32 n) (hla _).1 rfl]
    simp only [Option.bind_eq_bind, Option.bind_some]
    have ee := i_eq (a := 0) (b := (n : Int)) (by omega) (by omega) (by omega) (by omega)
    by_cases h0 : 0 < n
    · rw [if_neg (by rw [i_c0, ee]; omega), C_node0 (hla _) h0 hn6 hF, oif_t (decide_eq_true h0)]
      simp only [Option.bind_eq_bind, Option.bind_some]
      exact p38 _
    · rw [if_pos (by rw [i_c0, ee]; omega), oif_f (decide_eq_false h0)]
      exact p38 _
  unfold C_J16_iterator C_J15_listIterator C_J17_listIterator C_J17_checkPositionIndex
  rw [gO_of h.1, pi]
  simp only [Option.bind_eq_bind, Option.bind_some]
  rw [if_neg (by decide)]
  simp only [Option.bind_eq_bind, Option.bind_some, nO_eq]
  rw [ini]
  rfl
theorem C_hasNext (h : llC S l m n A Y) (ht : itC S t l m n A i lr) (hi : i ≤ n) (hn6 : n ≤ 6) : C_J24_hasNext S t = some (i32 (tr01 (i < n))) := by
  apply Rt.eq
  unfold C_J24_hasNext
  rw [gO_of ht, gI_of (k := 2) (v := i32 i) ht rfl, gA_of (k := 4) (v := l) ht rfl]
  refine Rt.let (Rt.let (Rt.let ?_))
  rw [gI_of (k := 1) (v := i32 n) h.1 rfl]
  refine Rt.let (Rt.ite (fun z => Rt.some (tr_0 ?_)) (fun z => Rt.some (tr_1 ?_)))
  · rw [i_le (by omega) (by omega) (by omega) (by omega)] at z; omega
  · rw [i_le (by omega) (by omega) (by omega) (by omega)] at z; omega
theorem C_comod (h : llC S l m n A Y) (ht : itC S t l m n A i lr) : C_J24_checkForComodification S t = some () := by
  unfold C_J24_checkForComodification
  rw [gO_of ht, gA_of (k := 4) (v := l) ht rfl, gI_of (k := 3) (v := m) ht rfl]
  simp only [Option.bind_eq_bind, Option.bind_some]
  rw [gI_of (k := 0) (v := m) h.1 rfl]
  exact if_pos rfl
theorem C_next24 (h : lsT S0 S c d l m n A Y) (h0 : wfS S0) (ht0 : S0.2.1 ≤ t) (ht : itC S t l m n A i lr) (hi : i < n) (hn6 : n ≤ 6) : ∃ T, C_J24_next S t = some (Y i, T) ∧ lsT S0 T c d l m n A Y ∧ itC T t l m n A (i + 1) (some (A i)) ∧ ∀ q, q ≠ t → T.1 q = S.1 q := by
  have hl := h.2.1
  have nt : ∀ f : List Value, nl (cO 15 f) := fun f => ⟨(by decide : (15 : Nat) ≠ 13), (by decide : (15 : Nat) ≠ 14)⟩
  have hne : A i ≠ t := by
    intro e
    have := hl.2.2 i hi
    rw [e, ht] at this; cases this
  refine ⟨put S t (cO 15 [vOf (some (A i)), vOf (oif (decide (i + 1 < n)) (A (i + 1))), .int (i32 ((i + 1 : Nat) : Int)), .int m, .ref l]), ?_, h.pt h0 ht0 ht (nt _), put_me _ _ _, fun q hq => put_ne hq⟩
  have p1 : gP S 15 t 0 (vOf (some (A i))) = some (put S t (cO 15 [vOf (some (A i)), vOf (oif (decide (i < n)) (A i)), .int (i32 i), .int m, .ref l])) := gP_of ht (by simp)
  have p2 : gP (put S t (cO 15 [vOf (some (A i)), vOf (oif (decide (i < n)) (A i)), .int (i32 i), .int m, .ref l])) 15 t 1 (vOf (oif (decide (i + 1 < n)) (A (i + 1)))) = some (put (put S t (cO 15 [vOf (some (A i)), vOf (oif (decide (i < n)) (A i)), .int (i32 i), .int m, .ref l])) t (cO 15 [vOf (some (A i)), vOf (oif (decide (i + 1 < n)) (A (i + 1))), .int (i32 i), .int m, .ref l])) := gP_of (put_me _ _ _) (by simp)
  rw [put_put] at p2
  have p3 : gP (put S t (cO 15 [vOf (some (A i)), vOf (oif (decide (i + 1 < n)) (A (i + 1))), .int (i32 i), .int m, .ref l])) 15 t 2 (.int (i32 i + 1)) = some (put (put S t (cO 15 [vOf (some (A i)), vOf (oif (decide (i + 1 < n)) (A (i + 1))), .int (i32 i), .int m, .ref l])) t (cO 15 [vOf (some (A i)), vOf (oif (decide (i + 1 < n)) (A (i + 1))), .int (i32 i + 1), .int m, .ref l])) := gP_of (put_me _ _ _) (by simp)
  rw [put_put] at p3
  have ei : i32 (i : Int) + 1 = i32 ((i + 1 : Nat) : Int) := by rw [i_c1, i_add]; congr 1
  rw [ei] at p3
  have g1 : gQ S 15 t 1 = some (oif (decide (i < n)) (A i)) := gQ_of ht rfl
  have hA : ∀ e : Cel, (put S t e).1 (A i) = some (cO 14 (ndF n A Y i)) := fun e => by rw [put_ne hne]; exact hl.2.2 i hi
  have g5 : ∀ e : Cel, gQ (put S t e) 14 (A i) 1 = some (oif (decide (i + 1 < n)) (A (i + 1))) := fun e => gQ_of (hA e) rfl
  have g6 : gQ (put S t (cO 15 [vOf (some (A i)), vOf (oif (decide (i < n)) (A i)), .int (i32 i), .int m, .ref l])) 15 t 1 = some (oif (decide (i < n)) (A i)) := gQ_of (put_me _ _ _) rfl
  have g7 : gQ (put S t (cO 15 [vOf (some (A i)), vOf (oif (decide (i + 1 < n)) (A (i + 1))), .int (i32 ((i + 1 : Nat) : Int)), .int m, .ref l])) 15 t 0 = some (some (A i)) := gQ_of (put_me _ _ _) rfl
  unfold C_J24_next
  rw [gO_of ht, C_comod hl ht, C_hasNext hl ht (by omega) hn6, tr01_pos hi]
  simp only [Option.bind_eq_bind, Option.bind_some]
  rw [if_neg (by decide), g1, oif_t (decide_eq_true hi)]
  simp only [Option.bind_eq_bind, Option.bind_some]
  rw [rf_v, p1]
  simp only [Option.bind_eq_bind, Option.bind_some]
  rw [g6, oif_t (decide_eq_true hi)]
  simp only [Option.bind_eq_bind, Option.bind_some]
  rw [g5]
  simp only [Option.bind_eq_bind, Option.bind_some]
  rw [rf_v]
  rw [oif_t (decide_eq_true hi)] at p2
  rw [p2]
  simp only [Option.bind_eq_bind, Option.bind_some]
  rw [gI_of (k := 2) (v := i32 i) (put_me _ _ _) rfl]
  simp only [Option.bind_eq_bind, Option.bind_some]
  rw [ei, p3]
  simp only [Option.bind_eq_bind, Option.bind_some]
  rw [g7]
  simp only [Option.bind_eq_bind, Option.bind_some]
  rw [gA_of (k := 0) (v := Y i) (hA _) rfl]
  rfl
theorem C_remove24 (h : lsT S0 S c d l m n A Y) (h0 : wfS S0) (ht0 : S0.2.1 ≤ t) (ht : itC S t l m n A (i + 1) (some (A i))) (hi : i < n) (hn6 : n ≤ 6) : ∃ T, C_J24_remove S t = some T ∧ lsT S0 T c d l (m + 1) (n - 1) (er i A) (er i Y) ∧ itC T t l (m + 1) (n - 1) (er i A) i none ∧ ∀ q e, q ≠ t → S.1 q = some e → nl e → T.1 q = some e := by
  have hl := h.2.1
  have nt : ∀ f : List Value, nl (cO 15 f) := fun f => ⟨(by decide : (15 : Nat) ≠ 13), (by decide : (15 : Nat) ≠ 14)⟩
  obtain ⟨U, e1, e2, e3⟩ := h.unlink h0 hi
  have hu := e2 t _ ht (nt _)
  have g0 : gQ S 15 t 0 = some (some (A i)) := gQ_of ht rfl
  have g5 : gQ S 14 (A i) 1 = some (oif (decide (i + 1 < n)) (A (i + 1))) := gQ_of (hl.2.2 i hi) rfl
  have u1 : gQ U 15 t 1 = some (oif (decide (i + 1 < n)) (A (i + 1))) := gQ_of hu rfl
  have u0 : gQ U 15 t 0 = some (some (A i)) := gQ_of hu rfl
  have ei : i32 ((i + 1 : Nat) : Int) - 1 = i32 (i : Int) := by rw [i_c1, i_sub]; congr 1; omega
  have p1 : gP U 15 t 2 (.int (i32 ((i + 1 : Nat) : Int) - 1)) = some (put U t (cO 15 [vOf (some (A i)), vOf (oif (decide (i + 1 < n)) (A (i + 1))), .int (i32 ((i + 1 : Nat) : Int) - 1), .int m, .ref l])) := gP_of hu (by simp)
  rw [ei] at p1
  have p2 : gP (put U t (cO 15 [vOf (some (A i)), vOf (oif (decide (i + 1 < n)) (A (i + 1))), .int (i32 i), .int m, .ref l])) 15 t 0 (va_rf none) = some (put (put U t (cO 15 [vOf (some (A i)), vOf (oif (decide (i + 1 < n)) (A (i + 1))), .int (i32 i), .int m, .ref l])) t (cO 15 [.null, vOf (oif (decide (i + 1 < n)) (A (i + 1))), .int (i32 i), .int m, .ref l])) := gP_of (put_me _ _ _) (by simp)
  rw [put_put] at p2
  have p3 : gP (put U t (cO 15 [.null, vOf (oif (decide (i + 1 < n)) (A (i + 1))), .int (i32 i), .int m, .ref l])) 15 t 3 (.int (m + 1)) = some (put (put U t (cO 15 [.null, vOf (oif (decide (i + 1 < n)) (A (i + 1))), .int (i32 i), .int m, .ref l])) t (cO 15 [.null, vOf (oif (decide (i + 1 < n)) (A (i + 1))), .int (i32 i), .int (m + 1), .ref l])) := gP_of (put_me _ _ _) (by simp)
  rw [put_put] at p3
  refine ⟨put U t (cO 15 [.null, vOf (oif (decide (i + 1 < n)) (A (i + 1))), .int (i32 i), .int (m + 1), .ref l]), ?_, e3.pt h0 ht0 hu (nt _), ?_, fun q e hq hS hn => by rw [put_ne hq]; exact e2 q e hS hn⟩
  · unfold C_J24_remove
    rw [gO_of ht, C_comod hl ht, g0]
    simp only [Option.bind_eq_bind, Option.bind_some]
    rw [if_neg (by simp), g5]
    simp only [Option.bind_eq_bind, Option.bind_some]
    rw [gA_of (k := 4) (v := l) ht rfl]
    simp only [Option.bind_eq_bind, Option.bind_some]
    rw [e1]
    simp only [Option.bind_eq_bind, Option.bind_some]
    rw [u1, u0]
    simp only [Option.bind_eq_bind, Option.bind_some]
    rw [if_neg ?_, gI_of (k := 2) (v := i32 ((i + 1 : Nat) : Int)) hu rfl]
    · simp only [Option.bind_eq_bind, Option.bind_some]
      rw [ei, p1]
      simp only [Option.bind_eq_bind, Option.bind_some]
      unfold C_J24_remove_68
      rw [p2]
      simp only [Option.bind_eq_bind, Option.bind_some]
      rw [gI_of (k := 3) (v := m) (put_me _ _ _) rfl]
      simp only [Option.bind_eq_bind, Option.bind_some]
      rw [p3]
      rfl
    · by_cases hl2 : i + 1 < n
      · rw [oif_t (decide_eq_true hl2)]
        intro z
        have := hl.2.1 i (i + 1) (by omega) hl2
        have := Option.some.inj z
        omega
      · rw [oif_f (decide_eq_false hl2)]
        intro z
        cases z
  · unfold itC
    rw [put_me]
    have e4 : er i A i = A (i + 1) := by unfold er; rw [if_neg (by omega)]
    have e5 : decide (i < n - 1) = decide (i + 1 < n) := by rw [decide_eq_decide]; omega
    rw [e4, e5]; rfl
end LI
/-- a list's filter by its places -/
theorem rng_map {α : Type} (l : List α) (z : α) : l = (List.range l.length).map (fun q => l.getD q z) := by
  apply List.ext_getElem
  · simp
  · intro i h1 h2
    rw [List.getElem_map, List.getElem_range, getD_at h1]
def klF (l : List (Nat × Int × Int)) (k p : Nat) : List Nat := (List.range p).filter (fun q => (l.getD q (0, 0, 0)).1 != k)
def stF (k : Nat) (s : Nat × Int × Int) : Nat × Int × Int := if k < s.1 then (s.1 - 1, s.2) else s
theorem stD_kl (l : List (Nat × Int × Int)) (k : Nat) : stD k l = (klF l k l.length).map (fun q => stF k (l.getD q (0, 0, 0))) := by
  unfold stD klF
  conv => lhs; rw [rng_map l (0, 0, 0)]
  rw [List.filter_map, List.map_map]
  rfl
theorem klF_succ (l : List (Nat × Int × Int)) (k p : Nat) : klF l k (p + 1) = klF l k p ++ (if (l.getD p (0, 0, 0)).1 = k then [] else [p]) := by
  unfold klF
  rw [List.range_succ, List.filter_append]
  congr 1
  by_cases h : (l.getD p (0, 0, 0)).1 = k
  · rw [if_pos h, List.filter_cons_of_neg (by simp; exact h)]; rfl
  · rw [if_neg h, List.filter_cons_of_pos (by simp; exact h)]; rfl
theorem klF_len (l : List (Nat × Int × Int)) (k p : Nat) : (klF l k p).length ≤ p := by
  unfold klF
  have := List.length_filter_le (fun q => (l.getD q (0, 0, 0)).1 != k) (List.range p)
  rw [List.length_range] at this
  exact this
theorem klF_lt {l : List (Nat × Int × Int)} {k p i : Nat} (h : i < (klF l k p).length) : (klF l k p).getD i 0 < p := by
  rw [getD_at h]
  have := List.getElem_mem h
  unfold klF at this
  rw [List.mem_filter, List.mem_range] at this
  exact this.1
section LW
variable {S T : St} {b x : Nat} {N : Net} {w : Nat → Int} {F : Nat}
theorem C_withoutEdge {k : Nat} (hN : okN N) (hw : wfS S) (h : netC b S x N w) (hk : k < eN N) (hF : 4294967296 < F) : Rt (C_X2_withoutEdge F S x (i32 k)) (fun v => ex 17 70 S v.2 ∧ netC v.2.2.1 v.2 v.1 (nDis N k) w) := by
  have z2 := hN.sz.2.1
  have z3 := hN.sz.2.2
  obtain ⟨wa, ta, ea, sa, fw, ft, fe, fs, eq, sq, ⟨a1, a2⟩, ⟨b1, b2, b3⟩, ⟨c1, c2, c3⟩, ⟨d1, d2, d3⟩, e1, e2, e3⟩ := h
  have en : i32 (eN N : Int) - 1 = i32 ((eN N - 1 : Nat) : Int) := by rw [i_c1, i_sub]; congr 1; omega
  have x1 : ∀ f, ex 1 (eN N - 1) S (al S (cQ 3 (eN N - 1) f) (eN N - 1)) := fun f => ex.al hw
  unfold C_X2_withoutEdge
  rw [gO_of a2, gA_of (k := 2) a2 rfl]
  refine Rt.let (Rt.let ?_)
  rw [aN_of d2]
  refine Rt.let ?_
  show Rt (nQ_ S 3 (i32 (eN N : Int) - 1) >>= _) _
  rw [en, mkQ (by omega) (by omega), Int.toNat_natCast]
  refine Rt.let ?_
  dsimp only
  rw [gA_of (k := 2) ((x1 _).get a2) rfl]
  refine Rt.let ?_
  rw [i_c0, cQ_of ((x1 _).get d2) (al_me _ _ _) (by omega) (by omega) (by omega) (by omega) (by omega) (by omega) (by omega) (fun i hi => ⟨eq i, _, by rw [show (0 : Int).toNat + i = i by simp]; exact (d3 i (by omega)).1, (x1 _).get (d3 i (by omega)).2.2⟩)]
  refine Rt.let ?_
  rw [put_al, Int.toNat_natCast, gA_of (k := 2) ((x1 _).get a2) rfl]
  refine Rt.let ?_
  rw [aN_of (al_me _ _ _)]
  refine Rt.let ?_
  have ek : ((k : Int) + 1).toNat = k + 1 := by omega
  have em : (((eN N - 1 : Nat) : Int) - k).toNat = eN N - 1 - k := by omega
  show Rt (cQ_ _ 3 4 ea S.2.1 (i32 k + 1) (i32 k) (i32 ((eN N - 1 : Nat) : Int) - i32 k) >>= _) _
  rw [i_c1, i_add, i_sub, cQ_of ((x1 _).get d2) (al_me _ _ _) (by omega) (by omega) (by omega) (by omega) (by omega) (by omega) (by omega) (fun i hi => ⟨eq (k + 1 + i), _, by rw [ek]; exact (d3 _ (by omega)).1, (x1 _).get (d3 _ (by omega)).2.2⟩)]
  refine Rt.let ?_
  rw [put_al, Int.toNat_natCast, ek, em, show (0 : Int).toNat = 0 from rfl]
  -- the edges that are left
  have hx1 := x1 (va_cpy fe (va_cpy fe (fun _ => none) 0 0 k) (k + 1) k (eN N - 1 - k))
  have hfe := al_me S (eN N - 1) (cQ 3 (eN N - 1) (va_cpy fe (va_cpy fe (fun _ => none) 0 0 k) (k + 1) k (eN N - 1 - k)))
  have hn1 : (al S (cQ 3 (eN N - 1) (va_cpy fe (va_cpy fe (fun _ => none) 0 0 k) (k + 1) k (eN N - 1 - k))) (eN N - 1)).2.1 = S.2.1 + 1 := rfl
  generalize al S (cQ 3 (eN N - 1) (va_cpy fe (va_cpy fe (fun _ => none) 0 0 k) (k + 1) k (eN N - 1 - k))) (eN N - 1) = S1 at *
  rw [nO_eq]
  refine Rt.let ?_
  dsimp only
  have ini : C_J17_init (al S1 (cO 13 df_13) 4) S1.2.1 = some (al S1 (cO 13 [.int 0, .int 0, .null, .null]) 4) := by
    have p1 : gP (al S1 (cO 13 df_13) 4) 13 S1.2.1 0 (.int 0) = some (put (al S1 (cO 13 df_13) 4) S1.2.1 (cO 13 [.int 0, .int 0, .null, .null])) := gP_of (al_me _ _ _) (by decide)
    rw [put_al] at p1
    have p2 : gP (al S1 (cO 13 [.int 0, .int 0, .null, .null]) 4) 13 S1.2.1 1 (.int 0) = some (put (al S1 (cO 13 [.int 0, .int 0, .null, .null]) 4) S1.2.1 (cO 13 [.int 0, .int 0, .null, .null])) := gP_of (al_me _ _ _) (by simp)
    rw [put_al] at p2
    unfold C_J17_init C_J16_init C_J15_init C_J1_init
    simp only [Option.bind_eq_bind, Option.bind_some]
    rw [p1]
    simp only [Option.bind_eq_bind, Option.bind_some]
    rw [p2]
    rfl
  rw [ini]
  refine Rt.let ?_
  have hL : lsT S (al S1 (cO 13 [.int 0, .int 0, .null, .null]) 4) 2 (eN N - 1 + 4) S1.2.1 0 0 (fun _ => 0) (fun _ => 0) := ⟨ex_al hx1, ⟨al_me _ _ _, fun i j _ hj => by omega, fun i hi => by omega⟩, by omega, fun i hi => by omega⟩
  have hE : (al S1 (cO 13 [.int 0, .int 0, .null, .null]) 4).1 S.2.1 = some (cQ 3 (eN N - 1) (va_cpy fe (va_cpy fe (fun _ => none) 0 0 k) (k + 1) k (eN N - 1 - k))) := by rw [al_ne (by omega)]; exact hfe
  have hll : S1.2.1 = S.2.1 + 1 := hn1
  generalize al S1 (cO 13 [.int 0, .int 0, .null, .null]) 4 = S2 at *
  generalize S1.2.1 = l at *
  -- the last step: the new network
  have stS : ∀ q, q < sN N → ((sd N q).1 : Int) < 12 ∧ 0 ≤ (sd N q).2.1 := fun q hq => ⟨by have := (hN.2.2.2.2.2.2 q hq).1; omega, (hN.2.2.2.2.2.2 q hq).2.1⟩
  have final : ∀ (U : St) (o : Nat) (f : Nat → Option Nat) (oq : Nat → Nat), ex 16 66 S U → U.1 S.2.1 = some (cQ 3 (eN N - 1) (va_cpy fe (va_cpy fe (fun _ => none) 0 0 k) (k + 1) k (eN N - 1 - k))) → U.1 o = some (cQ 4 (klF N.2.2 k (sN N)).length f) → (∀ j, j < (klF N.2.2 k (sN N)).length → f j = some (oq j) ∧ U.1 (oq j) = some (cO 5 [.int (i32 (stF k (sd N ((klF N.2.2 k (sN N)).getD j 0))).1), .int (i32 (stF k (sd N ((klF N.2.2 k (sN N)).getD j 0))).2.1), .int (i32 (stF k (sd N ((klF N.2.2 k (sN N)).getD j 0))).2.2)])) → Rt (C_X2_withoutEdge_198 F x S.2.1 o U) (fun v => ex 17 70 S v.2 ∧ netC v.2.2.1 v.2 v.1 (nDis N k) w) := by
    intro U o f oq hU hUe hUo hUs
    have x2 : ∀ g, ex 17 70 S (al U g 4) := fun g => ex_al hU
    have ga : ∀ {q : Nat} {e g : Cel}, U.1 q = some e → (al U g 4).1 q = some e := fun {q e g} hq => by rw [al_ne (by have := hU.1.lt hq; omega)]; exact hq
    unfold C_X2_withoutEdge_198
    rw [nO_eq]
    refine Rt.let ?_
    dsimp only
    rw [gA_of (k := 0) ((x2 _).get a2) rfl, gA_of (k := 1) ((x2 _).get a2) rfl]
    refine Rt.let (Rt.let ?_)
    rw [C_init2n]
    refine Rt.let (Rt.some ⟨x2 _, ?_⟩)
    have hsl : sN (nDis N k) = (klF N.2.2 k (sN N)).length := by
      show (stD k N.2.2).length = _
      rw [stD_kl, List.length_map]; rfl
    have hse : ∀ j, j < (klF N.2.2 k (sN N)).length → sd (nDis N k) j = stF k (sd N ((klF N.2.2 k (sN N)).getD j 0)) := by
      intro j hj
      show (stD k N.2.2).getD j (0, 0, 0) = _
      rw [stD_kl]
      have hj' : j < (klF N.2.2 k N.2.2.length).length := hj
      rw [getD_at (by rw [List.length_map]; exact hj'), List.getElem_map, getD_at hj]
      rfl
    refine netC_mk (fun j => if j < k then eq j else eq (j + 1)) oq (x2 _).1 (al_me _ _ _) ((x2 _).get b2) b3 ((x2 _).get c2) c3 (fe := va_cpy fe (va_cpy fe (fun _ => none) 0 0 k) (k + 1) k (eN N - 1 - k)) ?_ (fun j hj => ?_) (fs := f) ?_ (fun j hj => ?_)
    · rw [nDis_e hk]; exact ga hUe
    · rw [nDis_e hk] at hj
      rw [nDis_ed, cpy_at, cpy_at]
      by_cases hh : j < k
      · rw [if_neg (by omega), if_pos (by omega), if_pos hh, show 0 + (j - 0) = j by omega]
        simp only [if_pos hh]
        exact ⟨(d3 j (by omega)).1, (x2 _).get (d3 j (by omega)).2.2⟩
      · rw [if_pos (by omega), if_neg hh, show k + 1 + (j - k) = j + 1 by omega]
        simp only [if_neg hh]
        exact ⟨(d3 (j + 1) (by omega)).1, (x2 _).get (d3 (j + 1) (by omega)).2.2⟩
    · rw [hsl]; exact ga hUo
    · rw [hsl] at hj
      rw [hse j hj]
      exact ⟨(hUs j hj).1, ga (hUs j hj).2⟩
  generalize hEE : some (cQ 3 (eN N - 1) (va_cpy fe (va_cpy fe (fun _ => none) 0 0 k) (k + 1) k (eN N - 1 - k))) = EE at *
  have hEn : ∃ g, EE = some (cQ 3 (eN N - 1) g) := ⟨_, hEE.symm⟩
  obtain ⟨ge, hge⟩ := hEn
  have cell5 : ∀ {V : St} {c d m : Nat}, ex c d S V → ∀ q, q < sN N → V.1 (sq q) = some (cO 5 [.int (i32 (sd N q).1), .int (i32 (sd N q).2.1), .int (i32 (sd N q).2.2)]) := fun hx q hq => hx.get (e3 q hq).2.2
  -- the stretches that are left
  have third : ∀ (U : St) (A Y : Nat → Nat) (m : Int32), lsT S U (3 + sN N) (eN N - 1 + 9 + 3 * sN N) l m (klF N.2.2 k (sN N)).length A Y → U.1 S.2.1 = EE → (∀ j, j < (klF N.2.2 k (sN N)).length → Y j = sq ((klF N.2.2 k (sN N)).getD j 0)) → Rt (C_X2_withoutEdge_120 F x (i32 k) S.2.1 l U) (fun v => ex 17 70 S v.2 ∧ netC v.2.2.1 v.2 v.1 (nDis N k) w) := by
    intro U A Y m hU hUe hY
    have kn := klF_len N.2.2 k (sN N)
    have kq : ∀ j, j < (klF N.2.2 k (sN N)).length → (klF N.2.2 k (sN N)).getD j 0 < sN N := fun j hj => klF_lt hj
    generalize (klF N.2.2 k (sN N)) = kl at *
    unfold C_X2_withoutEdge_120 C_J17_size
    rw [gO_of hU.2.1.1, gI_of (k := 1) (v := i32 kl.length) hU.2.1.1 rfl]
    show Rt (nQ_ U 4 (i32 (kl.length : Int)) >>= _) _
    rw [mkQ (by omega) (by omega), Int.toNat_natCast]
    refine Rt.let ?_
    dsimp only
    have h1 := hU.ala (e := cQ 4 kl.length (fun _ => none)) (j := kl.length)
    have h2 := al_me U kl.length (cQ 4 kl.length (fun _ => none))
    have h3 : (al U (cQ 4 kl.length (fun _ => none)) kl.length).1 S.2.1 = EE := by
      rw [al_ne]
      · exact hUe
      · rw [hge] at hUe
        have := hU.1.1.lt hUe; omega
    have hob : S.2.1 ≤ U.2.1 := hU.1.2.1
    have hoe : U.2.1 ≠ S.2.1 := by
      rw [hge] at hUe
      have := hU.1.1.lt hUe; omega
    generalize al U (cQ 4 kl.length (fun _ => none)) kl.length = U1 at *
    generalize U.2.1 = o at *
    show Rt (C_X2_withoutEdge_132 F x (i32 k) S.2.1 l o F (i32 0) U1) _
    refine Rt.loop (ι := Nat) (fun i v V => v = i32 i ∧ i ≤ kl.length ∧ V.1 S.2.1 = EE ∧ ∃ (A Y : Nat → Nat) (m : Int32) (f : Nat → Option Nat) (oq : Nat → Nat), lsT S V (3 + sN N + 1 + i) (eN N - 1 + 9 + 3 * sN N + kl.length + 3 * i) l m (kl.length - i) A Y ∧ V.1 o = some (cQ 4 kl.length f) ∧ (∀ j, j < i → f j = some (oq j) ∧ V.1 (oq j) = some (cO 5 [.int (i32 (stF k (sd N (kl.getD j 0))).1), .int (i32 (stF k (sd N (kl.getD j 0))).2.1), .int (i32 (stF k (sd N (kl.getD j 0))).2.2)])) ∧ ∀ j, j < kl.length - i → Y j = sq (kl.getD (i + j) 0)) (fun i => kl.length - i) ?_ F 0 _ _ ⟨rfl, by omega, h3, A, Y, m, _, fun _ => 0, h1, h2, fun j hj => by omega, fun j hj => by rw [Nat.zero_add]; exact hY j (by omega)⟩ (by omega)
    rintro n i _ V ⟨rfl, hi, hVe, A, Y, m, f, oq, hV, hVo, hVs, hVY⟩ ih
    unfold C_X2_withoutEdge_132
    rw [aN_of hVo]
    refine Rt.let (Rt.ite (fun z => ?_) (fun z => ?_))
    · rw [i_le (by show (-2147483648 : Int) ≤ (kl.length : Int); omega) (by show ((kl.length : Nat) : Int) < 2147483648; omega) (by omega) (by omega)] at z
      have z' : (kl.length : Int) ≤ i := z
      exact final V o f oq (hV.1.le (by omega) (by omega)) hVe hVo (fun j hj => hVs j (by omega))
    rw [i_le (by show (-2147483648 : Int) ≤ (kl.length : Int); omega) (by show ((kl.length : Nat) : Int) < 2147483648; omega) (by omega) (by omega)] at z
    have z' : ¬ (kl.length : Int) ≤ i := z
    obtain ⟨V1, r1, k1, l1⟩ := hV.first hw (show 0 < kl.length - i by omega)
    have hy0 : Y 0 = sq (kl.getD i 0) := by rw [hVY 0 (by omega), Nat.add_zero]
    have hq := kq i (by omega)
    rw [r1, hy0]
    refine Rt.let ?_
    dsimp only
    have na : ∀ {kd L : Nat} {g : Nat → Option Nat}, nl (cQ kd L g) := trivial
    have n5 : ∀ {g : List Value}, nl (cO 5 g) := ⟨(by decide : (5 : Nat) ≠ 13), (by decide : (5 : Nat) ≠ 14)⟩
    have nxt : ∀ (V2 : St) (y d' : Nat), lsT S V2 (3 + sN N + 1 + (i + 1)) d' l (m + 1) (kl.length - i - 1) (er 0 A) (er 0 Y) → d' ≤ eN N - 1 + 9 + 3 * sN N + kl.length + 3 * (i + 1) → V2.1 S.2.1 = EE → V2.1 o = some (cQ 4 kl.length f) → (∀ j, j < i → V2.1 (oq j) = some (cO 5 [.int (i32 (stF k (sd N (kl.getD j 0))).1), .int (i32 (stF k (sd N (kl.getD j 0))).2.1), .int (i32 (stF k (sd N (kl.getD j 0))).2.2)])) → V2.1 y = some (cO 5 [.int (i32 (stF k (sd N (kl.getD i 0))).1), .int (i32 (stF k (sd N (kl.getD i 0))).2.1), .int (i32 (stF k (sd N (kl.getD i 0))).2.2)]) → Rt (C_X2_withoutEdge_191 F (C_X2_withoutEdge_132 F x (i32 k) S.2.1 l o n) x (i32 k) S.2.1 l o (i32 i) o (i32 i) y V2) (fun v => ex 17 70 S v.2 ∧ netC v.2.2.1 v.2 v.1 (nDis N k) w) := by
      intro V2 y d' p1 p2 p3 p4 p5 p6
      unfold C_X2_withoutEdge_191
      rw [tA_of p6 p4 (by omega) (by omega) (by omega), Int.toNat_natCast]
      refine Rt.let ?_
      rw [i_c1, i_add]
      refine Rt.let (ih (i + 1) _ _ ⟨rfl, by omega, ?_, er 0 A, er 0 Y, m + 1, va_up f i (some y), fun j => if j = i then y else oq j, ?_, put_me _ _ _, fun j hj => ?_, fun j hj => ?_⟩ (by omega))
      · rw [put_ne (Ne.symm hoe)]; exact p3
      · have p1' := p1.pt (e' := cQ 4 kl.length (va_up f i (some y))) hw hob p4 na
        rw [show kl.length - i - 1 = kl.length - (i + 1) by omega] at p1'
        exact ⟨p1'.1.le (Nat.le_refl _) p2, p1'.2⟩
      · rw [vup_at]
        dsimp only
        by_cases cj : j = i
        · rw [if_pos cj, if_pos cj, cj]
          refine ⟨rfl, ?_⟩
          rw [put_ne]
          · exact p6
          · rintro rfl
            rw [p4] at p6; cases p6
        · rw [if_neg cj, if_neg cj]
          refine ⟨(hVs j (by omega)).1, ?_⟩
          rw [put_ne]
          · exact p5 j (by omega)
          · intro e
            have := p5 j (by omega)
            rw [e, p4] at this; cases this
      · unfold er
        rw [if_neg (by omega), hVY (j + 1) (by omega), show i + (j + 1) = i + 1 + j by omega]
    have cq : V1.1 (sq (kl.getD i 0)) = _ := cell5 (m := 0) l1.1 _ hq
    have o1 := k1 _ _ hVo na
    have E1 : V1.1 S.2.1 = EE := by rw [hge] at hVe ⊢; exact k1 _ _ hVe na
    have s1 : ∀ j, j < i → V1.1 (oq j) = some (cO 5 [.int (i32 (stF k (sd N (kl.getD j 0))).1), .int (i32 (stF k (sd N (kl.getD j 0))).2.1), .int (i32 (stF k (sd N (kl.getD j 0))).2.2)]) := fun j hj => k1 _ _ (hVs j hj).2 n5
    have sr := stS _ hq
    rw [gO_of cq, gI_of (k := 0) cq rfl]
    refine Rt.let (Rt.let (Rt.ite (fun zz => ?_) (fun zz => ?_)))
    · rw [i_le (by omega) (by omega) (by omega) (by omega)] at zz
      refine nxt V1 _ _ ⟨l1.1.le (by omega) (Nat.le_refl _), l1.2⟩ (by omega) E1 o1 s1 ?_
      rw [cq]
      unfold stF
      rw [if_neg (by omega)]
    · rw [i_le (by omega) (by omega) (by omega) (by omega)] at zz
      have ga : ∀ {q : Nat} {e g : Cel}, V1.1 q = some e → (al V1 g 3).1 q = some e := fun {q e g} hq => by rw [al_ne (by have := l1.1.1.lt hq; omega)]; exact hq
      rw [nO_eq]
      refine Rt.let ?_
      dsimp only
      rw [gI_of (k := 0) (ga cq) rfl, gI_of (k := 1) (ga cq) rfl, gI_of (k := 2) (ga cq) rfl]
      refine Rt.let (Rt.let (Rt.let ?_))
      have e0 : i32 ((sd N (kl.getD i 0)).1 : Int) - 1 = i32 (((sd N (kl.getD i 0)).1 - 1 : Nat) : Int) := by rw [i_c1, i_sub]; congr 1; omega
      rw [e0, C_init6 (show (al V1 (cO 5 df_5) 3).1 V1.2.1 = some (cO 5 [.int 0, .int 0, .int 0]) from al_me _ _ _), put_al]
      refine Rt.let ?_
      refine nxt _ _ _ l1.ala (by omega) ?_ (ga o1) (fun j hj => ga (s1 j hj)) ?_
      · rw [hge] at E1 ⊢; exact ga E1
      · rw [al_me]
        unfold stF
        rw [if_pos (by omega)]
  -- those of the edge go
  have second : ∀ (U : St) (A Y : Nat → Nat) (m : Int32), lsT S U (2 + sN N) (eN N - 1 + 4 + 3 * sN N) l m (sN N) A Y → U.1 S.2.1 = EE → (∀ j, j < sN N → Y j = sq j) → Rt (C_X2_withoutEdge_77 F x (i32 k) S.2.1 l U) (fun v => ex 17 70 S v.2 ∧ netC v.2.2.1 v.2 v.1 (nDis N k) w) := by
    intro U A Y m hU hUe hY
    unfold C_X2_withoutEdge_77
    rw [C_iterator hU.2.1 hU.1.1 z3 hF]
    refine Rt.let ?_
    dsimp only
    have h1 := hU.ala (e := cO 15 [.null, vOf (oif (decide (0 < sN N)) (A 0)), .int (i32 0), .int m, .ref l]) (j := 5)
    have h2 : itC (al U (cO 15 [.null, vOf (oif (decide (0 < sN N)) (A 0)), .int (i32 0), .int m, .ref l]) 5) U.2.1 l m (sN N) A 0 none := al_me _ _ _
    have hte : S.2.1 < U.2.1 := by
      rw [hge] at hUe
      exact hU.1.1.lt hUe
    have h3 : (al U (cO 15 [.null, vOf (oif (decide (0 < sN N)) (A 0)), .int (i32 0), .int m, .ref l]) 5).1 S.2.1 = EE := by rw [al_ne (by omega)]; exact hUe
    generalize al U (cO 15 [.null, vOf (oif (decide (0 < sN N)) (A 0)), .int (i32 0), .int m, .ref l]) 5 = U1 at *
    generalize U.2.1 = t at *
    refine Rt.loop1 (ι := Nat) (fun p V => p ≤ sN N ∧ V.1 S.2.1 = EE ∧ ∃ (A Y : Nat → Nat) (m : Int32) (n : Nat) (lr : Option Nat), n = (klF N.2.2 k p).length + (sN N - p) ∧ lsT S V (3 + sN N) (eN N - 1 + 9 + 3 * sN N) l m n A Y ∧ itC V t l m n A (klF N.2.2 k p).length lr ∧ (∀ i, i < (klF N.2.2 k p).length → Y i = sq ((klF N.2.2 k p).getD i 0)) ∧ ∀ i, i < sN N - p → Y ((klF N.2.2 k p).length + i) = sq (p + i)) (fun p => sN N - p) ?_ F 0 _ ⟨by omega, h3, A, Y, m, sN N, none, by show sN N = 0 + _; omega, ⟨h1.1.le (by omega) (by omega), h1.2⟩, h2, fun i hi => by exact absurd hi (Nat.not_lt_zero i), fun i hi => by show Y (0 + i) = sq (0 + i); rw [Nat.zero_add]; exact hY i (by omega)⟩ (by omega)
    rintro n0 p V ⟨hp, hVe, A, Y, m, n, lr, hn, hV, hit, hY1, hY2⟩ ih
    have kn := klF_len N.2.2 k p
    unfold C_X2_withoutEdge_83
    rw [C_hasNext hV.2.1 hit (by omega) (by omega)]
    refine Rt.let (Rt.ite (fun z => ?_) (fun z => ?_))
    · rw [i_c0] at z
      have z' := tr01_n z
      obtain rfl : p = sN N := by omega
      have en : n = (klF N.2.2 k (sN N)).length := by omega
      subst en
      exact third V A Y m hV hVe hY1
    rw [i_c0] at z
    have z' := tr01_y z
    obtain ⟨V1, r1, l1, t1, k1⟩ := C_next24 hV hw (by omega) hit z' (by omega)
    have hyp : Y (klF N.2.2 k p).length = sq p := by have := hY2 0 (by omega); rwa [Nat.add_zero, Nat.add_zero] at this
    have hps : p < sN N := by omega
    rw [r1, hyp]
    refine Rt.let ?_
    dsimp only
    have cq : V1.1 (sq p) = _ := cell5 (m := 0) l1.1 _ hps
    have E1 : V1.1 S.2.1 = EE := by rw [k1 _ (by omega)]; exact hVe
    have sr := stS _ hps
    have ks := klF_succ N.2.2 k p
    rw [gO_of cq, gI_of (k := 0) cq rfl]
    refine Rt.let (Rt.let (Rt.ite (fun zz => ?_) (fun zz => ?_)))
    · rw [i_eq (by omega) (by omega) (by omega) (by omega)] at zz
      have zk : (N.2.2.getD p (0, 0, 0)).1 = k := by have : ((sd N p).1 : Int) = k := zz; exact_mod_cast this
      rw [if_pos zk, List.append_nil] at ks
      obtain ⟨V2, r2, l2, t2, k2⟩ := C_remove24 l1 hw (by omega) t1 z' (by omega)
      rw [r2]
      refine Rt.let (ih (p + 1) _ ⟨by omega, ?_, _, _, _, n - 1, none, by rw [ks]; omega, l2, by rw [ks]; exact t2, ?_, ?_⟩ (by omega))
      · rw [hge] at E1 ⊢; exact k2 _ _ (by omega) E1 trivial
      · rw [ks]
        intro i hi
        unfold er
        rw [if_pos hi]; exact hY1 i hi
      · rw [ks]
        intro i hi
        unfold er
        rw [if_neg (by omega)]
        have := hY2 (i + 1) (by omega)
        rw [show (klF N.2.2 k p).length + i + 1 = (klF N.2.2 k p).length + (i + 1) by omega, this, show p + (i + 1) = p + 1 + i by omega]
    · rw [i_eq (by omega) (by omega) (by omega) (by omega)] at zz
      have zk : ¬ (N.2.2.getD p (0, 0, 0)).1 = k := fun e => zz (by have : (sd N p).1 = k := e; exact_mod_cast this)
      rw [if_neg zk] at ks
      have kl1 : (klF N.2.2 k (p + 1)).length = (klF N.2.2 k p).length + 1 := by rw [ks, List.length_append]; rfl
      refine ih (p + 1) _ ⟨by omega, E1, A, Y, m, n, _, by omega, l1, by rw [kl1]; exact t1, ?_, ?_⟩ (by omega)
      · rw [kl1, ks]
        intro i hi
        rw [getD_app]
        by_cases ci : i < (klF N.2.2 k p).length
        · rw [if_pos ci]; exact hY1 i ci
        · rw [if_neg ci, if_pos (by omega), show i = (klF N.2.2 k p).length by omega]; exact hyp
      · rw [kl1]
        intro i hi
        have := hY2 (i + 1) (by omega)
        rw [show (klF N.2.2 k p).length + 1 + i = (klF N.2.2 k p).length + (i + 1) by omega, this, show p + (i + 1) = p + 1 + i by omega]
  -- all are put in
  show Rt (C_X2_withoutEdge_49 F x (i32 k) S.2.1 l F (i32 0) S2) _
  refine Rt.loop (ι := Nat) (fun i v V => v = i32 i ∧ i ≤ sN N ∧ V.1 S.2.1 = EE ∧ ∃ (A Y : Nat → Nat) (m : Int32), lsT S V (2 + i) (eN N - 1 + 4 + 3 * i) l m i A Y ∧ ∀ j, j < i → Y j = sq j) (fun i => sN N - i) ?_ F 0 _ _ ⟨rfl, by omega, hE, _, _, _, hL, fun j hj => by omega⟩ (by omega)
  rintro n i _ V ⟨rfl, hi, hVe, A, Y, m, hV, hY⟩ ih
  unfold C_X2_withoutEdge_49
  rw [gA_of (k := 3) (hV.1.get a2) rfl]
  refine Rt.let ?_
  rw [aN_of (hV.1.get e2)]
  refine Rt.let (Rt.ite (fun z => ?_) (fun z => ?_))
  · rw [i_le (by show (-2147483648 : Int) ≤ (sN N : Int); omega) (by show ((sN N : Nat) : Int) < 2147483648; omega) (by omega) (by omega)] at z
    have z' : (sN N : Int) ≤ i := z
    obtain rfl : i = sN N := by omega
    exact second V A Y m hV hVe hY
  rw [i_le (by show (-2147483648 : Int) ≤ (sN N : Int); omega) (by show ((sN N : Nat) : Int) < 2147483648; omega) (by omega) (by omega)] at z
  have z' : ¬ (sN N : Int) ≤ i := z
  refine Rt.let ?_
  rw [lA_of (hV.1.get e2) (by omega) (by omega) (by omega) (by rw [Int.toNat_natCast]; exact (e3 i (by omega)).1)]
  refine Rt.let ?_
  obtain ⟨V1, r1, k1, l1⟩ := hV.add (y := sq i) hw
  rw [r1]
  refine Rt.let ?_
  rw [i_c1, i_add]
  refine Rt.let (ih (i + 1) _ _ ⟨rfl, by omega, ?_, _, _, _, l1, fun j hj => ?_⟩ (by omega))
  · rw [hge] at hVe ⊢; exact k1 _ _ hVe trivial
  · by_cases cj : j = i
    · rw [cj, upF_me]
    · rw [upF_ne cj]; exact hY j (by omega)
end LW
