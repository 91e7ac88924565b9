/-! NETWORKS THAT CHANGE; the abstract state -/
noncomputable def ifc {α : Type} (c : Prop) (a b : α) : α := @ite α c (Classical.propDecidable c) a b
theorem ifc_pos {α : Type} {c : Prop} {a b : α} (h : c) : ifc c a b = a := if_pos h
theorem ifc_neg {α : Type} {c : Prop} {a b : α} (h : ¬ c) : ifc c a b = b := if_neg h
def nReset (n : Nat) : Net := (List.replicate n (1, 0), [], [])
def nCon (N : Net) (a b : Nat) (l : Int) : Net := (N.1, N.2.1 ++ [(a, b, l)], N.2.2)
def nWei (N : Net) (i : Nat) (v : Int) : Net := (N.1.set i (v, tN N i), N.2)
def nTre (N : Net) (i : Nat) (v : Int) : Net := (N.1.set i (wN N i, v), N.2)
def nFor (N : Net) (e : Nat) (a b : Int) : Net := (N.1, N.2.1, N.2.2 ++ [(e, a, b)])
def nAll (N : Net) (k : Nat) : Net := (N.1, N.2.1, N.2.2.eraseIdx k)
/-- the stretches that are left when an edge goes -/
def stD (e : Nat) (l : List (Nat × Int × Int)) : List (Nat × Int × Int) := (l.filter (fun s => s.1 != e)).map (fun s => if e < s.1 then (s.1 - 1, s.2) else s)
def nDis (N : Net) (e : Nat) : Net := (N.1, N.2.1.eraseIdx e, stD e N.2.2)
def joinN (N : Net) (a b : Int) : Prop := ∃ e, e < eN N ∧ (((ed N e).1 : Int) = a ∧ ((ed N e).2.1 : Int) = b ∨ ((ed N e).1 : Int) = b ∧ ((ed N e).2.1 : Int) = a)
theorem getD_set {α : Type} {l : List α} {i j : Nat} {v d : α} (h : i < l.length) : (l.set i v).getD j d = if j = i then v else l.getD j d := by
  rw [List.getD_eq_getElem?_getD, List.getD_eq_getElem?_getD, List.getElem?_set]
  by_cases e : i = j
  · subst e; simp [h]
  · rw [if_neg e, if_neg (fun z => e z.symm)]
theorem getD_app {α : Type} {l : List α} {j : Nat} {v d : α} : (l ++ [v]).getD j d = if j < l.length then l.getD j d else if j = l.length then v else d := by
  by_cases h : j < l.length
  · rw [if_pos h, getD_left h]
  · rw [if_neg h]
    by_cases e : j = l.length
    · rw [if_pos e, e, getD_last]
    · rw [if_neg e, List.getD_eq_getElem?_getD, List.getElem?_eq_none (by simp; omega)]; rfl
theorem getD_era {α : Type} {l : List α} {k j : Nat} {d : α} : (l.eraseIdx k).getD j d = if j < k then l.getD j d else l.getD (j + 1) d := by
  rw [List.getD_eq_getElem?_getD, List.getElem?_eraseIdx]
  split <;> rw [List.getD_eq_getElem?_getD]
section NT
variable {N : Net}
theorem nReset_n (n : Nat) : nN (nReset n) = n := List.length_replicate
theorem nReset_w {n i : Nat} (h : i < n) : wN (nReset n) i = 1 ∧ tN (nReset n) i = 0 := by
  unfold wN tN nReset
  simp only [List.getD_eq_getElem?_getD, List.getElem?_replicate, if_pos h]
  exact ⟨rfl, rfl⟩
theorem nReset_ok {n : Nat} (h : 1 ≤ n) (h8 : n ≤ 8) : okN (nReset n) := by
  refine ⟨by rw [nReset_n]; exact h, by rw [nReset_n]; exact h8, fun i hi => ?_, show (0 : Nat) ≤ 12 by decide, fun e he => ?_, show (0 : Nat) ≤ 6 by decide, fun k hk => ?_⟩
  · rw [nReset_n] at hi
    rw [(nReset_w hi).1, (nReset_w hi).2]; decide
  · exact absurd he (Nat.not_lt_zero e)
  · exact absurd hk (Nat.not_lt_zero k)
theorem nCon_e {a b : Nat} {l : Int} : eN (nCon N a b l) = eN N + 1 := by unfold eN nCon; simp
theorem nCon_ed {a b : Nat} {l : Int} {e : Nat} : ed (nCon N a b l) e = if e < eN N then ed N e else if e = eN N then (a, b, l) else (0, 0, 0) := getD_app
theorem nCon_ok {a b : Nat} {l : Int} (h : okN N) (ha : a < nN N) (hb : b < nN N) (hab : a ≠ b) (hl : 1 ≤ l) (hl2 : l ≤ 50) (h12 : eN N < 12) : okN (nCon N a b l) := by
  obtain ⟨h1, h2, h3, h4, h5, h6, h7⟩ := h
  refine ⟨h1, h2, h3, by rw [nCon_e]; omega, fun e he => ?_, h6, fun k hk => ?_⟩
  · rw [nCon_e] at he
    rw [nCon_ed]
    by_cases hh : e < eN N
    · rw [if_pos hh]; exact h5 e hh
    · rw [if_neg hh, if_pos (by omega)]; exact ⟨ha, hb, hab, hl, hl2⟩
  · obtain ⟨q1, q2, q3, q4⟩ := h7 k hk
    have e1 : sd (nCon N a b l) k = sd N k := rfl
    rw [e1, nCon_e, nCon_ed, if_pos q1]
    exact ⟨by omega, q2, q3, q4⟩
theorem nFor_s {e : Nat} {a b : Int} : sN (nFor N e a b) = sN N + 1 := by unfold sN nFor; simp
theorem nFor_sd {e : Nat} {a b : Int} {k : Nat} : sd (nFor N e a b) k = if k < sN N then sd N k else if k = sN N then (e, a, b) else (0, 0, 0) := getD_app
theorem nFor_ok {e : Nat} {a b : Int} (h : okN N) (he : e < eN N) (ha : 0 ≤ a) (hab : a < b) (hb : b ≤ (ed N e).2.2) (h6 : sN N < 6) : okN (nFor N e a b) := by
  obtain ⟨h1, h2, h3, h4, h5, h6', h7⟩ := h
  refine ⟨h1, h2, h3, h4, h5, by rw [nFor_s]; omega, fun k hk => ?_⟩
  rw [nFor_s] at hk
  rw [nFor_sd]
  by_cases hh : k < sN N
  · rw [if_pos hh]; exact h7 k hh
  · rw [if_neg hh, if_pos (by omega)]; exact ⟨he, ha, hab, hb⟩
theorem nAll_s {k : Nat} (hk : k < sN N) : sN (nAll N k) = sN N - 1 := by unfold sN nAll; rw [List.length_eraseIdx]; unfold sN at hk; rw [if_pos hk]
theorem nAll_sd {k j : Nat} : sd (nAll N k) j = if j < k then sd N j else sd N (j + 1) := getD_era
theorem nAll_ok {k : Nat} (h : okN N) (hk : k < sN N) : okN (nAll N k) := by
  obtain ⟨h1, h2, h3, h4, h5, h6, h7⟩ := h
  have e := nAll_s hk
  refine ⟨h1, h2, h3, h4, h5, by omega, fun j hj => ?_⟩
  rw [nAll_sd]
  split
  · exact h7 j (by omega)
  · exact h7 (j + 1) (by omega)
theorem nWei_n {i : Nat} {v : Int} : nN (nWei N i v) = nN N := List.length_set
theorem nWei_w {i j : Nat} {v : Int} (hi : i < nN N) : wN (nWei N i v) j = (if j = i then v else wN N j) ∧ tN (nWei N i v) j = tN N j := by
  unfold wN tN nWei
  simp only
  rw [getD_set hi]
  by_cases e : j = i
  · rw [if_pos e, if_pos e, e]; exact ⟨rfl, rfl⟩
  · rw [if_neg e, if_neg e]; exact ⟨rfl, rfl⟩
theorem nTre_n {i : Nat} {v : Int} : nN (nTre N i v) = nN N := List.length_set
theorem nTre_w {i j : Nat} {v : Int} (hi : i < nN N) : wN (nTre N i v) j = wN N j ∧ tN (nTre N i v) j = (if j = i then v else tN N j) := by
  unfold wN tN nTre
  simp only
  rw [getD_set hi]
  by_cases e : j = i
  · rw [if_pos e, if_pos e, e]; exact ⟨rfl, rfl⟩
  · rw [if_neg e, if_neg e]; exact ⟨rfl, rfl⟩
theorem nWei_ok {i : Nat} {v : Int} (h : okN N) (hi : i < nN N) (h0 : 0 ≤ v) (h9 : v ≤ 9) : okN (nWei N i v) := by
  obtain ⟨h1, h2, h3, h4⟩ := h
  refine ⟨by rw [nWei_n]; exact h1, by rw [nWei_n]; exact h2, fun j hj => ?_, ?_⟩
  · rw [nWei_n] at hj
    rw [(nWei_w hi).1, (nWei_w hi).2]
    have := h3 j hj
    split <;> omega
  · rw [nWei_n]; exact h4
theorem nTre_ok {i : Nat} {v : Int} (h : okN N) (hi : i < nN N) (h0 : 0 ≤ v) (h9 : v ≤ 9) : okN (nTre N i v) := by
  obtain ⟨h1, h2, h3, h4⟩ := h
  refine ⟨by rw [nTre_n]; exact h1, by rw [nTre_n]; exact h2, fun j hj => ?_, ?_⟩
  · rw [nTre_n] at hj
    rw [(nTre_w hi).1, (nTre_w hi).2]
    have := h3 j hj
    split <;> omega
  · rw [nTre_n]; exact h4
theorem nDis_e {e : Nat} (he : e < eN N) : eN (nDis N e) = eN N - 1 := by unfold eN nDis; rw [List.length_eraseIdx]; unfold eN at he; rw [if_pos he]
theorem nDis_ed {e j : Nat} : ed (nDis N e) j = if j < e then ed N j else ed N (j + 1) := getD_era
theorem stD_len (e : Nat) (l : List (Nat × Int × Int)) : (stD e l).length ≤ l.length := by
  unfold stD; rw [List.length_map]; exact List.length_filter_le _ _
theorem nDis_s {e : Nat} : sN (nDis N e) ≤ sN N := stD_len e N.2.2
theorem stD_mem {e : Nat} {l : List (Nat × Int × Int)} {t : Nat × Int × Int} (h : t ∈ stD e l) : ∃ s ∈ l, s.1 ≠ e ∧ t.2 = s.2 ∧ t.1 = (if e < s.1 then s.1 - 1 else s.1) := by
  obtain ⟨s, hs, rfl⟩ := List.mem_map.mp h
  obtain ⟨h1, h2⟩ := List.mem_filter.mp hs
  refine ⟨s, h1, by simpa using h2, ?_⟩
  by_cases h3 : e < s.1
  · rw [if_pos h3, if_pos h3]; exact ⟨rfl, rfl⟩
  · rw [if_neg h3, if_neg h3]; exact ⟨rfl, rfl⟩
theorem nDis_ok {e : Nat} (h : okN N) (he : e < eN N) : okN (nDis N e) := by
  obtain ⟨h1, h2, h3, h4, h5, h6, h7⟩ := h
  have ee := nDis_e he
  have es := nDis_s (N := N) (e := e)
  refine ⟨h1, h2, h3, by omega, fun j hj => ?_, by omega, fun k hk => ?_⟩
  · rw [nDis_ed]; split
    · exact h5 j (by omega)
    · exact h5 (j + 1) (by omega)
  · have hk' : k < (stD e N.2.2).length := hk
    have e1 : sd (nDis N e) k = (stD e N.2.2)[k]'hk' := getD_at hk'
    have hm := List.getElem_mem hk'
    rw [e1]
    generalize (stD e N.2.2)[k]'hk' = t at hm
    obtain ⟨s, hs, q1, q2, q3⟩ := stD_mem hm
    obtain ⟨j, hj, rfl⟩ := List.mem_iff_getElem.mp hs
    have e2 : sd N j = N.2.2[j] := getD_at hj
    obtain ⟨p1, p2, p3, p4⟩ := h7 j hj
    rw [e2] at p1 p2 p3 p4
    rw [nDis_ed, ee, q2, q3]
    refine ⟨?_, p2, p3, ?_⟩
    · split <;> omega
    · by_cases h3 : e < N.2.2[j].1
      · rw [if_pos h3, if_neg (by omega), show N.2.2[j].1 - 1 + 1 = N.2.2[j].1 by omega]; exact p4
      · rw [if_neg h3, if_pos (by omega)]; exact p4
end NT
/-- the network, those saved (the oldest first), the text -/
abbrev Ab : Type := Net × List Net × List Int
def okA (A : Ab) : Prop := okN A.1 ∧ A.2.1.length ≤ 6 ∧ (∀ M ∈ A.2.1, okN M) ∧ A.2.2.length ≤ 120 ∧ ∀ c ∈ A.2.2, 32 ≤ c ∧ c ≤ 126
def sv (P : List Net) (N : Net) : List Net := (if P.length = 6 then P.drop 1 else P) ++ [N]
def push (A : Ab) (N : Net) : Ab := (N, sv A.2.1 A.1, A.2.2)
theorem sv_len {P : List Net} {N : Net} (h : P.length ≤ 6) : (sv P N).length ≤ 6 ∧ (sv P N).length = (if P.length = 6 then 6 else P.length + 1) := by
  unfold sv
  by_cases h6 : P.length = 6
  · rw [if_pos h6, if_pos h6]; simp; omega
  · rw [if_neg h6, if_neg h6]; simp; omega
theorem sv_ok {P : List Net} {N : Net} (h : ∀ M ∈ P, okN M) (hN : okN N) : ∀ M ∈ sv P N, okN M := by
  intro M hM
  unfold sv at hM
  rcases List.mem_append.mp hM with h1 | h1
  · split at h1
    · exact h M (List.mem_of_mem_drop h1)
    · exact h M h1
  · rw [List.mem_singleton.mp h1]; exact hN
theorem push_ok {A : Ab} {N : Net} (h : okA A) (hN : okN N) : okA (push A N) := ⟨hN, (sv_len h.2.1).1, sv_ok h.2.2.1 h.1, h.2.2.2⟩
/-- what a call does: the exception's number (0: none), the answer, the state -/
abbrev Res : Type := Nat × Int × Ab
