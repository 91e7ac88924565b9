/-! WHERE THE MODEL's LINES CROSS -/
def nrm (p q : Int) : Fq := if 0 ≤ q then (p, q) else (-p, -q)
theorem crs_nrm {l m : Fq} (h : l.1 ≠ m.1) : crs l m = nrm (m.2 - l.2) (l.1 - m.1) := by
  unfold crs nrm
  by_cases hp : 0 < l.1 - m.1
  · rw [if_pos hp, if_pos (by omega)]
  · rw [if_neg hp, if_neg (by omega)]
/-- the lines of the nodes along an edge -/
def Lw (N : Net) (w : Nat → Int) (e : Nat) : Lns := fun i => ((w i, w i * dN N i (ed N e).1), (-w i, w i * (dN N i (ed N e).2.1 + (ed N e).2.2)))
/-- the listed crossings -/
def crl (σ : MS) (cs : List Fq) : Prop := mI σ 3 = i32 cs.length ∧ ∀ k, k < cs.length → mB σ 0 k = j64 (cs.getD k (0, 1)).1 ∧ mB σ 1 k = j64 (cs.getD k (0, 1)).2
/-- the list grows -/
def grw (len : Int) (x : Fq) (cs ds : List Fq) : Prop := (inE len x ∧ ds = cs ++ [x]) ∨ (¬ inE len x ∧ ds = cs)
theorem grw.has {len : Int} {x : Fq} {cs ds : List Fq} (h : grw len x cs ds) (hx : inE len x) : hasF ds x := by
  rcases h with ⟨-, rfl⟩ | ⟨h, -⟩
  · exact ⟨x, by simp, feq_refl x⟩
  · exact absurd hx h
theorem grw.keep {len : Int} {x : Fq} {cs ds : List Fq} (h : grw len x cs ds) {y : Fq} (hy : hasF cs y) : hasF ds y := by
  obtain ⟨c, hc, e⟩ := hy
  rcases h with ⟨-, rfl⟩ | ⟨-, rfl⟩
  · exact ⟨c, List.mem_append_left _ hc, e⟩
  · exact ⟨c, hc, e⟩
theorem grw.len {len : Int} {x : Fq} {cs ds : List Fq} (h : grw len x cs ds) : ds.length ≤ cs.length + 1 := by
  rcases h with ⟨-, rfl⟩ | ⟨-, rfl⟩
  · simp
  · omega
/-- all places lie on the edge, with small denominators -/
def smC (len : Int) (cs : List Fq) : Prop := ∀ c ∈ cs, inE len c ∧ c.2 ≤ 198
theorem grw.sm {len : Int} {x : Fq} {cs ds : List Fq} (h : grw len x cs ds) (hx : x.2 ≤ 198) (hc : smC len cs) : smC len ds := by
  rcases h with ⟨h1, rfl⟩ | ⟨-, rfl⟩
  · intro c hc'
    rcases List.mem_append.mp hc' with h | h
    · exact hc c h
    · rw [List.mem_singleton.mp h]; exact ⟨h1, hx⟩
  · exact hc
theorem getD_left {α : Type} {a b : List α} {k : Nat} {x : α} (h : k < a.length) : (a ++ b).getD k x = a.getD k x := by
  rw [List.getD_eq_getElem?_getD, List.getD_eq_getElem?_getD, List.getElem?_append_left h]
theorem getD_last {α : Type} {a : List α} {x y : α} : (a ++ [y]).getD a.length x = y := by
  rw [List.getD_eq_getElem?_getD, List.getElem?_append_right (Nat.le_refl _)]; simp
theorem getD_at {α : Type} {a : List α} {k : Nat} {x : α} (h : k < a.length) : a.getD k x = a[k] := by
  rw [List.getD_eq_getElem?_getD, List.getElem?_eq_getElem h]; rfl
theorem bt_zero {s k : Nat} : (i32 (bt s k) = i32 0) = ¬ (s.testBit k = true) := by
  unfold bt
  by_cases h : s.testBit k = true
  · rw [if_pos h]; simp [h, i32]
  · rw [if_neg h]; simp [h]
theorem t20 : ((2 : Int) = 0) = False := by simp
section MC
variable {σ : MS} {N : Net} {F : Nat} {w : Nat → Int}
theorem M_crosses_eq {e : Nat} {p q : Int} {cs : List Fq} (hN : mN σ N) (he : e < eN N) (hp : -100000000000 ≤ p) (hp2 : p ≤ 100000000000) (hq : -1000 ≤ q) (hq2 : q ≤ 1000) (hc : crl σ cs) (hl : cs.length < 160) :
    ∃ τ ds, M_crosses σ (i32 e) (j64 p) (j64 q) = some τ ∧ kp [3] [] [] [0, 1] σ τ ∧ crl τ ds ∧ grw (ed N e).2.2 (nrm p q) cs ds := by
  obtain ⟨a1, a2, a3, a4, a5⟩ := hN.2.2.2.2.2.1 e he
  have go : ∀ s : Int, (s = 1 ∨ s = -1) → 0 ≤ s * q → ∃ τ ds, M_crosses_14 (i32 e) (j64 p) (j64 q) (j64 s) σ = some τ ∧ kp [3] [] [] [0, 1] σ τ ∧ crl τ ds ∧ grw (ed N e).2.2 (s * p, s * q) cs ds := by
    intro s hs hsq
    have sp : s * p = p ∨ s * p = -p := by rcases hs with rfl | rfl <;> omega
    have sq : s * q = q ∨ s * q = -q := by rcases hs with rfl | rfl <;> omega
    have m := mul_rng (a := s * q) (b := (ed N e).2.2) (A := 1000) (B := 50) hsq (by omega) (by omega) a5
    unfold M_crosses_14
    rw [i_c2, M_of_2 hN he]
    simp (disch := omega) only [Option.bind_eq_bind, Option.bind_some, j_c0, j_c1, j_c2, j_add, j_sub, j_mul, j_neg, j_le, j_lt, j_eq, i_long]
    by_cases h1 : q = 0
    · rw [if_pos h1]
      exact ⟨σ, cs, rfl, kp.rf, hc, Or.inr ⟨fun z => by have := z.1; simp only at this; omega, rfl⟩⟩
    rw [if_neg h1]
    by_cases h2 : s * p < 0
    · rw [if_pos h2]
      exact ⟨σ, cs, rfl, kp.rf, hc, Or.inr ⟨fun z => by have := z.2.1; simp only at this; omega, rfl⟩⟩
    rw [if_neg h2]
    by_cases h3 : s * q * (ed N e).2.2 < s * p
    · rw [if_pos h3]
      exact ⟨σ, cs, rfl, kp.rf, hc, Or.inr ⟨fun z => by have := z.2.2; simp only at this; rw [Int.mul_comm (ed N e).2.2] at this; omega, rfl⟩⟩
    rw [if_neg h3, hc.1]
    simp (disch := omega) only [stB_i, Option.bind_eq_bind, Option.bind_some, mI_sB, hc.1, Int.toNat_natCast, mB_sB, if_neg (show (1 : Nat) ≠ 0 by decide), i_c0, i_c1, i_c2, i_c3, i_c4, i_c5, i_c6, i_c8, i_c9, i_c10, i_c12, i_c16, i_c17, i_c18, i_c31, i_c32, i_c45, i_c48, i_c50, i_c54, i_c55, i_c57, i_c58, i_c59, i_c61, i_c64, i_c73, i_c118, i_c119, i_c120, i_c126, i_c365, i_c1000, i_cFAR, i_add, i_sub, i_mul, i_neg]
    refine ⟨_, cs ++ [(s * p, s * q)], rfl, kp.tr (kp.tr kp.sB kp.sB) kp.sI, ⟨?_, ?_⟩, Or.inl ⟨⟨by simp only; omega, by simp only; omega, by simp only; rw [Int.mul_comm (ed N e).2.2]; omega⟩, rfl⟩⟩
    · simp only [mI_sI, if_true, List.length_append, List.length_singleton]; congr 1
    · intro k hk
      simp only [List.length_append, List.length_singleton] at hk
      simp only [mB_sI, mB_sB, if_true, updL_at, if_neg (show (0 : Nat) ≠ 1 by decide)]
      by_cases e1 : k = cs.length
      · rw [if_pos e1, if_pos e1, e1, getD_last]; exact ⟨rfl, rfl⟩
      · rw [if_neg e1, if_neg e1, getD_left (by omega)]
        exact hc.2 k (by omega)
  unfold M_crosses nrm
  simp (disch := omega) only [j_c0, j_c1, j_c2, j_add, j_sub, j_mul, j_neg, j_le, j_lt, j_eq]
  by_cases h : 0 ≤ q
  · rw [if_pos h, if_pos h]
    have := go 1 (Or.inl rfl) (by omega)
    rw [Int.one_mul, Int.one_mul] at this
    exact this
  · rw [if_neg h, if_neg h]
    have := go (-1) (Or.inr rfl) (by omega)
    rw [show -1 * p = -p by omega, show -1 * q = -q by omega] at this
    exact this
/-- a node's line by its kind -/
def lk (L : Lns) (i : Nat) (k : Int) : Fq := if k = 0 then (L i).1 else (L i).2
theorem M_line_eq {i e : Nat} {k : Int} (hN : mN σ N) (hf : far (nN N) (mA σ 4) (dN N)) (hw : wts (nN N) (mA σ 5) w) (hw9 : okw9 (nN N) w) (hi : i < nN N) (he : e < eN N) (hk : 0 ≤ k) (hk2 : k ≤ 1) :
    M_line σ (i32 i) (i32 e) (i32 k) (i32 0) = some (j64 (lk (Lw N w e) i k).2) ∧ M_line σ (i32 i) (i32 e) (i32 k) (i32 1) = some (j64 (lk (Lw N w e) i k).1) := by
  have h8 := hN.2.2.1
  obtain ⟨a1, a2, a3, a4, a5⟩ := hN.2.2.2.2.2.1 e he
  have hI := okN_D hN.2
  have b1 := hI.2.1 i (ed N e).1
  have b2 := hI.2.2.2 i (ed N e).1
  have c1 := hI.2.1 i (ed N e).2.1
  have c2 := hI.2.2.2 i (ed N e).2.1
  have g1 := far_mid hf hi a1
  have g2 := far_mid hf hi a2
  have w9 := hw9 i hi
  have hw' := hw i hi
  unfold M_line lk Lw
  constructor
  · simp only [i_c0, i_c1, i_c2, i_c3, i_c4, i_c5, i_c6, i_c8, i_c9, i_c10, i_c12, i_c16, i_c17, i_c18, i_c31, i_c32, i_c45, i_c48, i_c50, i_c54, i_c55, i_c57, i_c58, i_c59, i_c61, i_c64, i_c73, i_c118, i_c119, i_c120, i_c126, i_c365, i_c1000, i_cFAR]
    rw [M_of_0 hN he, M_of_1 hN he, M_of_2 hN he]
    simp (disch := omega) only [Option.bind_eq_bind, Option.bind_some, i_le, i_lt, i_eq, rdI_i, Int.toNat_natCast, hw', i_add, i_sub, i_mul, i_neg, g1, g2, i_long, j_add, j_sub, j_mul, j_neg]
    rw [if_pos True.intro]
    by_cases h : k = 0
    · rw [if_pos h, if_pos h]
    · rw [if_neg h, if_neg h]
  · simp only [i_c0, i_c1, i_c2, i_c3, i_c4, i_c5, i_c6, i_c8, i_c9, i_c10, i_c12, i_c16, i_c17, i_c18, i_c31, i_c32, i_c45, i_c48, i_c50, i_c54, i_c55, i_c57, i_c58, i_c59, i_c61, i_c64, i_c73, i_c118, i_c119, i_c120, i_c126, i_c365, i_c1000, i_cFAR]
    rw [M_of_0 hN he, M_of_1 hN he, M_of_2 hN he]
    simp (disch := omega) only [Option.bind_eq_bind, Option.bind_some, i_le, i_lt, i_eq, rdI_i, Int.toNat_natCast, hw', i_add, i_sub, i_mul, i_neg, g1, g2, i_long, j_add, j_sub, j_mul, j_neg]
    rw [if_neg (by omega)]
    by_cases h : k = 0
    · rw [if_pos h, if_pos h]
    · rw [if_neg h, if_neg h]
/-- the crossings of nodes i and j, for the first k pairs of lines -/
def pairs (N : Net) (w : Nat → Int) (e i j : Nat) (k : Nat) (cs : List Fq) : Prop := ∀ a b : Int, 0 ≤ a → a ≤ 1 → 0 ≤ b → b ≤ 1 → 2 * b + a < k →
  (lk (Lw N w e) i a).1 ≠ (lk (Lw N w e) j b).1 → inE (ed N e).2.2 (crs (lk (Lw N w e) i a) (lk (Lw N w e) j b)) → hasF cs (crs (lk (Lw N w e) i a) (lk (Lw N w e) j b))
def bits (N : Net) (s : Nat) (i : Nat) : Prop := i < nN N ∧ s.testBit i = true
/-- what goes on unchanged while the crossings are laid -/
def lcI (N : Net) (w : Nat → Int) (σ : MS) : Prop := mN σ N ∧ far (nN N) (mA σ 4) (dN N) ∧ wts (nN N) (mA σ 5) w
theorem lcI.kp {iS lS aS bS : List Nat} {τ : MS} (h : lcI N w σ) (hk : kp iS lS aS bS σ τ) (h0 : 0 ∉ aS := by decide) (h4 : 4 ∉ aS := by decide) (h5 : 5 ∉ aS := by decide) : lcI N w τ :=
  ⟨h.1.kp hk h0, by rw [hk.2.2.1 4 h4]; exact h.2.1, by rw [hk.2.2.1 5 h5]; exact h.2.2⟩
/-- cs grows to ds, by at most c places -/
def grows (len : Int) (c : Nat) (cs ds : List Fq) : Prop := (∀ y, hasF cs y → hasF ds y) ∧ ds.length ≤ cs.length + c ∧ (smC len cs → smC len ds)
theorem grows.rf {len : Int} {c : Nat} {cs : List Fq} : grows len c cs cs := ⟨fun _ h => h, by omega, fun h => h⟩
theorem grows.tr {len : Int} {c d m : Nat} {cs ds es : List Fq} (h : grows len c cs ds) (h2 : grows len d ds es) (hm : c + d ≤ m) : grows len m cs es := ⟨fun y hy => h2.1 y (h.1 y hy), by have := h.2.1; have := h2.2.1; omega, fun z => h2.2.2 (h.2.2 z)⟩
theorem grw.grows {len : Int} {x : Fq} {cs ds : List Fq} (h : grw len x cs ds) (hx : x.2 ≤ 198) : grows len 1 cs ds := ⟨fun _ hy => h.keep hy, h.len, h.sm hx⟩
theorem Lw_rng {i e : Nat} {k : Int} (hN : okN N) (hw9 : okw9 (nN N) w) (hi : i < nN N) (he : e < eN N) : -99 ≤ (lk (Lw N w e) i k).1 ∧ (lk (Lw N w e) i k).1 ≤ 99 ∧ 0 ≤ (lk (Lw N w e) i k).2 ∧ (lk (Lw N w e) i k).2 ≤ 9904950 := by
  obtain ⟨a1, a2, a3, a4, a5⟩ := hN.2.2.2.2.1 e he
  have hI := okN_D hN
  have b1 := hI.2.1 i (ed N e).1
  have b2 := hI.2.2.2 i (ed N e).1
  have c1 := hI.2.1 i (ed N e).2.1
  have c2 := hI.2.2.2 i (ed N e).2.1
  have w9 := hw9 i hi
  have m1 := mul_rng (a := w i) (b := dN N i (ed N e).1) (A := 99) (B := 100000) w9.1 w9.2 b1 (by omega)
  have m2 := mul_rng (a := w i) (b := dN N i (ed N e).2.1 + (ed N e).2.2) (A := 99) (B := 100050) w9.1 w9.2 (by omega) (by omega)
  unfold lk Lw
  split <;> (simp only; omega)
theorem M_lc104_eq {k27 k95 : Int32 → MS → Option MS} {s e i j : Nat} (hw9 : okw9 (nN N) w) (hs : s < 256) (he : e < eN N) (hi : i < nN N) (hj : j < nN N) (d : Nat) : ∀ (k n : Nat) (σ : MS) (cs : List Fq), lcI N w σ → crl σ cs → k + d = 4 → d < n → cs.length + d < 160 → pairs N w e i j k cs →
    ∃ τ ds, M_laysCrossings_104 F k27 k95 (i32 s) (i32 e) (i32 i) (i32 j) n (i32 k) σ = M_laysCrossings_186 F k27 k95 (i32 s) (i32 e) (i32 i) (i32 j) τ ∧ kp [3] [] [] [0, 1] σ τ ∧ crl τ ds ∧ grows (ed N e).2.2 d cs ds ∧ (bits N s i → bits N s j → pairs N w e i j 4 ds) := by
  induction d with
  | zero =>
    intro k n σ cs hI hc hk hn hl hp
    obtain ⟨n, rfl⟩ : ∃ n', n = n' + 1 := ⟨n - 1, by omega⟩
    obtain rfl : k = 4 := by omega
    refine ⟨σ, cs, ?_, kp.rf, hc, grows.rf, fun _ _ => hp⟩
    unfold M_laysCrossings_104
    simp (disch := omega) only [i_c0, i_c1, i_c2, i_c3, i_c4, i_c5, i_c6, i_c8, i_c9, i_c10, i_c12, i_c16, i_c17, i_c18, i_c31, i_c32, i_c45, i_c48, i_c50, i_c54, i_c55, i_c57, i_c58, i_c59, i_c61, i_c64, i_c73, i_c118, i_c119, i_c120, i_c126, i_c365, i_c1000, i_cFAR, i_le, i_lt, i_eq]
    rw [if_pos (by omega)]
  | succ d ih =>
    intro k n σ cs hI hc hk hn hl hp
    obtain ⟨n, rfl⟩ : ∃ n', n = n' + 1 := ⟨n - 1, by omega⟩
    have h8 := hI.1.2.2.1
    have stop : ¬ (bits N s i ∧ bits N s j) → ∃ τ ds, M_laysCrossings_186 F k27 k95 (i32 s) (i32 e) (i32 i) (i32 j) σ = M_laysCrossings_186 F k27 k95 (i32 s) (i32 e) (i32 i) (i32 j) τ ∧ kp [3] [] [] [0, 1] σ τ ∧ crl τ ds ∧ grows (ed N e).2.2 (d + 1) cs ds ∧ (bits N s i → bits N s j → pairs N w e i j 4 ds) :=
      fun h => ⟨σ, cs, rfl, kp.rf, hc, grows.rf, fun a b => absurd ⟨a, b⟩ h⟩
    unfold M_laysCrossings_104
    rw [M_has_eq hs (by omega), M_has_eq hs (by omega)]
    simp (disch := omega) only [i_c0, i_c1, i_c2, i_c3, i_c4, i_c5, i_c6, i_c8, i_c9, i_c10, i_c12, i_c16, i_c17, i_c18, i_c31, i_c32, i_c45, i_c48, i_c50, i_c54, i_c55, i_c57, i_c58, i_c59, i_c61, i_c64, i_c73, i_c118, i_c119, i_c120, i_c126, i_c365, i_c1000, i_cFAR, bt_zero, i_le, i_lt, i_eq, Option.bind_eq_bind, Option.bind_some, i_div, i_add, i_sub, i_mul, i_neg, t20, if_false]
    rw [if_neg (by omega)]
    by_cases h1 : s.testBit i = true
    · rw [if_neg (fun z => z h1)]
      by_cases h2 : s.testBit j = true
      · rw [if_neg (fun z => z h2)]
        have l1 := M_line_eq (k := (k : Int) / 2) hI.1 hI.2.1 hI.2.2 hw9 hj he (by omega) (by omega)
        have l2 := M_line_eq (k := (k : Int) - (k : Int) / 2 * 2) hI.1 hI.2.1 hI.2.2 hw9 hi he (by omega) (by omega)
        have r1 := Lw_rng (k := (k : Int) / 2) hI.1.2 hw9 hj he
        have r2 := Lw_rng (k := (k : Int) - (k : Int) / 2 * 2) hI.1.2 hw9 hi he
        rw [l1.1, l1.2, l2.1, l2.2]
        simp only [Option.bind_eq_bind, Option.bind_some, j_add, j_sub, j_mul, j_neg]
        obtain ⟨τ, ds, c1, c2, c3, c4⟩ := M_crosses_eq (p := (lk (Lw N w e) j ((k : Int) / 2)).2 - (lk (Lw N w e) i ((k : Int) - (k : Int) / 2 * 2)).2) (q := (lk (Lw N w e) i ((k : Int) - (k : Int) / 2 * 2)).1 - (lk (Lw N w e) j ((k : Int) / 2)).1) hI.1 he (by omega) (by omega) (by omega) (by omega) hc (by omega)
        have gq : (nrm ((lk (Lw N w e) j ((k : Int) / 2)).2 - (lk (Lw N w e) i ((k : Int) - (k : Int) / 2 * 2)).2) ((lk (Lw N w e) i ((k : Int) - (k : Int) / 2 * 2)).1 - (lk (Lw N w e) j ((k : Int) / 2)).1)).2 ≤ 198 := by unfold nrm; split <;> (simp only; omega)
        rw [c1]
        simp only [Option.bind_eq_bind, Option.bind_some]
        obtain ⟨υ, es, d1, d2, d3, d4, d5⟩ := ih (k + 1) n τ ds (hI.kp c2) c3 (by omega) (by omega) (by have := c4.len; omega) (fun a b ha ha2 hb hb2 hab hne hin => by
          by_cases hlast : 2 * b + a < k
          · exact c4.keep (hp a b ha ha2 hb hb2 hlast hne hin)
          · have eb : b = (k : Int) / 2 := by omega
            have ea : a = (k : Int) - (k : Int) / 2 * 2 := by omega
            subst eb; subst ea
            rw [crs_nrm hne] at hin ⊢
            exact c4.has hin)
        refine ⟨υ, es, d1, kp.tr c2 d2, d3, grows.tr (c4.grows gq) d4 (by omega), d5⟩
      · rw [if_pos h2]; exact stop (fun z => h2 z.2.2)
    · rw [if_pos h1]; exact stop (fun z => h1 z.1.2)
theorem M_lc95_eq {k27 : Int32 → MS → Option MS} {s e i : Nat} (hF : 4 < F) (hw9 : okw9 (nN N) w) (hs : s < 256) (he : e < eN N) (hi : i < nN N) (d : Nat) : ∀ (j n : Nat) (σ : MS) (cs : List Fq), lcI N w σ → crl σ cs → j + d = i → d < n → cs.length + 4 * d < 160 → (∀ q, q < j → bits N s i → bits N s q → pairs N w e i q 4 cs) →
    ∃ τ ds, M_laysCrossings_95 F k27 (i32 s) (i32 e) (i32 i) n (i32 j) σ = M_laysCrossings_192 F k27 (i32 s) (i32 e) (i32 i) τ ∧ kp [3] [] [] [0, 1] σ τ ∧ crl τ ds ∧ grows (ed N e).2.2 (4 * d) cs ds ∧ (∀ q, q < i → bits N s i → bits N s q → pairs N w e i q 4 ds) := by
  induction d with
  | zero =>
    intro j n σ cs hI hc hk hn hl hp
    obtain ⟨n, rfl⟩ : ∃ n', n = n' + 1 := ⟨n - 1, by omega⟩
    have h8 := hI.1.2.2.1
    obtain rfl : j = i := by omega
    refine ⟨σ, cs, ?_, kp.rf, hc, grows.rf, hp⟩
    unfold M_laysCrossings_95
    simp (disch := omega) only [i_le, i_lt, i_eq]
    rw [if_pos (by omega)]
  | succ d ih =>
    intro j n σ cs hI hc hk hn hl hp
    obtain ⟨n, rfl⟩ : ∃ n', n = n' + 1 := ⟨n - 1, by omega⟩
    have h8 := hI.1.2.2.1
    obtain ⟨τ, ds, c1, c2, c3, c4, c5⟩ := M_lc104_eq (F := F) (k27 := k27) (k95 := M_laysCrossings_95 F k27 (i32 s) (i32 e) (i32 i) n) hw9 hs he hi (show j < nN N by omega) 4 0 F σ cs hI hc rfl hF (by omega) (fun a b ha _ hb _ hab => by omega)
    obtain ⟨υ, es, d1, d2, d3, d4, d5⟩ := ih (j + 1) n τ ds (hI.kp c2) c3 (by omega) (by omega) (by have := c4.2.1; omega) (fun q hq bi bq => by
      by_cases eq : q = j
      · subst eq; exact c5 bi bq
      · intro a b h1 h2 h3 h4 h5 h6 h7
        exact c4.1 _ (hp q (by omega) bi bq a b h1 h2 h3 h4 h5 h6 h7))
    refine ⟨υ, es, ?_, kp.tr c2 d2, d3, grows.tr c4 d4 (by omega), d5⟩
    unfold M_laysCrossings_95
    simp (disch := omega) only [i_le, i_lt, i_eq]
    rw [if_neg (by omega)]
    refine c1.trans ?_
    unfold M_laysCrossings_186
    simp only [i_c0, i_c1, i_c2, i_c3, i_c4, i_c5, i_c6, i_c8, i_c9, i_c10, i_c12, i_c16, i_c17, i_c18, i_c31, i_c32, i_c45, i_c48, i_c50, i_c54, i_c55, i_c57, i_c58, i_c59, i_c61, i_c64, i_c73, i_c118, i_c119, i_c120, i_c126, i_c365, i_c1000, i_cFAR, i_add, i_sub, i_mul, i_neg, Option.bind_eq_bind, Option.bind_some]
    exact d1
def cn : Nat → Nat
  | 0 => 0
  | i + 1 => cn i + 1 + 4 * i
theorem cn_le : ∀ i, i ≤ 8 → cn i ≤ 120 := by decide
/-- the own crossing of a node -/
def ownX (N : Net) (e i : Nat) : Fq := (dN N i (ed N e).2.1 + (ed N e).2.2 - dN N i (ed N e).1, 2)
theorem ownX_feq {e i : Nat} (hw : w i ≠ 0) (hw0 : 0 ≤ w i) : feq (ownX N e i) (crs (Lw N w e i).1 (Lw N w e i).2) := by
  unfold ownX Lw crs feq
  simp only
  rw [if_pos (by omega)]
  simp only
  grind
def nodes (N : Net) (w : Nat → Int) (s e k : Nat) (cs : List Fq) : Prop := ∀ i, i < k → bits N s i → (inE (ed N e).2.2 (ownX N e i) → hasF cs (ownX N e i)) ∧ ∀ q, q < i → bits N s q → pairs N w e i q 4 cs
theorem nodes.grow {s e k : Nat} {cs ds : List Fq} (h : nodes N w s e k cs) (g : ∀ y, hasF cs y → hasF ds y) : nodes N w s e k ds := by
  intro i hi hb
  obtain ⟨h1, h2⟩ := h i hi hb
  exact ⟨fun z => g _ (h1 z), fun q hq hbq a b p1 p2 p3 p4 p5 p6 p7 => g _ (h2 q hq hbq a b p1 p2 p3 p4 p5 p6 p7)⟩
theorem M_lc27_eq {s e : Nat} (hF : 8 < F) (hw9 : okw9 (nN N) w) (hs : s < 256) (he : e < eN N) (d : Nat) : ∀ (i n : Nat) (σ : MS) (cs : List Fq), lcI N w σ → crl σ cs → i + d = nN N → d < n → cs.length ≤ 2 + cn i → nodes N w s e i cs →
    ∃ τ ds, M_laysCrossings_27 F (i32 s) (i32 e) n (i32 i) σ = M_laysCrossings_198 F (i32 e) τ ∧ kp [3] [] [] [0, 1] σ τ ∧ crl τ ds ∧ ds.length ≤ 122 ∧ (∀ y, hasF cs y → hasF ds y) ∧ (smC (ed N e).2.2 cs → smC (ed N e).2.2 ds) ∧ nodes N w s e (nN N) ds := by
  induction d with
  | zero =>
    intro i n σ cs hI hc hk hn hl hp
    obtain ⟨n, rfl⟩ : ∃ n', n = n' + 1 := ⟨n - 1, by omega⟩
    have h8 := hI.1.2.2.1
    have hcn := cn_le i (by omega)
    obtain rfl : i = nN N := by omega
    refine ⟨σ, cs, ?_, kp.rf, hc, by omega, fun _ h => h, fun h => h, hp⟩
    unfold M_laysCrossings_27
    rw [M_many_eq hI.1]
    simp (disch := omega) only [i_le, i_lt, i_eq, Option.bind_eq_bind, Option.bind_some]
    rw [if_pos (by omega)]
  | succ d ih =>
    intro i n σ cs hI hc hk hn hl hp
    obtain ⟨n, rfl⟩ : ∃ n', n = n' + 1 := ⟨n - 1, by omega⟩
    have h8 := hI.1.2.2.1
    have hcn := cn_le (i + 1) (by omega)
    have ecn : cn (i + 1) = cn i + 1 + 4 * i := rfl
    obtain ⟨a1, a2, a3, a4, a5⟩ := hI.1.2.2.2.2.2.1 e he
    have hD := okN_D hI.1.2
    have b1 := hD.2.1 i (ed N e).1
    have b2 := hD.2.2.2 i (ed N e).1
    have e1 := hD.2.1 i (ed N e).2.1
    have e2 := hD.2.2.2 i (ed N e).2.1
    have g1 := far_mid hI.2.1 (show i < nN N by omega) a1
    have g2 := far_mid hI.2.1 (show i < nN N by omega) a2
    have rest : ∀ (τ : MS) (ds : List Fq), kp [3] [] [] [0, 1] σ τ → crl τ ds → grows (ed N e).2.2 1 cs ds → (bits N s i → inE (ed N e).2.2 (ownX N e i) → hasF ds (ownX N e i)) →
        ∃ υ es, M_laysCrossings_92 F (M_laysCrossings_27 F (i32 s) (i32 e) n) (i32 s) (i32 e) (i32 i) τ = M_laysCrossings_198 F (i32 e) υ ∧ kp [3] [] [] [0, 1] σ υ ∧ crl υ es ∧ es.length ≤ 122 ∧ (∀ y, hasF cs y → hasF es y) ∧ (smC (ed N e).2.2 cs → smC (ed N e).2.2 es) ∧ nodes N w s e (nN N) es := by
      intro τ ds t1 t2 t3 t4
      have hlen := t3.2.1
      obtain ⟨υ, es, d1, d2, d3, d4, d5⟩ := M_lc95_eq (F := F) (k27 := M_laysCrossings_27 F (i32 s) (i32 e) n) (by omega) hw9 hs he (show i < nN N by omega) i 0 F τ ds (hI.kp t1) t2 (by omega) (by omega) (by omega) (fun q hq => by omega)
      obtain ⟨φ, fs, f1, f2, f3, f4, f5, f6, f7⟩ := ih (i + 1) n υ es ((hI.kp t1).kp d2) d3 (by omega) (by omega) (by have := d4.2.1; omega) (fun q hq hb => by
        by_cases eq : q = i
        · subst eq; exact ⟨fun z => d4.1 _ (t4 hb z), fun r hr hbr => d5 r hr hb hbr⟩
        · exact (hp.grow (fun y hy => d4.1 y (t3.1 y hy))) q (by omega) hb)
      refine ⟨φ, fs, ?_, kp.tr t1 (kp.tr d2 f2), f3, f4, fun y hy => f5 y (d4.1 y (t3.1 y hy)), fun z => f6 (d4.2.2 (t3.2.2 z)), f7⟩
      unfold M_laysCrossings_92
      rw [i_c0]
      refine d1.trans ?_
      unfold M_laysCrossings_192
      simp only [i_c0, i_c1, i_c2, i_c3, i_c4, i_c5, i_c6, i_c8, i_c9, i_c10, i_c12, i_c16, i_c17, i_c18, i_c31, i_c32, i_c45, i_c48, i_c50, i_c54, i_c55, i_c57, i_c58, i_c59, i_c61, i_c64, i_c73, i_c118, i_c119, i_c120, i_c126, i_c365, i_c1000, i_cFAR, i_add, i_sub, i_mul, i_neg, Option.bind_eq_bind, Option.bind_some]
      exact f1
    unfold M_laysCrossings_27
    rw [M_many_eq hI.1, M_has_eq hs (by omega)]
    simp only [i_c0, i_c1, i_c2, i_c3, i_c4, i_c5, i_c6, i_c8, i_c9, i_c10, i_c12, i_c16, i_c17, i_c18, i_c31, i_c32, i_c45, i_c48, i_c50, i_c54, i_c55, i_c57, i_c58, i_c59, i_c61, i_c64, i_c73, i_c118, i_c119, i_c120, i_c126, i_c365, i_c1000, i_cFAR]
    rw [M_of_0 hI.1 he, M_of_1 hI.1 he, M_of_2 hI.1 he]
    simp (disch := omega) only [bt_zero, i_le, i_lt, i_eq, Option.bind_eq_bind, Option.bind_some, i_add, i_sub, i_mul, i_neg, rdI_i, g1, g2, i_long]
    rw [if_neg (by omega)]
    by_cases hb : s.testBit i = true
    · rw [if_neg (fun z => z hb), j_c2]
      obtain ⟨τ, ds, c1, c2, c3, c4⟩ := M_crosses_eq (p := dN N i (ed N e).2.1 + (ed N e).2.2 - dN N i (ed N e).1) (q := 2) hI.1 he (by omega) (by omega) (by omega) (by omega) hc (by omega)
      rw [c1]
      have en : nrm (dN N i (ed N e).2.1 + (ed N e).2.2 - dN N i (ed N e).1) 2 = ownX N e i := by unfold nrm ownX; rw [if_pos (by omega)]
      rw [en] at c4
      exact rest τ ds c2 c3 (c4.grows (by unfold ownX; simp only; omega)) (fun _ z => c4.has z)
    · rw [if_pos hb]
      exact rest σ cs kp.rf hc grows.rf (fun z => absurd z.2 hb)
theorem M_lc200_eq {e : Nat} (he : e < eN N) (d : Nat) : ∀ (k n : Nat) (σ : MS) (cs : List Fq), lcI N w σ → crl σ cs → k + d = sN N → d < n → cs.length + 2 * d < 160 → (∀ q, q < k → (sd N q).1 = e → hasF cs ((sd N q).2.1, 1) ∧ hasF cs ((sd N q).2.2, 1)) →
    ∃ τ ds, M_laysCrossings_200 F (i32 e) n (i32 k) σ = some τ ∧ kp [3] [] [] [0, 1] σ τ ∧ crl τ ds ∧ grows (ed N e).2.2 (2 * d) cs ds ∧ (∀ q, q < sN N → (sd N q).1 = e → hasF ds ((sd N q).2.1, 1) ∧ hasF ds ((sd N q).2.2, 1)) := by
  induction d with
  | zero =>
    intro k n σ cs hI hc hk hn hl hp
    obtain ⟨n, rfl⟩ : ∃ n', n = n' + 1 := ⟨n - 1, by omega⟩
    have h6 := hI.1.2.2.2.2.2.2.1
    obtain rfl : k = sN N := by omega
    refine ⟨σ, cs, ?_, kp.rf, hc, grows.rf, hp⟩
    unfold M_laysCrossings_200
    rw [M_stretchMany_eq hI.1]
    simp (disch := omega) only [i_le, i_lt, i_eq, Option.bind_eq_bind, Option.bind_some]
    rw [if_pos (by omega)]
  | succ d ih =>
    intro k n σ cs hI hc hk hn hl hp
    obtain ⟨n, rfl⟩ : ∃ n', n = n' + 1 := ⟨n - 1, by omega⟩
    have h6 := hI.1.2.2.2.2.2.2.1
    have h12 := hI.1.2.2.2.2.1
    have hks : k < sN N := by omega
    obtain ⟨a1, a2, a3, a4⟩ := hI.1.2.2.2.2.2.2.2 k hks
    obtain ⟨b1, b2, b3, b4, b5⟩ := hI.1.2.2.2.2.2.1 _ a1
    have n1 : ∀ z : Int, nrm z 1 = (z, 1) := fun z => by unfold nrm; rw [if_pos (by omega)]
    unfold M_laysCrossings_200
    rw [M_stretchMany_eq hI.1]
    simp only [i_c0, i_c1, i_c2, i_c3, i_c4, i_c5, i_c6, i_c8, i_c9, i_c10, i_c12, i_c16, i_c17, i_c18, i_c31, i_c32, i_c45, i_c48, i_c50, i_c54, i_c55, i_c57, i_c58, i_c59, i_c61, i_c64, i_c73, i_c118, i_c119, i_c120, i_c126, i_c365, i_c1000, i_cFAR]
    rw [M_at_0 hI.1 hks, M_at_1 hI.1 hks]
    simp (disch := omega) only [i_le, i_lt, i_eq, Option.bind_eq_bind, Option.bind_some, i_long, j_c0, j_c1, j_c2]
    rw [if_neg (by omega)]
    by_cases h1 : ((sd N k).1 : Int) = e
    · have h1' : (sd N k).1 = e := by omega
      rw [if_pos h1]
      obtain ⟨τ, ds, c1, c2, c3, c4⟩ := M_crosses_eq (p := (sd N k).2.1) (q := 1) hI.1 he (by omega) (by omega) (by omega) (by omega) hc (by omega)
      rw [n1] at c4
      rw [c1]
      simp only [Option.bind_eq_bind, Option.bind_some]
      have hI1 : lcI N w τ := hI.kp c2
      rw [M_at_2 hI1.1 hks]
      simp (disch := omega) only [Option.bind_eq_bind, Option.bind_some, i_long]
      obtain ⟨υ, es, d1, d2, d3, d4⟩ := M_crosses_eq (p := (sd N k).2.2) (q := 1) hI1.1 he (by omega) (by omega) (by omega) (by omega) c3 (by have := c4.len; omega)
      rw [n1] at d4
      rw [d1]
      have in1 : inE (ed N e).2.2 ((sd N k).2.1, 1) := ⟨by simp, a2, by simp only; rw [← h1']; omega⟩
      have in2 : inE (ed N e).2.2 ((sd N k).2.2, 1) := ⟨by simp, by simp only; omega, by simp only; rw [← h1']; omega⟩
      have q1 := c4.has in1
      have q2 := d4.has in2
      obtain ⟨φ, fs, f1, f2, f3, f4, f5⟩ := ih (k + 1) n υ es (hI1.kp d2) d3 (by omega) (by omega) (by have := c4.len; have := d4.len; omega) (fun q hq hqe => by
        by_cases eq : q = k
        · subst eq; exact ⟨d4.keep q1, q2⟩
        · have := hp q (by omega) hqe; exact ⟨d4.keep (c4.keep this.1), d4.keep (c4.keep this.2)⟩)
      refine ⟨φ, fs, ?_, kp.tr c2 (kp.tr d2 f2), f3, grows.tr (grows.tr (c4.grows (by simp)) (d4.grows (by simp)) (Nat.le_refl _)) f4 (by omega), f5⟩
      simp only [Option.bind_eq_bind, Option.bind_some]
      unfold M_laysCrossings_244
      simp only [i_c0, i_c1, i_c2, i_c3, i_c4, i_c5, i_c6, i_c8, i_c9, i_c10, i_c12, i_c16, i_c17, i_c18, i_c31, i_c32, i_c45, i_c48, i_c50, i_c54, i_c55, i_c57, i_c58, i_c59, i_c61, i_c64, i_c73, i_c118, i_c119, i_c120, i_c126, i_c365, i_c1000, i_cFAR, i_add, i_sub, i_mul, i_neg, Option.bind_eq_bind, Option.bind_some]
      exact f1
    · rw [if_neg h1]
      obtain ⟨φ, fs, f1, f2, f3, f4, f5⟩ := ih (k + 1) n σ cs hI hc (by omega) (by omega) (by omega) (fun q hq hqe => by
        by_cases eq : q = k
        · subst eq; omega
        · exact hp q (by omega) hqe)
      refine ⟨φ, fs, ?_, f2, f3, grows.tr (c := 0) grows.rf f4 (by omega), f5⟩
      unfold M_laysCrossings_244
      simp only [i_c0, i_c1, i_c2, i_c3, i_c4, i_c5, i_c6, i_c8, i_c9, i_c10, i_c12, i_c16, i_c17, i_c18, i_c31, i_c32, i_c45, i_c48, i_c50, i_c54, i_c55, i_c57, i_c58, i_c59, i_c61, i_c64, i_c73, i_c118, i_c119, i_c120, i_c126, i_c365, i_c1000, i_cFAR, i_add, i_sub, i_mul, i_neg, Option.bind_eq_bind, Option.bind_some]
      exact f1
/-- what the places of an edge owe, for a set -/
def coreC (N : Net) (w : Nat → Int) (s e : Nat) (cs : List Fq) : Prop := cdB (ed N e).2.2 (sts N e) cs ∧ cdX (bits N s) (Lw N w e) (ed N e).2.2 cs ∧ cdO (bits N s) (Lw N w e) (ed N e).2.2 cs ∧ smC (ed N e).2.2 cs
theorem lk_of {L : Lns} {i : Nat} {l : Fq} (h : isLn L i l) : ∃ a : Int, 0 ≤ a ∧ a ≤ 1 ∧ l = lk L i a := by
  rcases h with rfl | rfl
  · exact ⟨0, by omega, by omega, by unfold lk; rw [if_pos rfl]⟩
  · exact ⟨1, by omega, by omega, by unfold lk; rw [if_neg (by omega)]⟩
theorem sts_mem {e : Nat} {x : Fq} (h : x ∈ sts N e) : ∃ k, k < sN N ∧ (sd N k).1 = e ∧ x = ((sd N k).2.1, (sd N k).2.2) := by
  obtain ⟨t, ht, rfl⟩ := List.mem_map.mp h
  obtain ⟨h1, h2⟩ := List.mem_filter.mp ht
  obtain ⟨k, hk, rfl⟩ := List.mem_iff_getElem.mp h1
  have e1 : sd N k = N.2.2[k] := getD_at hk
  exact ⟨k, hk, by rw [e1]; simpa using h2, by rw [e1]⟩
theorem M_laysCrossings_eq {s e : Nat} (hI : lcI N w σ) (hF : 8 < F) (hw9 : okw9 (nN N) w) (hs : s < 256) (he : e < eN N) :
    ∃ τ cs, M_laysCrossings F σ (i32 s) (i32 e) = some τ ∧ kp [3] [] [] [0, 1] σ τ ∧ crl τ cs ∧ cs.length ≤ 134 ∧ coreC N w s e cs := by
  have h8 := hI.1.2.2.1
  have h6 := hI.1.2.2.2.2.2.2.1
  obtain ⟨a1, a2, a3, a4, a5⟩ := hI.1.2.2.2.2.2.1 e he
  have n1 : ∀ z : Int, nrm z 1 = (z, 1) := fun z => by unfold nrm; rw [if_pos (by omega)]
  have k0 : kp [3] [] [] [0, 1] σ (sI σ 3 (i32 0)) := kp.sI
  have hI0 := hI.kp k0
  obtain ⟨τ, ds, c1, c2, c3, c4⟩ := M_crosses_eq (σ := sI σ 3 (i32 0)) (p := 0) (q := 1) (cs := []) hI0.1 he (by omega) (by omega) (by omega) (by omega) ⟨rfl, fun k hk => by simp at hk⟩ (by simp)
  have hI1 := hI0.kp c2
  obtain ⟨υ, es, d1, d2, d3, d4⟩ := M_crosses_eq (p := (ed N e).2.2) (q := 1) hI1.1 he (by omega) (by omega) (by omega) (by omega) c3 (by have := c4.len; simp at this; omega)
  rw [n1] at c4 d4
  have hI2 := hI1.kp d2
  have l1 : es.length ≤ 2 := by have h1 := c4.len; have h2 := d4.len; simp at h1; omega
  obtain ⟨φ, fs, f1, f2, f3, f4, f5, f6, f7⟩ := M_lc27_eq (F := F) hF hw9 hs he (nN N) 0 F υ es hI2 d3 (by omega) (by omega) (by show es.length ≤ 2 + 0; omega) (fun i hi => by omega)
  obtain ⟨ψ, gs, g1, g2, g3, g4, g5⟩ := M_lc200_eq (F := F) he (sN N) 0 F φ fs (hI2.kp f2) f3 (by omega) (by omega) (by omega) (fun q hq => by omega)
  have in0 : inE (ed N e).2.2 (0, 1) := ⟨by simp, by simp, by simp only; omega⟩
  have in1 : inE (ed N e).2.2 ((ed N e).2.2, 1) := ⟨by simp, by simp only; omega, by simp only; omega⟩
  have sm : smC (ed N e).2.2 gs := g4.2.2 (f6 (d4.sm (by simp) (c4.sm (by simp) (fun c hc => by simp at hc))))
  have nd : nodes N w s e (nN N) gs := f7.grow g4.1
  refine ⟨ψ, gs, ?_, kp.tr k0 (kp.tr c2 (kp.tr d2 (kp.tr f2 g2))), g3, by have := g4.2.1; omega, ⟨?_, ?_, ?_, ?_⟩, ?_, ?_, sm⟩
  · unfold M_laysCrossings
    simp only [i_c0, i_c1, i_c2, i_c3, i_c4, i_c5, i_c6, i_c8, i_c9, i_c10, i_c12, i_c16, i_c17, i_c18, i_c31, i_c32, i_c45, i_c48, i_c50, i_c54, i_c55, i_c57, i_c58, i_c59, i_c61, i_c64, i_c73, i_c118, i_c119, i_c120, i_c126, i_c365, i_c1000, i_cFAR, j_c0, j_c1, j_c2, Option.bind_eq_bind, Option.bind_some]
    rw [c1]
    simp only [Option.bind_eq_bind, Option.bind_some]
    rw [M_of_2 hI1.1 he]
    simp (disch := omega) only [Option.bind_eq_bind, Option.bind_some, i_long]
    rw [d1]
    simp only [Option.bind_eq_bind, Option.bind_some]
    refine f1.trans ?_
    unfold M_laysCrossings_198
    rw [i_c0]
    exact g1
  · exact fun c hc => (sm c hc).1
  · exact g4.1 _ (f5 _ (d4.keep (c4.has in0)))
  · exact g4.1 _ (f5 _ (d4.has in1))
  · intro x hx
    obtain ⟨k, hk, hke, rfl⟩ := sts_mem hx
    exact g5 k hk hke
  · intro i j l m hi hj hij hl hm hne hin
    obtain ⟨a, ha, ha2, rfl⟩ := lk_of hl
    obtain ⟨b, hb, hb2, rfl⟩ := lk_of hm
    by_cases hlt : j < i
    · exact (nd i hi.1 hi).2 j hlt hj a b ha ha2 hb hb2 (by omega) hne hin
    · rw [crs_comm hne] at hin ⊢
      exact (nd j hj.1 hj).2 i (by omega) hi b a hb hb2 ha ha2 (by omega) (Ne.symm hne) hin
  · intro i hi hne hin
    have w9 := hw9 i hi.1
    have hw0 : w i ≠ 0 := by intro z; apply hne; unfold Lw; simp only; omega
    have fe := ownX_feq (N := N) (e := e) hw0 w9.1
    have pc := crs_pos hne
    have p2 : (0 : Int) < (ownX N e i).2 := by unfold ownX; simp
    obtain ⟨c, hc, ec⟩ := (nd i hi.1 hi).1 (crs_feq_in hin p2 fe)
    exact ⟨c, hc, feq_trans (sm c hc).1.1 p2 pc ec fe⟩
end MC
