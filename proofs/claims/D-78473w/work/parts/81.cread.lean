/-! THE CLASS READS: networks, distances, heights -/
theorem tr01_and (c d : Prop) : i32 (tr01 c) &&& i32 (tr01 d) = i32 (tr01 (c ∧ d)) := by
  by_cases hc : c
  · by_cases hd : d
    · rw [tr01_pos hc, tr01_pos hd, tr01_pos ⟨hc, hd⟩]; rfl
    · rw [tr01_pos hc, tr01_neg hd, tr01_neg (fun z => hd z.2)]; rfl
  · by_cases hd : d
    · rw [tr01_neg hc, tr01_pos hd, tr01_neg (fun z => hc z.1)]; rfl
    · rw [tr01_neg hc, tr01_neg hd, tr01_neg (fun z => hc z.1)]; rfl
theorem tr01_or (c d : Prop) : i32 (tr01 c) ||| i32 (tr01 d) = i32 (tr01 (c ∨ d)) := by
  by_cases hc : c
  · by_cases hd : d
    · rw [tr01_pos hc, tr01_pos hd, tr01_pos (Or.inl hc)]; rfl
    · rw [tr01_pos hc, tr01_neg hd, tr01_pos (Or.inl hc)]; rfl
  · by_cases hd : d
    · rw [tr01_neg hc, tr01_pos hd, tr01_pos (Or.inr hd)]; rfl
    · rw [tr01_neg hc, tr01_neg hd, tr01_neg (fun z => by rcases z with z | z; exact hc z; exact hd z)]; rfl
theorem zz_tr (c : Prop) : zz (i32 (tr01 c)) = some (i32 (tr01 c)) := by
  by_cases h : c
  · rw [tr01_pos h]; rfl
  · rw [tr01_neg h]; rfl
theorem tr01_congr {c d : Prop} (h : c ↔ d) : tr01 c = tr01 d := by rw [propext h]
theorem tr_0 {c : Prop} (h : ¬ c) : (0 : Int32) = i32 (tr01 c) := by rw [tr01_neg h]; rfl
theorem tr_1 {c : Prop} (h : c) : (1 : Int32) = i32 (tr01 c) := by rw [tr01_pos h]; rfl
theorem Rt.eq {ρ : Type} {E : Option ρ} {a : ρ} (h : Rt E (fun v => v = a)) : E = Option.some a := by obtain ⟨r, e, rfl⟩ := h; exact e
theorem C_isIn {a lo hi : Int} (ha : rng a) (hl : rng lo) (hh : rng hi) : C_X1_isIn (i32 a) (i32 lo) (i32 hi) = some (i32 (tr01 (inR a lo hi))) := M_within_t ha hl hh
theorem C_has {s k : Nat} (hs : s < 256) (hk : k < 8) : C_X1_has (i32 s) (i32 k) = some (i32 (bt s k)) := M_has_eq hs hk
section CR
variable {b x p : Nat} {S : St} {N : Net} {w : Nat → Int} {F : Nat}
theorem C_size (hz : szN N) (h : netC b S x N w) : C_X2_size S x = some (i32 (nN N)) := by
  obtain ⟨wa, ta, ea, sa, eq, sq, ⟨fs, h0⟩, h1, h2, h3, h4, h5, h6, h7, h8, h9, h10⟩ := h.get hz
  unfold C_X2_size
  simp only [h0, h1, h5, Option.bind_eq_bind, Option.bind_some]
theorem C_isNode {i : Int} (hz : szN N) (h : netC b S x N w) (hi : rng i) : C_X2_isNode S x (i32 i) = some (i32 (tr01 (isNd N i))) := by
  have z1 := hz.1
  obtain ⟨wa, ta, ea, sa, eq, sq, ⟨fs, h0⟩, -⟩ := h.get hz
  unfold C_X2_isNode
  rw [h0, C_size hz h]
  simp only [Option.bind_eq_bind, Option.bind_some, i_c1, i_c0, i_sub]
  rw [C_isIn hi (by decide) ⟨by omega, by omega⟩]
  simp only [Option.bind_eq_bind, Option.bind_some, zz_tr]
  congr 2
  exact tr01_congr ⟨fun h => ⟨h.1, by have := h.2; omega⟩, fun h => ⟨h.1, by have := h.2; omega⟩⟩
theorem C_joins {a c : Int} {k : Nat} {q : Nat} (hz : szN N) (hN : okN N) (hk : k < eN N) (hO : ∃ fs, gO S 4 q = some fs) (g0 : gI S 4 q 0 = some (i32 (ed N k).1)) (g1 : gI S 4 q 1 = some (i32 (ed N k).2.1)) (ha : rng a) (hc : rng c) :
    C_X5_joins S q (i32 a) (i32 c) = some (i32 (tr01 (((ed N k).1 : Int) = a ∧ ((ed N k).2.1 : Int) = c ∨ ((ed N k).1 : Int) = c ∧ ((ed N k).2.1 : Int) = a))) := by
  obtain ⟨fs, h0⟩ := hO
  obtain ⟨a1, a2, -⟩ := hN.2.2.2.2.1 k hk
  have z1 := hz.1
  refine Rt.eq ?_
  have second : ¬ (((ed N k).1 : Int) = a ∧ ((ed N k).2.1 : Int) = c) → Rt (C_X5_joins_16 S q (i32 a) (i32 c)) (fun v => v = i32 (tr01 (((ed N k).1 : Int) = a ∧ ((ed N k).2.1 : Int) = c ∨ ((ed N k).1 : Int) = c ∧ ((ed N k).2.1 : Int) = a))) := by
    intro hn
    unfold C_X5_joins_16
    simp only [g0, g1, Option.bind_eq_bind, Option.bind_some]
    simp (disch := omega) only [i_le, i_lt, i_eq]
    exact Rt.ite (fun h1 => Rt.ite (fun h2 => Rt.some (tr_1 (Or.inr ⟨h1, h2⟩))) (fun h2 => Rt.some (tr_0 (by omega)))) (fun h1 => Rt.some (tr_0 (by omega)))
  unfold C_X5_joins
  simp only [h0, g0, g1, Option.bind_eq_bind, Option.bind_some]
  simp (disch := omega) only [i_le, i_lt, i_eq]
  exact Rt.ite (fun h1 => Rt.ite (fun h2 => Rt.some (tr_1 (Or.inl ⟨h1, h2⟩))) (fun h2 => second (by omega))) (fun h1 => second (by omega))
theorem C_isJoined {a c : Int} (hN : okN N) (h : netC b S x N w) (ha : rng a) (hc : rng c) (hF : 4294967296 < F) : C_X2_isJoined F S x (i32 a) (i32 c) = some (i32 (tr01 (joinN N a c))) := by
  have hz := hN.sz
  have z2 := hz.2.1
  obtain ⟨wa, ta, ea, sa, eq, sq, ⟨fs, h0⟩, h1, h2, h3, h4, h5, h6, h7, h8, h9, h10⟩ := h.get hz
  refine Rt.eq ?_
  unfold C_X2_isJoined
  simp only [h0, Option.bind_eq_bind, Option.bind_some, i_c0]
  refine Rt.loop (ι := Nat) (fun k v y => y = i32 k ∧ k ≤ eN N ∧ v = i32 (tr01 (∃ e, e < k ∧ (((ed N e).1 : Int) = a ∧ ((ed N e).2.1 : Int) = c ∨ ((ed N e).1 : Int) = c ∧ ((ed N e).2.1 : Int) = a)))) (fun k => eN N - k) ?_ F 0 _ _ ⟨rfl, by omega, by rw [tr01_neg]; rintro ⟨e, he, -⟩; omega⟩ (by omega)
  rintro n k _ _ ⟨rfl, hk, rfl⟩ ih
  unfold C_X2_isJoined_5
  simp only [h3, h6, Option.bind_eq_bind, Option.bind_some]
  simp (disch := omega) only [i_le, i_lt, i_eq]
  refine Rt.ite (fun h => ?_) (fun h => ?_)
  · obtain rfl : k = eN N := by omega
    rw [zz_tr]; exact Rt.of rfl rfl
  have hk' : k < eN N := by omega
  obtain ⟨e1, e2, e3, e4, e5⟩ := h9 k hk'
  rw [e1]
  simp only [Option.bind_eq_bind, Option.bind_some, C_joins hz hN hk' e2 e3 e4 ha hc, tr01_or, i_c0, i_c1, i_c2, i_c3, i_c4, i_c5, i_c6, i_c8, i_c9, i_c10, i_c12, i_c16, i_c17, i_c18, i_c31, i_c32, i_c45, i_c48, i_c50, i_c54, i_c55, i_c57, i_c58, i_c59, i_c61, i_c64, i_c73, i_c118, i_c119, i_c120, i_c126, i_c365, i_c1000, i_cFAR, i_add, i_sub, i_mul, i_neg]
  refine ih (k + 1) _ _ ⟨rfl, by omega, ?_⟩ (by omega)
  congr 1
  refine tr01_congr ⟨?_, ?_⟩
  · rintro (⟨e, he, q⟩ | q)
    · exact ⟨e, by omega, q⟩
    · exact ⟨k, by omega, q⟩
  · rintro ⟨e, he, q⟩
    by_cases h : e = k
    · subst h; exact Or.inr q
    · exact Or.inl ⟨e, by omega, q⟩
theorem C_degree {i : Nat} (hN : okN N) (h : netC b S x N w) (hi : i < nN N) (hF : 4294967296 < F) : C_X2_degree F S x (i32 i) = some (i32 (degF N.2.1 i)) := by
  have hz := hN.sz
  have z1 := hz.1
  have z2 := hz.2.1
  obtain ⟨wa, ta, ea, sa, eq, sq, ⟨fs, h0⟩, h1, h2, h3, h4, h5, h6, h7, h8, h9, h10⟩ := h.get hz
  refine Rt.eq ?_
  unfold C_X2_degree
  simp only [h0, Option.bind_eq_bind, Option.bind_some, i_c0]
  refine Rt.loop (ι := Nat) (fun k v y => y = i32 k ∧ k ≤ eN N ∧ v = i32 (degF (N.2.1.take k) i)) (fun k => eN N - k) ?_ F 0 _ _ ⟨rfl, by omega, rfl⟩ (by omega)
  rintro n k _ _ ⟨rfl, hk, rfl⟩ ih
  unfold C_X2_degree_4
  simp only [h3, h6, Option.bind_eq_bind, Option.bind_some]
  simp (disch := omega) only [i_le, i_lt, i_eq]
  refine Rt.ite (fun h => ?_) (fun h => ?_)
  · obtain rfl : k = eN N := by omega
    exact Rt.some (by rw [List.take_of_length_le (show N.2.1.length ≤ eN N from Nat.le_refl _)])
  have hk' : k < eN N := by omega
  have ek : ed N k = N.2.1[k]'hk' := getD_at hk'
  obtain ⟨a1, a2, -⟩ := hN.2.2.2.2.1 k hk'
  obtain ⟨e1, e2, e3, e4, e5⟩ := h9 k hk'
  have nxt : ∀ d : Nat, d = (if (ed N k).1 = i ∨ (ed N k).2.1 = i then 1 else 0) → Rt (C_X2_degree_45 F (C_X2_degree_4 F S x (i32 i) n) S x (i32 i) (i32 k) (i32 (degF (N.2.1.take k) i)) (i32 d)) (fun r => r = i32 (degF N.2.1 i)) := by
    intro d hd
    unfold C_X2_degree_45
    simp only [i_c0, i_c1, i_c2, i_c3, i_c4, i_c5, i_c6, i_c8, i_c9, i_c10, i_c12, i_c16, i_c17, i_c18, i_c31, i_c32, i_c45, i_c48, i_c50, i_c54, i_c55, i_c57, i_c58, i_c59, i_c61, i_c64, i_c73, i_c118, i_c119, i_c120, i_c126, i_c365, i_c1000, i_cFAR, i_add, i_sub, i_mul, i_neg, Option.bind_eq_bind, Option.bind_some]
    refine ih (k + 1) _ _ ⟨rfl, by omega, ?_⟩ (by omega)
    rw [degF_succ hk', ← ek, ← hd]; congr 1
  unfold C_X2_degree_40
  simp only [e1, e3, e4, Option.bind_eq_bind, Option.bind_some, i_c0, i_c1, i_c2, i_c3, i_c4, i_c5, i_c6, i_c8, i_c9, i_c10, i_c12, i_c16, i_c17, i_c18, i_c31, i_c32, i_c45, i_c48, i_c50, i_c54, i_c55, i_c57, i_c58, i_c59, i_c61, i_c64, i_c73, i_c118, i_c119, i_c120, i_c126, i_c365, i_c1000, i_cFAR]
  simp (disch := omega) only [i_le, i_lt, i_eq]
  refine Rt.ite (fun h => nxt 1 (by rw [if_pos (Or.inl (by omega))])) (fun h => Rt.ite (fun h2 => nxt 1 (by rw [if_pos (Or.inr (by omega))])) (fun h2 => nxt 0 (by rw [if_neg (by omega)])))
theorem C_isAllowed {e : Nat} {y : Fq} (hN : okN N) (h : netC b S x N w) (he : e < eN N) (hy : okx y) (hF : 4294967296 < F) : C_X2_isAllowed F S x (i32 e) (j64 y.1) (j64 y.2) = some (i32 (tr01 (alw (sts N e) y))) := by
  have hz := hN.sz
  have z2 := hz.2.1
  have z3 := hz.2.2
  obtain ⟨wa, ta, ea, sa, eq, sq, ⟨fs, h0⟩, h1, h2, h3, h4, h5, h6, h7, h8, h9, h10⟩ := h.get hz
  refine Rt.eq ?_
  unfold C_X2_isAllowed
  simp only [h0, Option.bind_eq_bind, Option.bind_some, i_c0, i_c1]
  refine Rt.loop (ι := Nat) (fun k v z => z = i32 k ∧ k ≤ sN N ∧ v = i32 (tr01 (∀ j, j < k → (sd N j).1 = e → ¬ ((sd N j).2.1 * y.2 < y.1 ∧ y.1 < (sd N j).2.2 * y.2)))) (fun k => sN N - k) ?_ F 0 _ _ ⟨rfl, by omega, by rw [tr01_pos]; intro j hj; omega⟩ (by omega)
  rintro n k _ _ ⟨rfl, hk, rfl⟩ ih
  unfold C_X2_isAllowed_6
  simp only [h4, h7, Option.bind_eq_bind, Option.bind_some]
  simp (disch := omega) only [i_le, i_lt, i_eq]
  refine Rt.ite (fun h => ?_) (fun h => ?_)
  · obtain rfl : k = sN N := by omega
    rw [zz_tr]; exact Rt.of rfl (by rw [tr01_congr alw_iff])
  have hk' : k < sN N := by omega
  obtain ⟨a1, a2, a3, a4⟩ := hN.2.2.2.2.2.2 k hk'
  obtain ⟨b1, b2, b3, b4, b5⟩ := hN.2.2.2.2.1 _ a1
  obtain ⟨x1, x2, x3, x4⟩ := hy
  have m1 := mul_rng (a := (sd N k).2.1) (b := y.2) (A := 50) (B := 1000) a2 (by omega) (by omega) x2
  have m2 := mul_rng (a := (sd N k).2.2) (b := y.2) (A := 50) (B := 1000) (by omega) (by omega) (by omega) x2
  obtain ⟨e1, ⟨gs, e2⟩, e3, e4, e5⟩ := h10 k hk'
  have cn : C_X6_contains S (sq k) (i32 e) (j64 y.1) (j64 y.2) = some (i32 (tr01 ((sd N k).1 = e ∧ ((sd N k).2.1 * y.2 < y.1 ∧ y.1 < (sd N k).2.2 * y.2)))) := by
    refine Rt.eq ?_
    unfold C_X6_contains
    simp only [e2, e3, e4, e5, Option.bind_eq_bind, Option.bind_some]
    simp (disch := omega) only [i_long, j_add, j_sub, j_mul, j_neg, i_le, i_lt, i_eq, j_le, j_lt, j_eq]
    refine Rt.ite (fun q1 => Rt.ite (fun q2 => Rt.some (tr_0 (by omega))) (fun q2 => Rt.ite (fun q3 => Rt.some (tr_0 (by omega))) (fun q3 => Rt.some (tr_1 (by omega))))) (fun q1 => Rt.some (tr_0 (by omega)))
  rw [e1]
  simp only [Option.bind_eq_bind, Option.bind_some, cn]
  have nxt : ∀ c : Prop, (c ↔ ¬ ((sd N k).1 = e ∧ ((sd N k).2.1 * y.2 < y.1 ∧ y.1 < (sd N k).2.2 * y.2))) → Rt (C_X2_isAllowed_40 F (C_X2_isAllowed_6 F S x (i32 e) (j64 y.1) (j64 y.2) n) S x (i32 e) (j64 y.1) (j64 y.2) (i32 k) (i32 (tr01 (∀ j, j < k → (sd N j).1 = e → ¬ ((sd N j).2.1 * y.2 < y.1 ∧ y.1 < (sd N j).2.2 * y.2)))) (i32 (tr01 c))) (fun v => v = i32 (tr01 (alw (sts N e) y))) := by
    intro c hc
    unfold C_X2_isAllowed_40
    simp only [i_c0, i_c1, i_c2, i_c3, i_c4, i_c5, i_c6, i_c8, i_c9, i_c10, i_c12, i_c16, i_c17, i_c18, i_c31, i_c32, i_c45, i_c48, i_c50, i_c54, i_c55, i_c57, i_c58, i_c59, i_c61, i_c64, i_c73, i_c118, i_c119, i_c120, i_c126, i_c365, i_c1000, i_cFAR, i_add, i_sub, i_mul, i_neg, Option.bind_eq_bind, Option.bind_some, tr01_and]
    refine ih (k + 1) _ _ ⟨rfl, by omega, ?_⟩ (by omega)
    congr 1
    refine tr01_congr ⟨?_, ?_⟩
    · rintro ⟨q1, q2⟩ j hj hje
      by_cases ej : j = k
      · subst ej; exact fun z => hc.mp q2 ⟨hje, z⟩
      · exact q1 j (by omega) hje
    · intro q
      exact ⟨fun j hj => q j (by omega), hc.mpr (fun z => q k (by omega) z.1 z.2)⟩
  refine Rt.ite (fun q => ?_) (fun q => ?_)
  · have := nxt True ⟨fun _ => tr01_n q, fun _ => trivial⟩
    rw [tr01_pos trivial] at this; exact this
  · have := nxt False ⟨fun z => z.elim, fun z => z (tr01_y q)⟩
    rw [tr01_neg (fun z => z)] at this; exact this
/-- the plan's own cell, its table of distances, its network -/
def planB (b : Nat) (S : St) (p x D : Nat) (N : Net) (w : Nat → Int) (v3 v4 v5 v6 : Option Nat) : Prop := b ≤ b ∧ S.1 p = some (cO 3 [.ref x, .int (i32 (nN N)), .ref D, vOf v3, vOf v4, vOf v5, vOf v6]) ∧ b ≤ D ∧
  (∃ f, S.1 D = some (cI 0 (nN N * nN N) f) ∧ ∀ i j, i < nN N → j < nN N → f (nN N * i + j) = i32 (dN N i j)) ∧ netC b S x N w
variable {D : Nat} {v3 v4 v5 v6 : Option Nat}
theorem sq64 (hz : szN N) : nN N * nN N ≤ 64 := Nat.mul_le_mul hz.1 hz.1
theorem planB.g (h : planB b S p x D N w v3 v4 v5 v6) : (∃ fs, gO S 3 p = some fs) ∧ gA S 3 p 0 = some x ∧ gI S 3 p 1 = some (i32 (nN N)) ∧ gA S 3 p 2 = some D ∧ gQ S 3 p 3 = some v3 ∧ gQ S 3 p 4 = some v4 ∧ gQ S 3 p 5 = some v5 ∧ gQ S 3 p 6 = some v6 :=
  ⟨⟨_, gO_of h.2.1⟩, gA_of h.2.1 rfl, gI_of h.2.1 rfl, gA_of h.2.1 rfl, gQ_of h.2.1 rfl, gQ_of h.2.1 rfl, gQ_of h.2.1 rfl, gQ_of h.2.1 rfl⟩
theorem idx_lt {n i j : Nat} (hi : i < n) (hj : j < n) : n * i + j < n * n := by
  have : n * i + n ≤ n * n := by
    rw [← Nat.mul_succ]; exact Nat.mul_le_mul_left n hi
  omega
theorem C_distance {i j : Nat} (hz : szN N) (h : planB b S p x D N w v3 v4 v5 v6) (hi : i < nN N) (hj : j < nN N) : C_X3_distance S p (i32 i) (i32 j) = some (i32 (dN N i j)) := by
  obtain ⟨⟨fs, g0⟩, g1, g2, g3, -⟩ := h.g
  obtain ⟨-, -, -, ⟨f, f1, f2⟩, -⟩ := h
  have s64 := sq64 hz
  have il := idx_lt hi hj
  have e : (nN N : Int) * i + j = ((nN N * i + j : Nat) : Int) := by push_cast; rfl
  unfold C_X3_distance
  simp only [g0, g2, g3, Option.bind_eq_bind, Option.bind_some, i_add, i_sub, i_mul, i_neg]
  rw [e, lI_of f1 (by omega) (by omega) (by omega), Int.toNat_natCast, f2 i j hi hj]
  rfl
theorem C_isConnected (hN : okN N) (h : planB b S p x D N w v3 v4 v5 v6) (hF : 4294967296 < F) : C_X3_isConnected F S p = some (i32 (tr01 (cnN N))) := by
  have hz := hN.sz
  have z1 := hz.1
  have hI := okN_D hN
  obtain ⟨⟨fs, g0⟩, g1, g2, g3, -⟩ := h.g
  refine Rt.eq ?_
  unfold C_X3_isConnected
  simp only [g0, Option.bind_eq_bind, Option.bind_some, i_c0, i_c1]
  refine Rt.loop (ι := Nat) (fun k v z => z = i32 k ∧ k ≤ nN N ∧ v = i32 (tr01 (∀ j, j < k → dN N 0 j < 100000))) (fun k => nN N - k) ?_ F 0 _ _ ⟨rfl, by omega, by rw [tr01_pos]; intro j hj; omega⟩ (by omega)
  rintro n k _ _ ⟨rfl, hk, rfl⟩ ih
  unfold C_X3_isConnected_4
  simp only [g2, Option.bind_eq_bind, Option.bind_some]
  simp (disch := omega) only [i_le, i_lt, i_eq]
  refine Rt.ite (fun hh => ?_) (fun hh => ?_)
  · obtain rfl : k = nN N := by omega
    rw [zz_tr]; exact Rt.of rfl rfl
  have hk' : k < nN N := by omega
  have b1 := hI.2.1 0 k
  have b2 := hI.2.2.2 0 k
  have cd := C_distance (i := 0) (j := k) hz h (by omega) hk'
  have nxt : ∀ c : Prop, (c ↔ dN N 0 k < 100000) → Rt (C_X3_isConnected_29 F (C_X3_isConnected_4 F S p n) S p (i32 k) (i32 (tr01 (∀ j, j < k → dN N 0 j < 100000))) (i32 (tr01 c))) (fun v => v = i32 (tr01 (cnN N))) := by
    intro c hc
    unfold C_X3_isConnected_29
    simp only [i_c0, i_c1, i_c2, i_c3, i_c4, i_c5, i_c6, i_c8, i_c9, i_c10, i_c12, i_c16, i_c17, i_c18, i_c31, i_c32, i_c45, i_c48, i_c50, i_c54, i_c55, i_c57, i_c58, i_c59, i_c61, i_c64, i_c73, i_c118, i_c119, i_c120, i_c126, i_c365, i_c1000, i_cFAR, i_add, i_sub, i_mul, i_neg, Option.bind_eq_bind, Option.bind_some, tr01_and]
    refine ih (k + 1) _ _ ⟨rfl, by omega, ?_⟩ (by omega)
    congr 1
    refine tr01_congr ⟨?_, ?_⟩
    · rintro ⟨q1, q2⟩ j hj
      by_cases ej : j = k
      · subst ej; exact hc.mp q2
      · exact q1 j (by omega)
    · intro q
      exact ⟨fun j hj => q j (by omega), hc.mpr (q k (by omega))⟩
  have cd' : C_X3_distance S p (i32 0) (i32 k) = some (i32 (dN N 0 k)) := cd
  simp only [i_c0, cd', Option.bind_eq_bind, Option.bind_some, i_cFAR]
  simp (disch := omega) only [i_le, i_lt, i_eq]
  refine Rt.ite (fun q => ?_) (fun q => ?_)
  · have := nxt False ⟨fun z => z.elim, fun z => by omega⟩
    rw [tr01_neg (fun z => z)] at this; exact this
  · have := nxt True ⟨fun _ => by omega, fun _ => trivial⟩
    rw [tr01_pos trivial] at this; exact this
theorem C_isUsable (hN : okN N) (h : planB b S p x D N w v3 v4 v5 v6) (hF : 4294967296 < F) : C_X3_isUsable F S p = some (i32 (tr01 (canN N))) := by
  have hz := hN.sz
  have z2 := hz.2.1
  obtain ⟨⟨fs, g0⟩, g1, g2, g3, -⟩ := h.g
  obtain ⟨wa, ta, ea, sa, eq, sq, ⟨fs', h0⟩, h1, h2, h3, h4, h5, h6, h7, h8, h9, h10⟩ := h.2.2.2.2.get hz
  refine Rt.eq ?_
  unfold C_X3_isUsable
  rw [g0]
  refine Rt.let (Rt.tst (C_isConnected hN h hF) (fun q => Rt.some (tr_0 (fun z => q z.2))) (fun q => ?_))
  simp only [g1, h3, h6, Option.bind_eq_bind, Option.bind_some, i_c0]
  simp (disch := omega) only [i_le, i_lt, i_eq]
  exact Rt.ite (fun q2 => Rt.some (tr_0 (fun z => by have := z.1; omega))) (fun q2 => Rt.some (tr_1 ⟨by omega, q⟩))
theorem C_distanceTo {i e : Nat} {y : Fq} (hN : okN N) (h : planB b S p x D N w v3 v4 v5 v6) (hi : i < nN N) (he : e < eN N) (hy : okx y) : C_X3_distanceTo S p (i32 i) (i32 e) (j64 y.1) (j64 y.2) = some (j64 (awy N i e y)) := by
  have hz := hN.sz
  obtain ⟨⟨fs, g0⟩, g1, g2, g3, -⟩ := h.g
  obtain ⟨wa, ta, ea, sa, eq, sq, ⟨fs', h0⟩, h1, h2, h3, h4, h5, h6, h7, h8, h9, h10⟩ := h.2.2.2.2.get hz
  obtain ⟨e1, e2, e3, e4, e5⟩ := h9 e he
  obtain ⟨a1, a2, a3, a4, a5⟩ := hN.2.2.2.2.1 e he
  have hI := okN_D hN
  have b1 := hI.2.1 i (ed N e).1
  have b2 := hI.2.2.2 i (ed N e).1
  have c1 := hI.2.1 i (ed N e).2.1
  have c2 := hI.2.2.2 i (ed N e).2.1
  have r := awy_rng hN hi he hy
  unfold C_X3_distanceTo
  simp only [g0, g1, h3, e1, e3, e4, e5, Option.bind_eq_bind, Option.bind_some]
  rw [C_distance hz h hi a1, C_distance hz h hi a2]
  simp only [Option.bind_eq_bind, Option.bind_some]
  rw [i_add, i_long (by omega) (by omega), i_long (by omega) (by omega), j_mul, j_mul, j_sub, j_add]
  unfold awy
  by_cases q : (dN N i (ed N e).2.1 + (ed N e).2.2) * y.2 - y.1 < dN N i (ed N e).1 * y.2 + y.1
  · rw [if_pos (by rw [j_lt (by omega) (by omega) (by omega) (by omega)]; exact q), Int.min_eq_right (by omega)]
  · rw [if_neg (by rw [j_lt (by omega) (by omega) (by omega) (by omega)]; exact q), Int.min_eq_left (by omega)]
theorem C_height {s e : Nat} {y : Fq} (hN : okN N) (h : planB b S p x D N w v3 v4 v5 v6) (hw9 : okw9 (nN N) w) (hc : cnN N) (hs : s < 256) (he : e < eN N) (hy : okx y) (hyl : y.1 ≤ (ed N e).2.2 * y.2) (hF : 4294967296 < F) : C_X3_height F S p (i32 s) (i32 e) (j64 y.1) (j64 y.2) = some (j64 (hgt N w s e y)) := by
  have hz := hN.sz
  have z1 := hz.1
  obtain ⟨⟨fs, g0⟩, g1, g2, g3, -⟩ := h.g
  obtain ⟨wa, ta, ea, sa, eq, sq, ⟨fs', h0⟩, h1, h2, h3, h4, h5, h6, h7, h8, h9, h10⟩ := h.2.2.2.2.get hz
  have vr : ∀ i, i < nN N → 0 ≤ w i * awy N i e y ∧ w i * awy N i e y ≤ 1272150000 := by
    intro i hi
    have := wa_rng hN hc hi he hy hyl
    exact mul_rng (A := 99) (B := 12850000) (hw9 i hi).1 (hw9 i hi).2 this.1 this.2
  refine Rt.eq ?_
  unfold C_X3_height
  simp only [g0, Option.bind_eq_bind, Option.bind_some, i_c0, j_c0]
  refine Rt.loop (ι := Nat) (fun k v z => z = i32 k ∧ k ≤ nN N ∧ v = j64 (hgF (fun i => w i * awy N i e y) s k)) (fun k => nN N - k) ?_ F 0 _ _ ⟨rfl, by omega, rfl⟩ (by omega)
  rintro n k _ _ ⟨rfl, hk, rfl⟩ ih
  unfold C_X3_height_6
  simp only [g2, Option.bind_eq_bind, Option.bind_some]
  simp (disch := omega) only [i_le, i_lt, i_eq]
  refine Rt.ite (fun hh => ?_) (fun hh => ?_)
  · obtain rfl : k = nN N := by omega
    exact Rt.some rfl
  have hk' : k < nN N := by omega
  have hr := hgF_rng (v := fun i => w i * awy N i e y) (s := s) (m := k) (B := 1272150000) (by omega) (fun i hi => vr i (by omega))
  have vk := vr k hk'
  have hk9 := hw9 k hk'
  have nxt : ∀ v : Int, v = hgF (fun i => w i * awy N i e y) s (k + 1) → Rt (C_X3_height_56 F (C_X3_height_6 F S p (i32 s) (i32 e) (j64 y.1) (j64 y.2) n) S p (i32 s) (i32 e) (j64 y.1) (j64 y.2) (i32 k) (j64 v)) (fun v => v = j64 (hgt N w s e y)) := by
    intro v hv
    unfold C_X3_height_56
    simp only [i_c0, i_c1, i_c2, i_c3, i_c4, i_c5, i_c6, i_c8, i_c9, i_c10, i_c12, i_c16, i_c17, i_c18, i_c31, i_c32, i_c45, i_c48, i_c50, i_c54, i_c55, i_c57, i_c58, i_c59, i_c61, i_c64, i_c73, i_c118, i_c119, i_c120, i_c126, i_c365, i_c1000, i_cFAR, i_add, i_sub, i_mul, i_neg, Option.bind_eq_bind, Option.bind_some]
    exact ih (k + 1) _ _ ⟨rfl, by omega, by rw [hv]⟩ (by omega)
  have hun : hgF (fun i => w i * awy N i e y) s (k + 1) = max (hgF (fun i => w i * awy N i e y) s k) (if s.testBit k = true then w k * awy N k e y else 0) := rfl
  rw [C_has hs (by omega)]
  simp only [Option.bind_eq_bind, Option.bind_some, i_c0]
  refine Rt.ite (fun q => ?_) (fun q => ?_)
  · rw [bt_zero] at q
    exact nxt _ (by rw [hun, if_neg q]; omega)
  · rw [bt_zero] at q
    have q' : s.testBit k = true := Classical.not_not.mp q
    simp only [g1, h1, (h8 k hk').1, Option.bind_eq_bind, Option.bind_some]
    rw [C_distanceTo hN h hk' he hy]
    simp only [Option.bind_eq_bind, Option.bind_some]
    rw [i_long (by omega) (by omega), j_mul]
    by_cases q2 : w k * awy N k e y < hgF (fun i => w i * awy N i e y) s k
    · rw [if_pos (by rw [j_lt (by omega) (by omega) (by omega) (by omega)]; exact q2)]; exact nxt _ (by rw [hun, if_pos q']; omega)
    · rw [if_neg (by rw [j_lt (by omega) (by omega) (by omega) (by omega)]; exact q2)]; exact nxt _ (by rw [hun, if_pos q']; omega)
theorem C_cost {e : Nat} {y : Fq} (hN : okN N) (h : planB b S p x D N w v3 v4 v5 v6) (hw9 : okw9 (nN N) w) (he : e < eN N) (hy : okx y) (hF : 4294967296 < F) : C_X3_cost F S p (i32 e) (j64 y.1) (j64 y.2) = some (j64 (cos_ N w e y)) := by
  have hz := hN.sz
  have z1 := hz.1
  obtain ⟨⟨fs, g0⟩, g1, g2, g3, -⟩ := h.g
  obtain ⟨wa, ta, ea, sa, eq, sq, ⟨fs', h0⟩, h1, h2, h3, h4, h5, h6, h7, h8, h9, h10⟩ := h.2.2.2.2.get hz
  refine Rt.eq ?_
  unfold C_X3_cost
  simp only [g0, Option.bind_eq_bind, Option.bind_some, i_c0, j_c0]
  refine Rt.loop (ι := Nat) (fun k v z => z = i32 k ∧ k ≤ nN N ∧ v = j64 (csF (fun i => w i * awy N i e y) k)) (fun k => nN N - k) ?_ F 0 _ _ ⟨rfl, by omega, rfl⟩ (by omega)
  rintro n k _ _ ⟨rfl, hk, rfl⟩ ih
  unfold C_X3_cost_6
  simp only [g2, Option.bind_eq_bind, Option.bind_some]
  simp (disch := omega) only [i_le, i_lt, i_eq]
  refine Rt.ite (fun hh => ?_) (fun hh => ?_)
  · obtain rfl : k = nN N := by omega
    exact Rt.some rfl
  have hk' : k < nN N := by omega
  have hk9 := hw9 k hk'
  simp only [g1, h1, (h8 k hk').1, C_distanceTo hN h hk' he hy, Option.bind_eq_bind, Option.bind_some, i_c0, i_c1, i_c2, i_c3, i_c4, i_c5, i_c6, i_c8, i_c9, i_c10, i_c12, i_c16, i_c17, i_c18, i_c31, i_c32, i_c45, i_c48, i_c50, i_c54, i_c55, i_c57, i_c58, i_c59, i_c61, i_c64, i_c73, i_c118, i_c119, i_c120, i_c126, i_c365, i_c1000, i_cFAR, i_add, i_sub, i_mul, i_neg]
  rw [i_long (by omega) (by omega), j_mul, j_add]
  exact ih (k + 1) _ _ ⟨rfl, by omega, rfl⟩ (by omega)
end CR
theorem div0 {kR : Int64 → Int64 → Option Int64} {x : Nat} {s : Int} (hs : s = 1 ∨ s = -1) (hx : (x : Int) < 4611686018427387904) : C_X1_divisor_b kR (j64 (s * x)) (j64 0) = some (j64 x) := by
  have a1 : s * (x : Int) = x ∨ s * (x : Int) = -x := by rcases hs with rfl | rfl <;> omega
  unfold C_X1_divisor_b
  rw [j_c0, if_pos rfl]
  simp (disch := omega) only [j_le, j_lt, j_eq, j_neg]
  congr 1
  split
  · congr 1; omega
  · congr 1; omega
/-- the greatest common divisor, by recursion: also of negative numbers -/
theorem gcd_d (d : Nat) : ∀ (m x y : Nat) (s : Int), (s = 1 ∨ s = -1) → 2 * m + 2 ≤ d → y < 2 ^ m → (x : Int) < 4611686018427387904 → (y : Int) < 4611686018427387904 → C_X1_divisor_d d (j64 (s * x)) (j64 (s * y)) = some (j64 (Nat.gcd x y)) := by
  have one : ∀ (d x y : Nat) (s : Int), (s = 1 ∨ s = -1) → y ≠ 0 → (x : Int) < 4611686018427387904 → (y : Int) < 4611686018427387904 → C_X1_divisor_d (d + 1) (j64 (s * x)) (j64 (s * y)) = (C_X1_divisor_d d (j64 (s * y)) (j64 (s * (x % y : Nat)))).bind some := by
    intro d x y s hs hy hx hy2
    have e1 : ∀ z : Nat, s * z = z ∨ s * z = -z := fun z => by rcases hs with rfl | rfl <;> omega
    have a1 := e1 x
    have a2 := e1 y
    show C_X1_divisor_b (C_X1_divisor_d d) _ _ = _
    unfold C_X1_divisor_b
    simp (disch := omega) only [j_c0, j_le, j_lt, j_eq]
    rw [if_neg (by omega), if_neg (by omega), j_tdiv (by omega) (by omega) (by omega) (by omega)]
    have ed : Int.tdiv (s * x) (s * y) = ((x / y : Nat) : Int) := by
      rcases hs with rfl | rfl
      · rw [Int.one_mul, Int.one_mul, Int.tdiv_eq_ediv_of_nonneg (by omega)]; rfl
      · rw [show (-1 : Int) * x = -x by omega, show (-1 : Int) * y = -y by omega, Int.tdiv_neg, Int.neg_tdiv, Int.neg_neg, Int.tdiv_eq_ediv_of_nonneg (by omega)]; rfl
    rw [ed, j_mul, j_sub]
    have em : s * (x : Int) - ((x / y : Nat) : Int) * (s * y) = s * ((x % y : Nat) : Int) := by
      have := Nat.div_add_mod x y
      have h2 : (x : Int) = (y : Int) * ((x / y : Nat) : Int) + ((x % y : Nat) : Int) := by exact_mod_cast this.symm
      have h3 : ((x / y : Nat) : Int) * (s * y) = s * ((y : Int) * ((x / y : Nat) : Int)) := by grind
      rw [h3, ← Int.mul_sub]
      congr 1; omega
    rw [em]; rfl
  intro m
  induction m generalizing d with
  | zero =>
    intro x y s hs hd hy hx hy2
    obtain rfl : y = 0 := by simpa using hy
    obtain ⟨d, rfl⟩ : ∃ d', d = d' + 1 := ⟨d - 1, by omega⟩
    have a1 : s * (x : Int) = x ∨ s * (x : Int) = -x := by rcases hs with rfl | rfl <;> omega
    show C_X1_divisor_b (C_X1_divisor_d d) _ _ = _
    rw [show s * ((0 : Nat) : Int) = 0 by simp, Nat.gcd_zero_right]
    exact div0 hs hx
  | succ m ih =>
    intro x y s hs hd hy hx hy2
    by_cases h0 : y = 0
    · subst h0
      obtain ⟨d, rfl⟩ : ∃ d', d = d' + 1 := ⟨d - 1, by omega⟩
      have a1 : s * (x : Int) = x ∨ s * (x : Int) = -x := by rcases hs with rfl | rfl <;> omega
      show C_X1_divisor_b (C_X1_divisor_d d) _ _ = _
      rw [show s * ((0 : Nat) : Int) = 0 by simp, Nat.gcd_zero_right]
      exact div0 hs hx
    obtain ⟨d, rfl⟩ : ∃ d', d = d' + 2 := ⟨d - 2, by omega⟩
    have hm : x % y < y := Nat.mod_lt _ (by omega)
    rw [one (d + 1) x y s hs h0 hx hy2]
    by_cases h1 : x % y = 0
    · have a1 : s * (y : Int) = y ∨ s * (y : Int) = -y := by rcases hs with rfl | rfl <;> omega
      rw [h1]
      show (C_X1_divisor_b (C_X1_divisor_d d) _ _).bind some = _
      have eg : Nat.gcd x y = y := by rw [Nat.gcd_comm, Nat.gcd_rec, h1, Nat.gcd_zero_left]
      rw [show s * ((0 : Nat) : Int) = 0 by simp, eg, div0 hs hy2]; rfl
    · rw [one d y (x % y) s hs h1 hy2 (by omega)]
      have hlt : y % (x % y) < 2 ^ m := by
        have h2 : y % (x % y) < x % y := Nat.mod_lt _ (by omega)
        have h3 : y % (x % y) + (x % y) ≤ y := by
          have h4 := Nat.div_add_mod y (x % y)
          have h5 : 1 ≤ y / (x % y) := Nat.div_pos (by omega) (by omega)
          have h6 : x % y ≤ (x % y) * (y / (x % y)) := Nat.le_mul_of_pos_right _ h5
          omega
        rw [Nat.pow_succ] at hy; omega
      have hml : y % (x % y) < x % y := Nat.mod_lt _ (by omega)
      rw [ih d (x % y) (y % (x % y)) s hs (by omega) hlt (by omega) (by omega)]
      have eg : Nat.gcd (x % y) (y % (x % y)) = Nat.gcd x y := by
        rw [Nat.gcd_comm x y, Nat.gcd_rec y x, Nat.gcd_rec (x % y) y, Nat.gcd_comm]
      rw [eg]; rfl
theorem C_divisor {x y : Nat} {s : Int} (hs : s = 1 ∨ s = -1) (hx : (x : Int) < 4611686018427387904) (hy : y < 131072) : C_X1_divisor (j64 (s * x)) (j64 (s * y)) = some (j64 (Nat.gcd x y)) :=
  gcd_d 40 17 x y s hs (by decide) hy hx (by omega)
theorem C_partOf {p q part : Int} (hp : 0 ≤ p) (hp2 : p < 4611686018427387904) (hq : 0 < q) (hq2 : q ≤ 1000) (h0 : 0 ≤ part) (h1 : part ≤ 1) : C_X1_partOf (j64 p) (j64 q) (i32 part) = some (i32 (rdc p q part)) := by
  obtain ⟨a, rfl⟩ : ∃ a : Nat, p = a := ⟨p.toNat, by omega⟩
  obtain ⟨b, rfl⟩ : ∃ b : Nat, q = b := ⟨q.toNat, by omega⟩
  have hb : 0 < b := by omega
  have hg : Int.gcd (a : Int) (b : Int) = Nat.gcd a b := rfl
  have g1 : 0 < Nat.gcd a b := Nat.gcd_pos_of_pos_right a hb
  have g2 : Nat.gcd a b ≤ b := Nat.gcd_le_right a hb
  have hd := C_divisor (s := 1) (Or.inl rfl) hp2 (show b < 131072 by omega)
  rw [Int.one_mul, Int.one_mul] at hd
  unfold C_X1_partOf rdc
  rw [hd, hg]
  simp (disch := omega) only [i_c0, i_c1, i_c2, i_c3, i_c4, i_c5, i_c6, i_c8, i_c9, i_c10, i_c12, i_c16, i_c17, i_c18, i_c31, i_c32, i_c45, i_c48, i_c50, i_c54, i_c55, i_c57, i_c58, i_c59, i_c61, i_c64, i_c73, i_c118, i_c119, i_c120, i_c126, i_c365, i_c1000, i_cFAR, j_c0, j_c1, j_c2, Option.bind_eq_bind, Option.bind_some, i_le, i_lt, i_eq, j_le, j_lt, j_eq, j_div, j_int]
  by_cases h : part = 0
  · rw [if_pos h, if_neg (by omega), if_pos h]
  · rw [if_neg h, if_neg (by omega), if_neg h]
