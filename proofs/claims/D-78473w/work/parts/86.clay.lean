/-! AN EDGE IS LAID: all its places -/
section CY
variable {S T : St} {b x p D P E A Q L : Nat} {pts : List (Nat × Fq)} {f0 : Nat} {N : Net} {w : Nat → Int} {F : Nat} {v3 v4 v5 v6 : Option Nat}
theorem planB.ex {c d : Nat} (h : planB b S p x D N w v3 v4 v5 v6) (hf : ex c d S T) : planB b T p x D N w v3 v4 v5 v6 := by
  obtain ⟨h1, h2, h3, ⟨f, f1, f2⟩, h4⟩ := h
  exact ⟨h1, hf.get h2, h3, ⟨f, hf.get f1, f2⟩, h4.ex hf⟩
theorem ptC.ex {c d : Nat} (h : ptC b S P E A Q L pts f0) (hf : ex c d S T) : ptC b T P E A Q L pts f0 := by
  obtain ⟨h1, h2, h3, h4, h5, h6, fe, fa, fq, h7, h8, h9, h10⟩ := h
  exact ⟨h1, hf.get h2, h3, h4, h5, h6, fe, fa, fq, hf.get h7, hf.get h8, hf.get h9, h10⟩
theorem layI.ex {c d : Nat} (h : layI b S p x D P E A Q L pts f0 N w) (hf : ex c d S T) : layI b T p x D P E A Q L pts f0 N w := ⟨hf.1, h.2.1.ex hf, h.2.2.1.ex hf, h.2.2.2⟩
/-- the state while an edge is laid: G holds the places that are sure to be listed -/
def lyT (b p D P x f0 e : Nat) (N : Net) (w : Nat → Int) (S0 : St) (L0 : Nat) (pts0 : List (Nat × Fq)) (c d m : Nat) (G : Fq → Prop) (T : St) : Prop := ∃ E A Q L pts, layI b T p x D P E A Q L pts f0 N w ∧ sgOk e f0 pts ∧ inP (ed N e).2.2 pts f0 ∧ pts.take f0 = pts0.take f0 ∧ pts0.length ≤ pts.length ∧ pts.length ≤ pts0.length + m ∧ L0 ≤ L ∧ fr b p (c + (L - L0)) (d + 6 * (L - L0)) S0 T ∧ ∀ y, G y → hsP pts f0 y
variable {e L0 c d m : Nat} {S0 : St} {pts0 : List (Nat × Fq)} {G : Fq → Prop}
theorem lyT.imp {m' : Nat} {G' : Fq → Prop} (h : lyT b p D P x f0 e N w S0 L0 pts0 c d m G T) (hm : m ≤ m') (hg : ∀ y, G' y → G y) : lyT b p D P x f0 e N w S0 L0 pts0 c d m' G' T := by
  obtain ⟨E, A, Q, L, pts, h1, h2, h3, h4, h5, h6, h7, h8, h9⟩ := h
  exact ⟨E, A, Q, L, pts, h1, h2, h3, h4, h5, by omega, h7, h8, fun y hy => h9 y (hg y hy)⟩
theorem lyT.pl (h : lyT b p D P x f0 e N w S0 L0 pts0 c d m G T) : planB b T p x D N w (some P) none none none := by
  obtain ⟨E, A, Q, L, pts, h1, -⟩ := h
  exact h1.2.1
theorem lyT.take {v : Int} (hN : okN N) (h : lyT b p D P x f0 e N w S0 L0 pts0 c d m G T) (he : e < eN N) (hv : 0 ≤ v) (hv2 : v ≤ (ed N e).2.2) (hl : pts0.length + m ≤ 3000) (hF : 4294967296 < F) :
    Rt (C_X3_lambda_layEdge_0 F T p (i32 e) (j64 v) 1) (fun U => lyT b p D P x f0 e N w S0 L0 pts0 c d (m + 1) (fun y => G y ∨ y = (v, 1)) U ∧ keN T U) := by
  obtain ⟨E, A, Q, L, pts, h1, h2, h3, h4, h5, h6, h7, h8, h9⟩ := h
  have k := C_take (a := v.toNat) (c := 1) (s := 1) hN (Or.inl rfl) h1 h2 he (by decide) (by decide) (by omega) (by omega) h3 hF
  have e1 : (1 : Int) * ((v.toNat : Nat) : Int) = v := by omega
  have e2 : (1 : Int) * ((1 : Nat) : Int) = 1 := by decide
  rw [e1, e2] at k
  refine Rt.mono k ?_
  rintro U ⟨E', A', Q', L', pts', t1, t2, t3, t4, t5, t6, t7, t8, t9, t10, t11⟩
  refine ⟨⟨E', A', Q', L', pts', t1, t2, t3, by rw [t4]; exact h4, by omega, by omega, by omega, h8.tr t10 (by omega) (by omega), ?_⟩, t11⟩
  rintro y (hy | rfl)
  · exact t5 y (h9 y hy)
  · rw [show (((v.toNat : Nat) : Int), ((1 : Nat) : Int)) = (v, 1) from Prod.ext (by show ((v.toNat : Nat) : Int) = v; omega) rfl] at t6
    exact t6
theorem lyT.meet {i j qi qj l : Nat} (hN : okN N) (hw9 : okw9 (nN N) w) (h : lyT b p D P x f0 e N w S0 L0 pts0 c d m G T) (he : e < eN N) (hi : i < 2 * nN N) (hj : j < 2 * nN N) (ci : lnC T N w e i qi) (cj : lnC T N w e j qj) (cl : T.1 l = some (cO 17 [.ref p, .int (i32 e)])) (hl : pts0.length + m ≤ 3000) (hF : 4294967296 < F) :
    Rt (C_X3_meet F T qi qj (i32 (ed N e).2.2) l) (fun U => lyT b p D P x f0 e N w S0 L0 pts0 c d (m + 1) (fun y => G y ∨ (lnO (Lw N w e) i).1 ≠ (lnO (Lw N w e) j).1 ∧ inE (ed N e).2.2 (crs (lnO (Lw N w e) i) (lnO (Lw N w e) j)) ∧ y = crs (lnO (Lw N w e) i) (lnO (Lw N w e) j)) U ∧ keN T U) := by
  obtain ⟨E, A, Q, L, pts, h1, h2, h3, h4, h5, h6, h7, h8, h9⟩ := h
  refine Rt.mono (C_meet hN hw9 h1 h2 he hi hj ci cj cl (by omega) h3 hF) ?_
  rintro U ⟨E', A', Q', L', pts', t1, t2, t3, t4, t5, t6, t7, t8, t9, t10, t11⟩
  refine ⟨⟨E', A', Q', L', pts', t1, t2, t3, by rw [t4]; exact h4, by omega, by omega, by omega, h8.tr t10 (by omega) (by omega), ?_⟩, t11⟩
  rintro y (hy | ⟨y1, y2, rfl⟩)
  · exact t5 y (h9 y hy)
  · exact t6 y1 y2
/-- the ends -/
def gB (len : Int) (y : Fq) : Prop := y = (0, 1) ∨ y = (len, 1)
/-- the lines' meetings up to (i, j) -/
def gM (N : Net) (w : Nat → Int) (e i j : Nat) (y : Fq) : Prop := ∃ i' j', j' < i' ∧ (i' < i ∨ i' = i ∧ j' < j) ∧ (lnO (Lw N w e) i').1 ≠ (lnO (Lw N w e) j').1 ∧ inE (ed N e).2.2 (crs (lnO (Lw N w e) i') (lnO (Lw N w e) j')) ∧ y = crs (lnO (Lw N w e) i') (lnO (Lw N w e) j')
/-- the stretches' ends up to k -/
def gS (N : Net) (e k : Nat) (y : Fq) : Prop := ∃ k', k' < k ∧ (sd N k').1 = e ∧ (y = ((sd N k').2.1, 1) ∨ y = ((sd N k').2.2, 1))
def tri : Nat → Nat
  | 0 => 0
  | n + 1 => tri n + n
theorem tri_le {i j : Nat} (h : i ≤ j) : tri i ≤ tri j := by
  induction j with
  | zero => rw [show i = 0 by omega]; exact Nat.le_refl _
  | succ j ih =>
    by_cases e : i = j + 1
    · rw [e]; exact Nat.le_refl _
    · have := ih (by omega)
      show tri i ≤ tri j + j
      omega
theorem tri_16 : tri 16 = 120 := by decide
/-- the stretches -/
theorem C_lay194 {l : Nat} (hN : okN N) (he : e < eN N) (h : lyT b p D P x f0 e N w S0 L0 pts0 c d m G T) (cl : T.1 l = some (cO 17 [.ref p, .int (i32 e)])) (hl : pts0.length + m + 12 ≤ 3000) (hF : 4294967296 < F) :
    Rt (C_X3_layEdge_194 F p (i32 e) l F (i32 0) T) (lyT b p D P x f0 e N w S0 L0 pts0 c d (m + 12) (fun y => G y ∨ gS N e (sN N) y)) := by
  have z3 := hN.sz.2.2
  have z2 := hN.sz.2.1
  refine Rt.loop (ι := Nat) (fun k v U => v = i32 k ∧ k ≤ sN N ∧ lyT b p D P x f0 e N w S0 L0 pts0 c d (m + 2 * k) (fun y => G y ∨ gS N e k y) U ∧ U.1 l = some (cO 17 [.ref p, .int (i32 e)])) (fun k => sN N - k) ?_ F 0 _ _ ⟨rfl, by omega, h.imp (by omega) ?_, cl⟩ (by omega)
  rotate_left
  · rintro y (hy | ⟨k', h1, -⟩)
    · exact hy
    · omega
  rintro n k _ U ⟨rfl, hk, hU, ul⟩ ih
  have gt : ∀ {V : St} {m' : Nat} {G' : Fq → Prop}, lyT b p D P x f0 e N w S0 L0 pts0 c d m' G' V → ∃ (sa : Nat) (sq : Nat → Nat), gA V 3 p 0 = some x ∧ gA V 2 x 3 = some sa ∧ aN V 4 sa = some (i32 (sN N)) ∧ ∀ k : Nat, k < sN N → lA V 4 sa (i32 k) = some (sq k) ∧ gI V 5 (sq k) 0 = some (i32 (sd N k).1) ∧ gI V 5 (sq k) 1 = some (i32 (sd N k).2.1) ∧ gI V 5 (sq k) 2 = some (i32 (sd N k).2.2) := by
    intro V m' G' hV
    obtain ⟨-, g1, -⟩ := hV.pl.g
    obtain ⟨wa, ta, ea, sa, eq, sq, -, -, -, -, n3, -, -, n4, -, -, n5⟩ := hV.pl.2.2.2.2.get hN.sz
    exact ⟨sa, sq, g1, n3, n4, fun k hk => ⟨(n5 k hk).1, (n5 k hk).2.2⟩⟩
  obtain ⟨sa, sq, g1, g2, g3, g4⟩ := gt hU
  unfold C_X3_layEdge_194
  rw [g1]
  simp only [Option.bind_eq_bind, Option.bind_some]
  rw [g2]
  simp only [Option.bind_eq_bind, Option.bind_some]
  rw [g3]
  simp only [Option.bind_eq_bind, Option.bind_some]
  refine Rt.ite (fun hh => ?_) (fun hh => ?_)
  · rw [i_le (by omega) (by omega) (by omega) (by omega)] at hh
    obtain rfl : k = sN N := by omega
    exact Rt.some (hU.imp (by omega) (fun _ z => z))
  rw [i_le (by omega) (by omega) (by omega) (by omega)] at hh
  obtain ⟨q1, q2, q3, q4⟩ := g4 k (by omega)
  obtain ⟨o1, o2, o3, o4⟩ := hN.2.2.2.2.2.2 k (by omega)
  rw [q1]
  simp only [Option.bind_eq_bind, Option.bind_some]
  rw [q2]
  simp only [Option.bind_eq_bind, Option.bind_some]
  have nx : ∀ V, lyT b p D P x f0 e N w S0 L0 pts0 c d (m + 2 * (k + 1)) (fun y => G y ∨ gS N e (k + 1) y) V → V.1 l = some (cO 17 [.ref p, .int (i32 e)]) → Rt (C_X3_layEdge_268 F (C_X3_layEdge_194 F p (i32 e) l n) p (i32 e) l (i32 k) V) (lyT b p D P x f0 e N w S0 L0 pts0 c d (m + 12) (fun y => G y ∨ gS N e (sN N) y)) := by
    intro V hV vl
    unfold C_X3_layEdge_268
    simp only [Option.bind_eq_bind, Option.bind_some, i_c0, i_c1, i_c2, i_c3, i_c4, i_c5, i_c6, i_c8, i_c9, i_c10, i_c12, i_c16, i_c17, i_c18, i_c31, i_c32, i_c45, i_c48, i_c50, i_c54, i_c55, i_c57, i_c58, i_c59, i_c61, i_c64, i_c73, i_c118, i_c119, i_c120, i_c126, i_c365, i_c1000, i_cFAR, i_add, i_sub, i_mul, i_neg]
    exact ih (k + 1) _ _ ⟨rfl, by omega, hV, vl⟩ (by omega)
  refine Rt.ite (fun h1 => ?_) (fun h1 => ?_)
  · rw [i_eq (by omega) (by omega) (by omega) (by omega)] at h1
    have h1' : (sd N k).1 = e := by omega
    have o5 := (hN.2.2.2.2.1 e he).2.2.2.2
    rw [h1'] at o4
    rw [q3, gA_of (k := 0) ul rfl, gI_of (k := 1) ul rfl]
    simp only [Option.bind_eq_bind, Option.bind_some]
    rw [i_long (by omega) (by omega)]
    refine Rt.bindO (hU.take hN he (by omega) (by omega) (by omega) hF) ?_
    rintro V ⟨hV, kV⟩
    have vl := kV l _ ul (show (17 : Nat) ≠ 6 by decide)
    obtain ⟨sa', sq', g1', g2', g3', g4'⟩ := gt hV
    obtain ⟨q1', q2', q3', q4'⟩ := g4' k (by omega)
    rw [g1']
    simp only [Option.bind_eq_bind, Option.bind_some]
    rw [g2']
    simp only [Option.bind_eq_bind, Option.bind_some]
    rw [q1']
    simp only [Option.bind_eq_bind, Option.bind_some]
    rw [q4', gA_of (k := 0) vl rfl, gI_of (k := 1) vl rfl]
    simp only [Option.bind_eq_bind, Option.bind_some]
    rw [i_long (by omega) (by omega)]
    refine Rt.bindO (hV.take hN he (by omega) (by omega) (by omega) hF) ?_
    rintro W ⟨hW, kW⟩
    refine nx W (hW.imp (by omega) ?_) (kW l _ vl (show (17 : Nat) ≠ 6 by decide))
    rintro y (hy | ⟨k', z1, z2, z3⟩)
    · exact Or.inl (Or.inl (Or.inl hy))
    · by_cases hk' : k' = k
      · rw [hk'] at z3
        rcases z3 with z3 | z3
        · exact Or.inl (Or.inr z3)
        · exact Or.inr z3
      · exact Or.inl (Or.inl (Or.inr ⟨k', by omega, z2, z3⟩))
  · rw [i_eq (by omega) (by omega) (by omega) (by omega)] at h1
    refine nx U (hU.imp (by omega) ?_) ul
    rintro y (hy | ⟨k', z1, z2, z3⟩)
    · exact Or.inl hy
    · by_cases hk' : k' = k
      · rw [hk'] at z2; omega
      · exact Or.inr ⟨k', by omega, z2, z3⟩
/-- the lines' cells -/
def lnA (p : Nat) (T : St) (N : Net) (w : Nat → Int) (e l ln : Nat) : Prop := T.1 l = some (cO 17 [.ref p, .int (i32 e)]) ∧ ∃ f : Nat → Option Nat, T.1 ln = some (cQ 5 (2 * nN N) f) ∧ ∀ k, k < 2 * nN N → ∃ q, f k = some q ∧ lnC T N w e k q
theorem lnA.ke {l ln : Nat} (h : lnA p S N w e l ln) (k : keN S T) : lnA p T N w e l ln := by
  obtain ⟨h1, f, h2, h3⟩ := h
  refine ⟨k _ _ h1 (show (17 : Nat) ≠ 6 by decide), f, k _ _ h2 (show (5 : Nat) ≠ 0 by decide), fun i hi => ?_⟩
  obtain ⟨q, q1, q2⟩ := h3 i hi
  exact ⟨q, q1, q2.keN k⟩
/-- the edge's own cell -/
def edC (T : St) (N : Net) (e q : Nat) : Prop := T.1 q = some (cO 4 [.int (i32 (ed N e).1), .int (i32 (ed N e).2.1), .int (i32 (ed N e).2.2)])
/-- the pairs of lines -/
theorem C_lay145 {l ln q : Nat} (hN : okN N) (hw9 : okw9 (nN N) w) (he : e < eN N) (h : lyT b p D P x f0 e N w S0 L0 pts0 c d m G T) (hA : lnA p T N w e l ln) (hq : edC T N e q) (hl : pts0.length + m + 132 ≤ 3000) (hF : 4294967296 < F) :
    Rt (C_X3_layEdge_145 F p (i32 e) q ln l F (i32 0) T) (lyT b p D P x f0 e N w S0 L0 pts0 c d (m + 132) (fun y => (G y ∨ gM N w e (2 * nN N) 0 y) ∨ gS N e (sN N) y)) := by
  have z1 := hN.sz.1
  have z2 := hN.sz.2.1
  refine Rt.loop (ι := Nat) (fun i v U => v = i32 i ∧ i ≤ 2 * nN N ∧ lyT b p D P x f0 e N w S0 L0 pts0 c d (m + tri i) (fun y => G y ∨ gM N w e i 0 y) U ∧ lnA p U N w e l ln ∧ edC U N e q) (fun i => 2 * nN N - i) ?_ F 0 _ _ ⟨rfl, by omega, h.imp (by omega) ?_, hA, hq⟩ (by omega)
  rotate_left
  · rintro y (hy | ⟨i', j', h1, h2, -⟩)
    · exact hy
    · omega
  rintro n i _ U ⟨rfl, hi, hU, hA, hq⟩ ih
  clear h
  obtain ⟨ul, f, uf, uc⟩ := hA
  have hA : lnA p U N w e l ln := ⟨ul, f, uf, uc⟩
  have ti := tri_le (show i ≤ 16 by omega)
  rw [tri_16] at ti
  unfold C_X3_layEdge_145
  rw [aN_of uf]
  simp only [Option.bind_eq_bind, Option.bind_some]
  refine Rt.ite (fun hh => ?_) (fun hh => ?_)
  · rw [i_le (by omega) (by omega) (by omega) (by omega)] at hh
    obtain rfl : i = 2 * nN N := by omega
    unfold C_X3_layEdge_191
    exact Rt.mono (C_lay194 hN he hU ul (by omega) hF) (fun V hV => hV.imp (by omega) (fun _ z => z))
  rw [i_le (by omega) (by omega) (by omega) (by omega)] at hh
  show Rt (C_X3_layEdge_155 F (C_X3_layEdge_145 F p (i32 e) q ln l n) p (i32 e) q ln l (i32 i) F (i32 0) U) _
  refine Rt.loop (ι := Nat) (fun j v V => v = i32 j ∧ j ≤ i ∧ lyT b p D P x f0 e N w S0 L0 pts0 c d (m + tri i + j) (fun y => G y ∨ gM N w e i j y) V ∧ lnA p V N w e l ln ∧ edC V N e q) (fun j => i - j) ?_ F 0 _ _ ⟨rfl, by omega, hU, hA, hq⟩ (by omega)
  rintro n2 j _ V ⟨rfl, hj, hV, hA, hq⟩ ih2
  clear ul uf uc f
  obtain ⟨ul, f, uf, uc⟩ := hA
  have hA : lnA p V N w e l ln := ⟨ul, f, uf, uc⟩
  have tj : tri (i + 1) = tri i + i := rfl
  have ti' := tri_le (show i + 1 ≤ 16 by omega)
  rw [tri_16] at ti'
  unfold C_X3_layEdge_155
  refine Rt.ite (fun h2 => ?_) (fun h2 => ?_)
  · rw [i_le (by omega) (by omega) (by omega) (by omega)] at h2
    obtain rfl : j = i := by omega
    unfold C_X3_layEdge_185
    simp only [Option.bind_eq_bind, Option.bind_some, i_c0, i_c1, i_c2, i_c3, i_c4, i_c5, i_c6, i_c8, i_c9, i_c10, i_c12, i_c16, i_c17, i_c18, i_c31, i_c32, i_c45, i_c48, i_c50, i_c54, i_c55, i_c57, i_c58, i_c59, i_c61, i_c64, i_c73, i_c118, i_c119, i_c120, i_c126, i_c365, i_c1000, i_cFAR, i_add, i_sub, i_mul, i_neg]
    refine ih (j + 1) _ _ ⟨rfl, by omega, hV.imp (by omega) ?_, hA, hq⟩ (by omega)
    rintro y (hy | ⟨i', j', z1, z2, z3⟩)
    · exact Or.inl hy
    · exact Or.inr ⟨i', j', z1, by omega, z3⟩
  rw [i_le (by omega) (by omega) (by omega) (by omega)] at h2
  obtain ⟨qi, i1, i2⟩ := uc i (by omega)
  obtain ⟨qj, j1, j2⟩ := uc j (by omega)
  rw [lA_of (q := qi) uf (by omega) (by omega) (by omega) (by rw [Int.toNat_natCast]; exact i1)]
  rw [lA_of (q := qj) uf (by omega) (by omega) (by omega) (by rw [Int.toNat_natCast]; exact j1)]
  rw [gI_of (k := 2) hq rfl]
  simp only [Option.bind_eq_bind, Option.bind_some]
  refine Rt.bindO (hV.meet hN hw9 he (by omega) (by omega) i2 j2 ul (by omega) hF) ?_
  rintro W ⟨hW, kW⟩
  simp only [i_c0, i_c1, i_c2, i_c3, i_c4, i_c5, i_c6, i_c8, i_c9, i_c10, i_c12, i_c16, i_c17, i_c18, i_c31, i_c32, i_c45, i_c48, i_c50, i_c54, i_c55, i_c57, i_c58, i_c59, i_c61, i_c64, i_c73, i_c118, i_c119, i_c120, i_c126, i_c365, i_c1000, i_cFAR, i_add, i_sub, i_mul, i_neg]
  refine ih2 (j + 1) _ _ ⟨rfl, by omega, hW.imp (by omega) ?_, hA.ke kW, kW _ _ hq (show (4 : Nat) ≠ 6 by decide)⟩ (by omega)
  rintro y (hy | ⟨i', j', z1, z2, z3, z4, z5⟩)
  · exact Or.inl (Or.inl hy)
  · by_cases hk : i' = i ∧ j' = j
    · rw [hk.1, hk.2] at z3 z4 z5
      exact Or.inr ⟨z3, z4, z5⟩
    · exact Or.inl (Or.inr ⟨i', j', z1, by omega, z3, z4, z5⟩)
theorem C_init8 {a : Nat} {v u : Int32} : C_X8_init (al S (cO 7 df_7) a) S.2.1 v u = some (al S (cO 7 [.int v, .int u]) a) := by
  have e1 : gP (al S (cO 7 df_7) a) 7 S.2.1 0 (.int v) = some (al S (cO 7 [.int v, .int 0]) a) := by
    rw [gP_of (al_me S a (cO 7 df_7)) (by decide), put_al]; rfl
  have e2 : gP (al S (cO 7 [.int v, .int 0]) a) 7 S.2.1 1 (.int u) = some (al S (cO 7 [.int v, .int u]) a) := by
    rw [gP_of (al_me S a _) (by simp), put_al]; rfl
  unfold C_X8_init
  rw [e1]
  simp only [Option.bind_eq_bind, Option.bind_some]
  rw [e2]
  rfl
theorem C_init9 {a : Nat} {v u : Int32} : C_X9_init (al S (cO 8 df_8) a) S.2.1 v u = some (al S (cO 8 [.int v, .int u]) a) := by
  have e1 : gP (al S (cO 8 df_8) a) 8 S.2.1 0 (.int v) = some (al S (cO 8 [.int v, .int 0]) a) := by
    rw [gP_of (al_me S a (cO 8 df_8)) (by decide), put_al]; rfl
  have e2 : gP (al S (cO 8 [.int v, .int 0]) a) 8 S.2.1 1 (.int u) = some (al S (cO 8 [.int v, .int u]) a) := by
    rw [gP_of (al_me S a _) (by simp), put_al]; rfl
  unfold C_X9_init
  rw [e1]
  simp only [Option.bind_eq_bind, Option.bind_some]
  rw [e2]
  rfl
theorem lyT.ex {c' d' : Nat} (h : lyT b p D P x f0 e N w S0 L0 pts0 c d m G S) (hf : ex c' d' S T) : lyT b p D P x f0 e N w S0 L0 pts0 (c + c') (d + d') m G T := by
  obtain ⟨E, A, Q, L, pts, h1, h2, h3, h4, h5, h6, h7, h8, h9⟩ := h
  exact ⟨E, A, Q, L, pts, h1.ex hf, h2, h3, h4, h5, h6, h7, h8.tr hf.fr (by omega) (by omega), h9⟩
/-- all places of an edge -/
def gAll (N : Net) (w : Nat → Int) (e : Nat) (y : Fq) : Prop := gB (ed N e).2.2 y ∨ gM N w e (2 * nN N) 0 y ∨ gS N e (sN N) y
theorem C_lay111 {ln q : Nat} {f : Nat → Option Nat} (hN : okN N) (hw9 : okw9 (nN N) w) (he : e < eN N) (hw : wfS T) (h : lyT b p D P x f0 e N w S0 L0 pts0 c d 0 (fun _ => False) T) (h2 : T.1 ln = some (cQ 5 (2 * nN N) f)) (h3 : ∀ k, k < 2 * nN N → ∃ q, f k = some q ∧ lnC T N w e k q) (hq : edC T N e q) (hl : pts0.length + 134 ≤ 3000) (hF : 4294967296 < F) :
    Rt (C_X3_layEdge_111 F p (i32 e) q ln T) (lyT b p D P x f0 e N w S0 L0 pts0 (c + 1) (d + 2) 134 (gAll N w e)) := by
  obtain ⟨a1, a2, a3, a4, a5⟩ := hN.2.2.2.2.1 e he
  have x1 : ex 1 2 T (al T (cO 17 [.ref p, .int (i32 e)]) 2) := ex.al hw
  have hU := h.ex x1
  have hl0 := al_me T 2 (cO 17 [.ref p, .int (i32 e)])
  have hA : lnA p (al T (cO 17 [.ref p, .int (i32 e)]) 2) N w e T.2.1 ln := by
    refine ⟨hl0, f, x1.get h2, fun k hk => ?_⟩
    obtain ⟨q, q1, q2⟩ := h3 k hk
    exact ⟨q, q1, q2.keN x1.keN⟩
  have hq' : edC (al T (cO 17 [.ref p, .int (i32 e)]) 2) N e q := x1.get hq
  unfold C_X3_layEdge_111
  rw [nC_eq]
  refine Rt.let ?_
  dsimp only
  generalize al T (cO 17 [.ref p, .int (i32 e)]) 2 = U at *
  rw [gA_of (k := 0) hl0 rfl, gI_of (k := 1) hl0 rfl]
  refine Rt.let (Rt.let ?_)
  rw [j_c0]
  refine Rt.bind (hU.take hN he (by omega) (by omega) (by omega) hF) ?_
  rintro V ⟨hV, kV⟩
  have hA' := hA.ke kV
  have hq2 : edC V N e q := kV _ _ hq' (show (4 : Nat) ≠ 6 by decide)
  rw [gI_of (k := 2) hq2 rfl, gA_of (k := 0) hA'.1 rfl, gI_of (k := 1) hA'.1 rfl]
  refine Rt.let (Rt.let (Rt.let ?_))
  rw [i_long (by omega) (by omega)]
  refine Rt.bind (hV.take hN he (by omega) (by omega) (by omega) hF) ?_
  rintro W ⟨hW, kW⟩
  refine Rt.mono (C_lay145 hN hw9 he hW (hA'.ke kW) (kW _ _ hq2 (show (4 : Nat) ≠ 6 by decide)) (by omega) hF) (fun X hX => hX.imp (by omega) ?_)
  rintro y ((hy | hy) | hy | hy)
  · exact Or.inl (Or.inl (Or.inl (Or.inr hy)))
  · exact Or.inl (Or.inl (Or.inr hy))
  · exact Or.inl (Or.inr hy)
  · exact Or.inr hy
/-- a place for the lines; the lines; the rest -/
theorem C_layEdge (hN : okN N) (hw9 : okw9 (nN N) w) (he : e < eN N) (h : layI b S p x D P E A Q L pts f0 N w) (hf : f0 = pts.length) (hl : pts.length + 134 ≤ 3000) (hF : 4294967296 < F) :
    Rt (C_X3_layEdge F S p (i32 e)) (lyT b p D P x f0 e N w S L pts 18 50 134 (gAll N w e)) := by
  have z1 := hN.sz.1
  have z2 := hN.sz.2.1
  obtain ⟨a1, a2, a3, a4, a5⟩ := hN.2.2.2.2.1 e he
  have hw := h.1
  obtain ⟨⟨fs, g0⟩, g1, g2, g3, -⟩ := h.2.1.g
  have hnet := h.2.1.2.2.2.2
  obtain ⟨wa, ta, ea, sa, fw, ft, fe, fs, eq, sq, ⟨n1, n2⟩, ⟨n3, n4, n5⟩, -, ⟨n6, n7, n8⟩, -⟩ := hnet
  obtain ⟨e1, e2, e3⟩ := n8 e he
  unfold C_X3_layEdge
  rw [g0, g1, g2]
  refine Rt.let (Rt.let ?_)
  rw [gA_of (k := 2) n2 rfl]
  refine Rt.let ?_
  rw [lA_of (q := eq e) n7 (by omega) (by omega) (by omega) (by rw [Int.toNat_natCast]; exact e1)]
  refine Rt.let (Rt.let ?_)
  rw [i_c2, i_mul, mkQ (by omega) (by omega)]
  refine Rt.let ?_
  dsimp only
  rw [show ((2 : Int) * (nN N : Int)).toNat = 2 * nN N by omega]
  show Rt (C_X3_layEdge_23 F p (i32 e) (eq e) S.2.1 F (i32 0) _) _
  refine Rt.loop (ι := Nat) (fun i v U => v = i32 i ∧ i ≤ nN N ∧ ex (1 + 2 * i) (2 * nN N + 4 * i) S U ∧ ∃ f : Nat → Option Nat, U.1 S.2.1 = some (cQ 5 (2 * nN N) f) ∧ ∀ k, k < 2 * i → ∃ q, f k = some q ∧ lnC U N w e k q) (fun i => nN N - i) ?_ F 0 _ _ ⟨rfl, by omega, (ex.al hw).le (by omega) (by omega), _, al_me _ _ _, fun k hk => by omega⟩ (by omega)
  rintro n i _ U ⟨rfl, hi, xU, f, uf, uc⟩ ih
  have hU := h.ex xU
  have wU := xU.1
  have lt0 := wU.lt uf
  obtain ⟨-, u1, u2, -⟩ := hU.2.1.g
  unfold C_X3_layEdge_23
  rw [u2]
  refine Rt.let (Rt.ite (fun hh => ?_) (fun hh => ?_))
  · rw [i_le (by omega) (by omega) (by omega) (by omega)] at hh
    obtain rfl : i = nN N := by omega
    have hT : lyT b p D P x f0 e N w S L pts 17 48 0 (fun _ => False) U := ⟨E, A, Q, L, pts, hU, ⟨by omega, fun k h1 h2 => by omega, fun j k h1 h2 h3 => by omega⟩, fun k h1 h2 => by omega, rfl, Nat.le_refl _, Nat.le_refl _, Nat.le_refl _, (xU.le (by omega) (by omega)).fr, fun y hy => hy.elim⟩
    exact C_lay111 hN hw9 he wU hT uf uc (xU.get e3) (by omega) hF
  rw [i_le (by omega) (by omega) (by omega) (by omega)] at hh
  have hi' : i < nN N := by omega
  rw [nO_eq]
  refine Rt.let ?_
  dsimp only
  -- the rising line
  have x7 : ∀ c : Cel, ex 1 2 U (al U c 2) := fun c => ex.al wU
  have h7 := hU.ex (x7 (cO 7 df_7))
  obtain ⟨-, v1, -⟩ := h7.2.1.g
  rw [v1]
  refine Rt.let ?_
  rw [gA_of (k := 0) ((x7 _).get (xU.get n2)) rfl]
  refine Rt.let ?_
  rw [lI_of ((x7 _).get (xU.get n4)) (by omega) (by omega) (by omega), Int.toNat_natCast, n5 i hi', gI_of (k := 0) ((x7 _).get (xU.get e3)) rfl]
  refine Rt.let (Rt.let ?_)
  rw [C_distance hN.sz h7.2.1 hi' a1]
  refine Rt.let ?_
  rw [C_init8]
  refine Rt.let ?_
  have c7 := al_me U 2 (cO 7 [.int (i32 (w i)), .int (i32 (dN N i (ed N e).1))])
  have x7' := x7 (cO 7 [.int (i32 (w i)), .int (i32 (dN N i (ed N e).1))])
  have xS7 := xU.tr x7' (Nat.le_refl _) (Nat.le_refl _)
  have m7 : (al U (cO 7 [.int (i32 (w i)), .int (i32 (dN N i (ed N e).1))]) 2).2.1 = U.2.1 + 1 := rfl
  generalize al U (cO 7 [.int (i32 (w i)), .int (i32 (dN N i (ed N e).1))]) 2 = V at *
  have vf := x7'.get uf
  rw [i_c2, i_mul, tA_of c7 vf (by omega) (by omega) (by omega)]
  refine Rt.let ?_
  rw [show ((2 : Int) * (i : Int)).toNat = 2 * i by omega, nO_eq]
  have xP := ex.put (e := cQ 5 (2 * nN N) (va_up f (2 * i) (some U.2.1))) hw xS7 (Nat.le_refl _) vf
  have me1 := put_me V S.2.1 (cQ 5 (2 * nN N) (va_up f (2 * i) (some U.2.1)))
  have ot1 : ∀ z, z ≠ S.2.1 → (put V S.2.1 (cQ 5 (2 * nN N) (va_up f (2 * i) (some U.2.1)))).1 z = V.1 z := fun z hz => put_ne hz
  have mP : (put V S.2.1 (cQ 5 (2 * nN N) (va_up f (2 * i) (some U.2.1)))).2.1 = U.2.1 + 1 := m7
  generalize put V S.2.1 (cQ 5 (2 * nN N) (va_up f (2 * i) (some U.2.1))) = W at *
  refine Rt.let ?_
  dsimp only
  -- the falling line
  have wW := xP.1
  have x8 : ∀ c : Cel, ex 1 2 W (al W c 2) := fun c => ex.al wW
  have hW := h.ex xP
  have h8 := hW.ex (x8 (cO 8 df_8))
  obtain ⟨-, w1, -⟩ := h8.2.1.g
  rw [w1]
  refine Rt.let ?_
  rw [gA_of (k := 0) ((x8 _).get (xP.get n2)) rfl]
  refine Rt.let ?_
  rw [lI_of ((x8 _).get (xP.get n4)) (by omega) (by omega) (by omega), Int.toNat_natCast, n5 i hi', gI_of (k := 1) ((x8 _).get (xP.get e3)) rfl]
  refine Rt.let (Rt.let ?_)
  rw [C_distance hN.sz h8.2.1 hi' a2, gI_of (k := 2) ((x8 _).get (xP.get e3)) rfl]
  refine Rt.let (Rt.let ?_)
  rw [i_add, C_init9]
  refine Rt.let ?_
  have c8 := al_me W 2 (cO 8 [.int (i32 (w i)), .int (i32 (dN N i (ed N e).2.1 + (ed N e).2.2))])
  have x8' := x8 (cO 8 [.int (i32 (w i)), .int (i32 (dN N i (ed N e).2.1 + (ed N e).2.2))])
  have xS8 := xP.tr x8' (Nat.le_refl _) (Nat.le_refl _)
  generalize al W (cO 8 [.int (i32 (w i)), .int (i32 (dN N i (ed N e).2.1 + (ed N e).2.2))]) 2 = X at *
  have xf := x8'.get me1
  rw [i_c1, i_add, tA_of c8 xf (by omega) (by omega) (by omega), show ((2 : Int) * (i : Int) + 1).toNat = 2 * i + 1 by omega]
  refine Rt.let ?_
  have xZ := ex.put (e := cQ 5 (2 * nN N) (va_up (va_up f (2 * i) (some U.2.1)) (2 * i + 1) (some W.2.1))) hw xS8 (Nat.le_refl _) xf
  have me2 := put_me X S.2.1 (cQ 5 (2 * nN N) (va_up (va_up f (2 * i) (some U.2.1)) (2 * i + 1) (some W.2.1)))
  have ot2 : ∀ z, z ≠ S.2.1 → (put X S.2.1 (cQ 5 (2 * nN N) (va_up (va_up f (2 * i) (some U.2.1)) (2 * i + 1) (some W.2.1)))).1 z = X.1 z := fun z hz => put_ne hz
  generalize put X S.2.1 (cQ 5 (2 * nN N) (va_up (va_up f (2 * i) (some U.2.1)) (2 * i + 1) (some W.2.1))) = Z at *
  refine Rt.let ?_
  rw [i_add]
  have old : ∀ z g, U.1 z = some g → z ≠ S.2.1 → Z.1 z = some g := by
    intro z g hz hne
    rw [ot2 z hne]
    refine x8'.get ?_
    rw [ot1 z hne]
    exact x7'.get hz
  have lt1 := wU.lt uf
  refine ih (i + 1) _ _ ⟨rfl, by omega, xZ.le (by omega) (by omega), _, me2, fun k hk => ?_⟩ (by omega)
  by_cases k1 : k = 2 * i + 1
  · refine ⟨W.2.1, by rw [vup_at, if_pos k1], ?_⟩
    unfold lnC
    rw [if_neg (by omega), show k / 2 = i by omega, ot2 _ (by omega)]
    exact c8
  · by_cases k2 : k = 2 * i
    · refine ⟨U.2.1, by rw [vup_at, if_neg k1, vup_at, if_pos k2], ?_⟩
      unfold lnC
      rw [if_pos (by omega), show k / 2 = i by omega, ot2 _ (by omega)]
      refine x8'.get ?_
      rw [ot1 _ (by omega)]
      exact c7
    · obtain ⟨q, q1, q2⟩ := uc k (by omega)
      refine ⟨q, by rw [vup_at, if_neg k1, vup_at, if_neg k2]; exact q1, ?_⟩
      unfold lnC at q2 ⊢
      have ne : ∀ {g : List Value} {ci : Nat}, U.1 q = some (cO ci g) → q ≠ S.2.1 := by
        rintro g ci hg rfl
        rw [uf] at hg; cases hg
      split
      · rw [if_pos (by assumption)] at q2; exact old _ _ q2 (ne q2)
      · rw [if_neg (by assumption)] at q2; exact old _ _ q2 (ne q2)
end CY
