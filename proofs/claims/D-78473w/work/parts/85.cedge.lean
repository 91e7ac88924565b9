/-! AN EDGE IS LAID: its lines, where they meet -/
/-- a cell that is neither an int array nor points -/
def nP (c : Cel) : Prop := match c with
  | .inl (k, _) => k ≠ 0
  | .inr (ci, _) => ci ≠ 6
def keN (S T : St) : Prop := ∀ q e, S.1 q = some e → nP e → T.1 q = some e
theorem keN.rf {S : St} : keN S S := fun _ _ h _ => h
theorem keN.tr {S T U : St} (h : keN S T) (h2 : keN T U) : keN S U := fun q e hq hn => h2 q e (h q e hq hn) hn
theorem ex.keN {c d : Nat} {S T : St} (h : ex c d S T) : keN S T := fun q e hq _ => h.get hq
/-- the plan while its points are laid -/
def layI (b : Nat) (S : St) (p x D P E A Q L : Nat) (pts : List (Nat × Fq)) (f0 : Nat) (N : Net) (w : Nat → Int) : Prop := wfS S ∧ planB b S p x D N w (some P) none none none ∧ ptC b S P E A Q L pts f0 ∧ D ≠ E ∧ D ≠ A ∧ D ≠ Q
/-- a place is listed in the segment -/
def hsP (pts : List (Nat × Fq)) (f0 : Nat) (y : Fq) : Prop := ∃ k, f0 ≤ k ∧ k < pts.length ∧ feq (pts.getD k (0, 0, 1)).2 y
/-- the segment's places lie on the edge -/
def inP (len : Int) (pts : List (Nat × Fq)) (f0 : Nat) : Prop := ∀ k, f0 ≤ k → k < pts.length → inE len (pts.getD k (0, 0, 1)).2 ∧ (pts.getD k (0, 0, 1)).2.2 ≤ 198
section CL
variable {S T : St} {b x p D P E A Q L : Nat} {pts : List (Nat × Fq)} {f0 : Nat} {N : Net} {w : Nat → Int} {F : Nat}
/-- a step of laying: from S to T; at most m places more -/
def lyS (b p D P : Nat) (S T : St) (x E A Q L : Nat) (pts : List (Nat × Fq)) (f0 e m : Nat) (N : Net) (w : Nat → Int) (c d : Nat) : Prop := ∃ E' A' Q' L' pts', layI b T p x D P E' A' Q' L' pts' f0 N w ∧ sgOk e f0 pts' ∧ pts'.take f0 = pts.take f0 ∧ pts.length ≤ pts'.length ∧ pts'.length ≤ pts.length + m ∧ L ≤ L' ∧ fr b p (c + (L' - L)) (d + 6 * (L' - L)) S T ∧ keN S T
theorem C_take {e a c : Nat} {s : Int} (hN : okN N) (hs : s = 1 ∨ s = -1) (h : layI b S p x D P E A Q L pts f0 N w) (hg : sgOk e f0 pts) (he : e < eN N) (hc : 0 < c) (hc2 : c ≤ 198) (ha : (a : Int) ≤ (ed N e).2.2 * c) (hl : pts.length ≤ 3000) (hin : inP (ed N e).2.2 pts f0) (hF : 4294967296 < F) :
    Rt (C_X3_lambda_layEdge_0 F S p (i32 e) (j64 (s * a)) (j64 (s * c))) (fun T => ∃ E' A' Q' L' pts', layI b T p x D P E' A' Q' L' pts' f0 N w ∧ sgOk e f0 pts' ∧ inP (ed N e).2.2 pts' f0 ∧ pts'.take f0 = pts.take f0 ∧ (∀ y, hsP pts f0 y → hsP pts' f0 y) ∧ hsP pts' f0 ((a : Int), (c : Int)) ∧ pts.length ≤ pts'.length ∧ pts'.length ≤ pts.length + 1 ∧ L ≤ L' ∧ fr b p (L' - L) (6 * (L' - L)) S T ∧ keN S T) := by
  obtain ⟨hw, hB, hP, d1, d2, d3⟩ := h
  obtain ⟨a1, a2, a3, a4, a5⟩ := hN.2.2.2.2.1 e he
  have z2 := hN.sz.2.1
  have hm := mul_rng (a := (ed N e).2.2) (b := (c : Int)) (A := 50) (B := 198) (by omega) a5 (by omega) (by omega)
  obtain ⟨⟨fs, g0⟩, g1, g2, g3, g4, -⟩ := hB.g
  obtain ⟨-, pc, bD, ⟨f, f1, f2⟩, hnet⟩ := hB
  have hpP : p ≠ P := by
    rintro rfl
    have h2 := hP.2.1
    rw [pc] at h2
    cases h2
  unfold C_X3_lambda_layEdge_0
  rw [g0, g4]
  refine Rt.let (Rt.let (Rt.let ?_))
  refine Rt.bind (C_enter (p := p) hs hw hP hg hc (by omega) (by omega) (by omega) hl hpP hF) ?_
  rintro T ⟨E', A', Q', L', pts', t1, t2, t3, t4, t5, t6⟩
  obtain ⟨i1, i2, i3, i4⟩ := t3
  obtain ⟨k1, k2, k3, k4⟩ := t6
  obtain ⟨pp1, pp2, pp3, pp4, pp5, pp6, fe, fa, fq, pp11, pp12, pp13, pp14⟩ := hP
  have nP6 : ∀ {q : Nat} {g : Cel}, S.1 q = some g → nP g → T.1 q = some g := by
    intro q g hq hn
    refine k1 q g hq ?_ ?_ ?_ ?_
    · rintro rfl; rw [pp2] at hq; cases hq; exact hn rfl
    · rintro rfl; rw [pp11] at hq; cases hq; exact hn rfl
    · rintro rfl; rw [pp12] at hq; cases hq; exact hn rfl
    · rintro rfl; rw [pp13] at hq; cases hq; exact hn rfl
  have lD := hw.lt f1
  have hDP : D ≠ P := by rintro rfl; rw [pp2] at f1; cases f1
  have mem : ∀ y, (∃ k, f0 ≤ k ∧ k < pts'.length ∧ (pts'.getD k (0, 0, 1)).2 = y) ↔ (∃ k, f0 ≤ k ∧ k < pts.length ∧ (pts.getD k (0, 0, 1)).2 = y) ∨ y = redF a c := i4
  have hx := redF_rdd hc (show c ≤ 1000 by omega) (show a ≤ 50000 by omega)
  refine Rt.some ⟨E', A', Q', L', pts', ⟨t5.1, ⟨Nat.le_refl _, nP6 pc (show (3 : Nat) ≠ 6 by decide), bD, ⟨f, k1 D _ f1 hDP d1 d2 d3, f2⟩, hnet.fr pc t5⟩, t1, ?_, ?_, ?_⟩, t2, ?_, i1, ?_, ?_, i2, i3, t4, t5, fun q g hq hn => nP6 hq hn⟩
  · rcases k2 with h | h <;> omega
  · rcases k3 with h | h <;> omega
  · rcases k4 with h | h <;> omega
  · intro k h1 h2
    rcases (mem _).mp ⟨k, h1, h2, rfl⟩ with ⟨j, j1, j2, j3⟩ | h
    · rw [← j3]; exact hin j j1 j2
    · rw [h]
      refine ⟨crs_feq_in (x := ((a : Int), (c : Int))) ⟨by show (0 : Int) < c; omega, by show (0 : Int) ≤ a; omega, ha⟩ hx.1.1 redF_feq, ?_⟩
      show ((c / Nat.gcd a c : Nat) : Int) ≤ 198
      have : c / Nat.gcd a c ≤ c := Nat.div_le_self _ _
      omega
  · rintro y ⟨k, h1, h2, h3⟩
    obtain ⟨j, j1, j2, j3⟩ := (mem _).mpr (Or.inl ⟨k, h1, h2, rfl⟩)
    exact ⟨j, j1, j2, by rw [j3]; exact h3⟩
  · obtain ⟨j, j1, j2, j3⟩ := (mem (redF a c)).mpr (Or.inr rfl)
    exact ⟨j, j1, j2, by rw [j3]; exact redF_feq⟩
/-- the lines of an edge by their number -/
def lnO (L : Lns) (i : Nat) : Fq := if i % 2 = 0 then (L (i / 2)).1 else (L (i / 2)).2
/-- a line's cell -/
def lnC (S : St) (N : Net) (w : Nat → Int) (e i q : Nat) : Prop := if i % 2 = 0 then S.1 q = some (cO 7 [.int (i32 (w (i / 2))), .int (i32 (dN N (i / 2) (ed N e).1))]) else S.1 q = some (cO 8 [.int (i32 (w (i / 2))), .int (i32 (dN N (i / 2) (ed N e).2.1 + (ed N e).2.2))])
theorem lnC.keN {e i q : Nat} (h : lnC S N w e i q) (hk : keN S T) : lnC T N w e i q := by
  unfold lnC at *
  by_cases hi : i % 2 = 0
  · rw [if_pos hi] at *; exact hk _ _ h (show (7 : Nat) ≠ 6 by decide)
  · rw [if_neg hi] at *; exact hk _ _ h (show (8 : Nat) ≠ 6 by decide)
theorem C_line {e i q : Nat} (h : lnC S N w e i q) : C_X1_slope S q = some (i32 (lnO (Lw N w e) i).1) ∧ C_X1_atFirst S q = some (i32 (lnO (Lw N w e) i).2) := by
  unfold lnC at h
  unfold lnO Lw
  by_cases hi : i % 2 = 0
  · rw [if_pos hi] at h
    rw [if_pos hi]
    have o8 : gO S 8 q = none := by unfold gO; rw [h]; rfl
    constructor
    · unfold C_X1_slope isX
      rw [gO_of h]
      simp only [Option.bind_eq_bind, Option.bind_some]
      rw [if_neg (by decide), gI_of (k := 0) h rfl]; rfl
    · unfold C_X1_atFirst isX
      rw [o8, gO_of h]
      simp only [Option.bind_eq_bind, Option.bind_some]
      rw [if_pos trivial, gI_of (k := 0) h rfl, gI_of (k := 1) h rfl]
      simp only [Option.bind_eq_bind, Option.bind_some, i_mul]
  · rw [if_neg hi] at h
    rw [if_neg hi]
    have o7 : gO S 7 q = none := by unfold gO; rw [h]; rfl
    constructor
    · unfold C_X1_slope isX
      rw [o7, gO_of h]
      simp only [Option.bind_eq_bind, Option.bind_some]
      rw [if_pos trivial, gI_of (k := 0) h rfl]
      simp only [Option.bind_eq_bind, Option.bind_some, i_neg]
    · unfold C_X1_atFirst isX
      rw [gO_of h]
      simp only [Option.bind_eq_bind, Option.bind_some]
      rw [if_neg (by decide), gI_of (k := 0) h rfl, gI_of (k := 1) h rfl]
      simp only [Option.bind_eq_bind, Option.bind_some, i_mul]
theorem lnO_rng {e i : Nat} (hN : okN N) (hw9 : okw9 (nN N) w) (hi : i < 2 * nN N) (he : e < eN N) : -99 ≤ (lnO (Lw N w e) i).1 ∧ (lnO (Lw N w e) i).1 ≤ 99 ∧ 0 ≤ (lnO (Lw N w e) i).2 ∧ (lnO (Lw N w e) i).2 ≤ 9904950 := by
  have h0 := Lw_rng (k := 0) hN hw9 (show i / 2 < nN N by omega) he
  have h1 := Lw_rng (k := 1) hN hw9 (show i / 2 < nN N by omega) he
  unfold lnO
  unfold lk at h0 h1
  rw [if_pos rfl] at h0
  rw [if_neg (by decide)] at h1
  split
  · exact h0
  · exact h1
/-- where two lines meet -/
theorem C_meet {e i j qi qj l : Nat} (hN : okN N) (hw9 : okw9 (nN N) w) (h : layI b S p x D P E A Q L pts f0 N w) (hg : sgOk e f0 pts) (he : e < eN N) (hi : i < 2 * nN N) (hj : j < 2 * nN N) (ci : lnC S N w e i qi) (cj : lnC S N w e j qj) (cl : S.1 l = some (cO 17 [.ref p, .int (i32 e)])) (hl : pts.length ≤ 3000) (hin : inP (ed N e).2.2 pts f0) (hF : 4294967296 < F) :
    Rt (C_X3_meet F S qi qj (i32 (ed N e).2.2) l) (fun T => ∃ E' A' Q' L' pts', layI b T p x D P E' A' Q' L' pts' f0 N w ∧ sgOk e f0 pts' ∧ inP (ed N e).2.2 pts' f0 ∧ pts'.take f0 = pts.take f0 ∧ (∀ y, hsP pts f0 y → hsP pts' f0 y) ∧ ((lnO (Lw N w e) i).1 ≠ (lnO (Lw N w e) j).1 → inE (ed N e).2.2 (crs (lnO (Lw N w e) i) (lnO (Lw N w e) j)) → hsP pts' f0 (crs (lnO (Lw N w e) i) (lnO (Lw N w e) j))) ∧ pts.length ≤ pts'.length ∧ pts'.length ≤ pts.length + 1 ∧ L ≤ L' ∧ fr b p (L' - L) (6 * (L' - L)) S T ∧ keN S T) := by
  obtain ⟨a1, a2, a3, a4, a5⟩ := hN.2.2.2.2.1 e he
  obtain ⟨si, fi⟩ := C_line ci
  obtain ⟨sj, fj⟩ := C_line cj
  have ri := lnO_rng hN hw9 hi he
  have rj := lnO_rng hN hw9 hj he
  generalize lnO (Lw N w e) i = u at *
  generalize lnO (Lw N w e) j = v at *
  have stay : (u.1 ≠ v.1 → ¬ inE (ed N e).2.2 (crs u v)) → Rt (C_X3_meet_87 F l (j64 (u.1 - v.1)) (j64 (v.2 - u.2)) (i32 0) S) (fun T => ∃ E' A' Q' L' pts', layI b T p x D P E' A' Q' L' pts' f0 N w ∧ sgOk e f0 pts' ∧ inP (ed N e).2.2 pts' f0 ∧ pts'.take f0 = pts.take f0 ∧ (∀ y, hsP pts f0 y → hsP pts' f0 y) ∧ (u.1 ≠ v.1 → inE (ed N e).2.2 (crs u v) → hsP pts' f0 (crs u v)) ∧ pts.length ≤ pts'.length ∧ pts'.length ≤ pts.length + 1 ∧ L ≤ L' ∧ fr b p (L' - L) (6 * (L' - L)) S T ∧ keN S T) := by
    intro hn
    unfold C_X3_meet_87
    rw [if_pos (show i32 0 = 0 from rfl)]
    exact Rt.some ⟨E, A, Q, L, pts, h, hg, hin, rfl, fun _ z => z, fun z1 z2 => absurd z2 (hn z1), Nat.le_refl _, by omega, Nat.le_refl _, fr.rf h.1, keN.rf⟩
  have go : ∀ (s : Int) (a c : Nat), (s = 1 ∨ s = -1) → v.2 - u.2 = s * a → u.1 - v.1 = s * c → 0 < c → (a : Int) ≤ (ed N e).2.2 * c → crs u v = ((a : Int), (c : Int)) → Rt (C_X3_meet_87 F l (j64 (u.1 - v.1)) (j64 (v.2 - u.2)) (i32 1) S) (fun T => ∃ E' A' Q' L' pts', layI b T p x D P E' A' Q' L' pts' f0 N w ∧ sgOk e f0 pts' ∧ inP (ed N e).2.2 pts' f0 ∧ pts'.take f0 = pts.take f0 ∧ (∀ y, hsP pts f0 y → hsP pts' f0 y) ∧ (u.1 ≠ v.1 → inE (ed N e).2.2 (crs u v) → hsP pts' f0 (crs u v)) ∧ pts.length ≤ pts'.length ∧ pts'.length ≤ pts.length + 1 ∧ L ≤ L' ∧ fr b p (L' - L) (6 * (L' - L)) S T ∧ keN S T) := by
    intro s a c hs ha hc hc0 hac hcr
    have hcs : (c : Int) ≤ 198 := by rcases hs with rfl | rfl <;> omega
    unfold C_X3_meet_87
    rw [if_neg (show ¬ i32 1 = 0 by decide), gA_of (k := 0) cl rfl, gI_of (k := 1) cl rfl]
    refine Rt.let (Rt.let ?_)
    rw [ha, hc]
    refine Rt.bind (C_take hN hs h hg he hc0 (by omega) hac hl hin hF) ?_
    rintro T ⟨E', A', Q', L', pts', t1, t2, t3, t4, t5, t6, t7⟩
    exact Rt.some ⟨E', A', Q', L', pts', t1, t2, t3, t4, t5, fun _ _ => by rw [hcr]; exact t6, t7⟩
  unfold C_X3_meet C_X3_meet_53 C_X3_meet_86
  rw [si, sj, fi, fj]
  simp only [Option.bind_eq_bind, Option.bind_some, i_sub]
  rw [i_long (by omega) (by omega), i_long (by omega) (by omega), i_long (by omega) (by omega), j_mul]
  generalize hq : u.1 - v.1 = q at *
  generalize hp : v.2 - u.2 = r at *
  have mq : (ed N e).2.2 * q ≤ 50 * 198 ∧ -(50 * 198) ≤ (ed N e).2.2 * q := by
    by_cases h0 : 0 ≤ q
    · have := mul_rng (a := (ed N e).2.2) (b := q) (A := 50) (B := 198) (by omega) a5 h0 (by omega); omega
    · have := mul_rng (a := (ed N e).2.2) (b := -q) (A := 50) (B := 198) (by omega) a5 (by omega) (by omega)
      rw [Int.mul_neg] at this; omega
  simp (disch := omega) only [j_c0, j_le, j_lt, j_eq]
  have cpos : 0 < q → crs u v = (r, q) := fun h0 => by unfold crs; rw [hq, if_pos h0, hp]
  have cneg : q < 0 → crs u v = (-r, -q) := fun h0 => by unfold crs; rw [hq, if_neg (by omega), hp]
  refine Rt.ite (fun h1 => Rt.ite (fun h2 => stay (fun z => absurd (by omega) z)) (fun h2 => ?_)) (fun h1 => ?_)
  · refine Rt.ite (fun h3 => stay (fun _ => ?_)) (fun h3 => Rt.ite (fun h4 => stay (fun _ => ?_)) (fun h4 => ?_))
    · rw [cneg (by omega)]; intro z; have := z.2.1; simp only at this; omega
    · rw [cneg (by omega)]; intro z; have := z.2.2; simp only at this; rw [Int.mul_neg] at this; omega
    · refine go (-1) (-r).toNat (-q).toNat (Or.inr rfl) (by omega) (by omega) (by omega) ?_ ?_
      · rw [show (((-r).toNat : Nat) : Int) = -r by omega, show (((-q).toNat : Nat) : Int) = -q by omega, Int.mul_neg]; omega
      · rw [cneg (by omega), show (((-r).toNat : Nat) : Int) = -r by omega, show (((-q).toNat : Nat) : Int) = -q by omega]
  · refine Rt.ite (fun h3 => stay (fun _ => ?_)) (fun h3 => Rt.ite (fun h4 => stay (fun _ => ?_)) (fun h4 => ?_))
    · rw [cpos (by omega)]; intro z; have := z.2.1; simp only at this; omega
    · rw [cpos (by omega)]; intro z; have := z.2.2; simp only at this; omega
    · refine go 1 r.toNat q.toNat (Or.inl rfl) (by omega) (by omega) (by omega) ?_ ?_
      · rw [show ((r.toNat : Nat) : Int) = r by omega, show ((q.toNat : Nat) : Int) = q by omega]; omega
      · rw [cpos (by omega), show ((r.toNat : Nat) : Int) = r by omega, show ((q.toNat : Nat) : Int) = q by omega]
end CL
