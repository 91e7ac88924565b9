/-! THE CLASS LAYS THE POINTS of all edges -/
def edP (pts : List (Nat × Fq)) (e : Nat) : List Fq := (pts.filter (fun q => q.1 == e)).map Prod.snd
theorem edP_mem {pts : List (Nat × Fq)} {e : Nat} {c : Fq} : c ∈ edP pts e ↔ ∃ k, k < pts.length ∧ pts.getD k (0, 0, 1) = (e, c) := by
  unfold edP
  rw [List.mem_map]
  constructor
  · rintro ⟨q, hq, rfl⟩
    rw [List.mem_filter] at hq
    obtain ⟨k, hk, e1⟩ := List.mem_iff_getElem.mp hq.1
    refine ⟨k, hk, ?_⟩
    rw [List.getD_eq_getElem?_getD, List.getElem?_eq_getElem hk, Option.getD_some, e1]
    have := hq.2
    simp at this
    rw [← this]
  · rintro ⟨k, hk, e1⟩
    refine ⟨(e, c), List.mem_filter.mpr ⟨?_, by simp⟩, rfl⟩
    rw [List.getD_eq_getElem?_getD, List.getElem?_eq_getElem hk, Option.getD_some] at e1
    rw [← e1]; exact List.getElem_mem hk
/-- the list has all places that count -/
def core4 (N : Net) (w : Nat → Int) (e : Nat) (cs : List Fq) : Prop := cdB (ed N e).2.2 (sts N e) cs ∧ cdX (fun i => i < nN N) (Lw N w e) (ed N e).2.2 cs ∧ cdO (fun i => i < nN N) (Lw N w e) (ed N e).2.2 cs ∧ smC (ed N e).2.2 cs
theorem hasF_mem {cs ds : List Fq} {y : Fq} (h : ∀ c, c ∈ cs → c ∈ ds) (hy : hasF cs y) : hasF ds y := by
  obtain ⟨c, c1, c2⟩ := hy
  exact ⟨c, h c c1, c2⟩
theorem core4.mem {N : Net} {w : Nat → Int} {e : Nat} {cs ds : List Fq} (h : core4 N w e cs) (hm : ∀ c, c ∈ cs ↔ c ∈ ds) : core4 N w e ds := by
  obtain ⟨⟨a1, a2, a3, a4⟩, b1, c1, d1⟩ := h
  have m : ∀ c, c ∈ cs → c ∈ ds := fun c hc => (hm c).mp hc
  exact ⟨⟨fun c hc => a1 c ((hm c).mpr hc), hasF_mem m a2, hasF_mem m a3, fun s hs => ⟨hasF_mem m (a4 s hs).1, hasF_mem m (a4 s hs).2⟩⟩, fun i j l m' hi hj hij hl hm' hne hin => hasF_mem m (b1 i j l m' hi hj hij hl hm' hne hin), fun i hi hne hin => hasF_mem m (c1 i hi hne hin), fun c hc => d1 c ((hm c).mpr hc)⟩
theorem lnO_of {L : Lns} {i : Nat} {l : Fq} (h : isLn L i l) : ∃ k, k / 2 = i ∧ lnO L k = l := by
  unfold lnO
  rcases h with h | h
  · exact ⟨2 * i, by omega, by rw [if_pos (by omega), show 2 * i / 2 = i by omega, h]⟩
  · exact ⟨2 * i + 1, by omega, by rw [if_neg (by omega), show (2 * i + 1) / 2 = i by omega, h]⟩
theorem seg_core {N : Net} {w : Nat → Int} {e f0 : Nat} {pts : List (Nat × Fq)} (hg : sgOk e f0 pts) (hin : inP (ed N e).2.2 pts f0) (hG : ∀ y, gAll N w e y → hsP pts f0 y) (hlo : ∀ k, k < f0 → (pts.getD k (0, 0, 1)).1 ≠ e) : core4 N w e (edP pts e) := by
  have mem : ∀ c, c ∈ edP pts e → inE (ed N e).2.2 c ∧ c.2 ≤ 198 := by
    intro c hc
    obtain ⟨k, hk, ek⟩ := edP_mem.mp hc
    by_cases c1 : k < f0
    · exact absurd (by rw [ek]) (hlo k c1)
    · have := hin k (by omega) hk
      rw [ek] at this; exact this
  have has : ∀ y, gAll N w e y → hasF (edP pts e) y := by
    intro y hy
    obtain ⟨k, h1, h2, h3⟩ := hG y hy
    exact ⟨_, edP_mem.mpr ⟨k, h2, Prod.ext (hg.2.1 k h1 h2).1 rfl⟩, h3⟩
  have pair : ∀ a c, a < 2 * nN N → c < 2 * nN N → a ≠ c → (lnO (Lw N w e) a).1 ≠ (lnO (Lw N w e) c).1 → inE (ed N e).2.2 (crs (lnO (Lw N w e) a) (lnO (Lw N w e) c)) → hasF (edP pts e) (crs (lnO (Lw N w e) a) (lnO (Lw N w e) c)) := by
    intro a c ha hc hne h1 h2
    by_cases l : c < a
    · exact has _ (Or.inr (Or.inl ⟨a, c, l, Or.inl ha, h1, h2, rfl⟩))
    · rw [crs_comm h1] at h2 ⊢
      exact has _ (Or.inr (Or.inl ⟨c, a, by omega, Or.inl hc, Ne.symm h1, h2, rfl⟩))
  refine ⟨⟨fun c hc => (mem c hc).1, has _ (Or.inl (Or.inl rfl)), has _ (Or.inl (Or.inr rfl)), fun s hs => ?_⟩, ?_, ?_, mem⟩
  · unfold sts at hs
    obtain ⟨q, hq, rfl⟩ := List.mem_map.mp hs
    rw [List.mem_filter] at hq
    obtain ⟨k, hk, e1⟩ := List.mem_iff_getElem.mp hq.1
    have ek : sd N k = q := by unfold sd; rw [List.getD_eq_getElem?_getD, List.getElem?_eq_getElem hk, Option.getD_some, e1]
    have e2 : q.1 = e := by have := hq.2; simp at this; exact this
    exact ⟨has _ (Or.inr (Or.inr ⟨k, hk, by rw [ek]; exact e2, Or.inl (by rw [ek])⟩)), has _ (Or.inr (Or.inr ⟨k, hk, by rw [ek]; exact e2, Or.inr (by rw [ek])⟩))⟩
  · intro i j l m hi hj hij hl hm hne hin
    obtain ⟨a, a1, rfl⟩ := lnO_of hl
    obtain ⟨c, c1, rfl⟩ := lnO_of hm
    exact pair a c (by omega) (by omega) (by omega) hne hin
  · intro i hi hne hin
    have e1 : lnO (Lw N w e) (2 * i) = (Lw N w e i).1 := by unfold lnO; rw [if_pos (by omega), show 2 * i / 2 = i by omega]
    have e2 : lnO (Lw N w e) (2 * i + 1) = (Lw N w e i).2 := by unfold lnO; rw [if_neg (by omega), show (2 * i + 1) / 2 = i by omega]
    have := pair (2 * i) (2 * i + 1) (by omega) (by omega) (by omega)
    rw [e1, e2] at this
    exact this hne hin
/-- the points of the edges ahead of e are laid -/
def lpD (N : Net) (w : Nat → Int) (e : Nat) (pts : List (Nat × Fq)) : Prop := (∀ k, k < pts.length → (pts.getD k (0, 0, 1)).1 < e ∧ rdd (pts.getD k (0, 0, 1)).2) ∧ (∀ j k, j < k → k < pts.length → (pts.getD j (0, 0, 1)).1 < (pts.getD k (0, 0, 1)).1 ∨ (pts.getD j (0, 0, 1)).1 = (pts.getD k (0, 0, 1)).1 ∧ flt (pts.getD j (0, 0, 1)).2 (pts.getD k (0, 0, 1)).2) ∧ (∀ e', e' < e → core4 N w e' (edP pts e')) ∧ pts.length ≤ 134 * e
theorem getD_take {α : Type} {xs ys : List α} {n k : Nat} {z : α} (h : xs.take n = ys.take n) (hk : k < n) : xs.getD k z = ys.getD k z := by
  have : (xs.take n)[k]? = (ys.take n)[k]? := by rw [h]
  rw [List.getElem?_take_of_lt hk, List.getElem?_take_of_lt hk] at this
  rw [List.getD_eq_getElem?_getD, List.getD_eq_getElem?_getD, this]
theorem lpD.step {N : Net} {w : Nat → Int} {e f0 : Nat} {pts pts' : List (Nat × Fq)} (h : lpD N w e pts) (hf : f0 = pts.length) (hg : sgOk e f0 pts') (hin : inP (ed N e).2.2 pts' f0) (ht : pts'.take f0 = pts.take f0) (hl : pts.length ≤ pts'.length) (hl2 : pts'.length ≤ pts.length + 134) (hG : ∀ y, gAll N w e y → hsP pts' f0 y) : lpD N w (e + 1) pts' := by
  obtain ⟨h1, h2, h3, h4⟩ := h
  have old : ∀ k, k < f0 → pts'.getD k (0, 0, 1) = pts.getD k (0, 0, 1) := fun k hk => getD_take ht hk
  refine ⟨fun k hk => ?_, fun j k hjk hk => ?_, fun e' he' => ?_, by omega⟩
  · by_cases c : k < f0
    · rw [old k c]; exact ⟨by have := (h1 k (by omega)).1; omega, (h1 k (by omega)).2⟩
    · have := hg.2.1 k (by omega) hk
      exact ⟨by omega, this.2⟩
  · by_cases c : k < f0
    · rw [old k c, old j (by omega)]; exact h2 j k hjk (by omega)
    · have ek := hg.2.1 k (by omega) hk
      by_cases c2 : j < f0
      · rw [old j c2, ek.1]; exact Or.inl (h1 j (by omega)).1
      · exact Or.inr ⟨by rw [ek.1, (hg.2.1 j (by omega) (by omega)).1], hg.2.2 j k (by omega) hjk hk⟩
  · by_cases c : e' = e
    · subst c
      exact seg_core hg hin hG (fun k hk => by rw [old k hk]; have := (h1 k (by omega)).1; omega)
    · refine (h3 e' (by omega)).mem (fun c' => ?_)
      rw [edP_mem, edP_mem]
      constructor
      · rintro ⟨k, hk, ek⟩
        exact ⟨k, by omega, by rw [old k (by omega)]; exact ek⟩
      · rintro ⟨k, hk, ek⟩
        by_cases c3 : k < f0
        · exact ⟨k, by omega, by rw [← old k c3]; exact ek⟩
        · have := (hg.2.1 k (by omega) hk).1
          rw [ek] at this
          exact absurd this c
/-- all cells but a plan's are kept -/
def keP (S T : St) : Prop := ∀ q e, S.1 q = some e → netK e → T.1 q = some e
theorem keP.put {S : St} {p : Nat} {fs : List Value} {c : Cel} (h : S.1 p = some (cO 3 fs)) : keP S (put S p c) := by
  intro q e hq hn
  rw [put_ne]
  · exact hq
  · rintro rfl
    rw [h] at hq; cases hq; exact hn rfl
section CQ
variable {S T : St} {b x p D P E A Q L B W M u : Nat} {pts : List (Nat × Fq)} {f0 : Nat} {N : Net} {w : Nat → Int} {F : Nat} {v3 v4 v5 v6 : Option Nat} {mem : Nat → Prop}
theorem ptC.ke (h : ptC b S P E A Q L pts f0) (k : keP S T) : ptC b T P E A Q L pts f0 := by
  obtain ⟨h1, h2, h3, h4, h5, h6, fe, fa, fq, h7, h8, h9, h10⟩ := h
  exact ⟨h1, k _ _ h2 (show (6 : Nat) ≠ 3 by decide), h3, h4, h5, h6, fe, fa, fq, k _ _ h7 trivial, k _ _ h8 trivial, k _ _ h9 trivial, h10⟩
theorem bsC.ke (h : bsC b S B W M u mem) (k : keP S T) : bsC b T B W M u mem := by
  obtain ⟨h1, h3, h4, ⟨f, g, f1, f2⟩, h7⟩ := h
  exact ⟨h1, k _ _ h3 (show (16 : Nat) ≠ 3 by decide), h4, ⟨f, g, k _ _ f1 trivial, f2⟩, h7⟩
theorem bsC.ex {c d : Nat} (h : bsC b S B W M u mem) (hf : ex c d S T) : bsC b T B W M u mem := h.ke (fun _ _ hq _ => hf.get hq)
theorem planB.putv {u3 u4 u5 u6 : Option Nat} (h : planB b S p x D N w v3 v4 v5 v6) : planB b (put S p (cO 3 [.ref x, .int (i32 (nN N)), .ref D, vOf u3, vOf u4, vOf u5, vOf u6])) p x D N w u3 u4 u5 u6 := by
  obtain ⟨h1, h2, h3, ⟨f, f1, f2⟩, h4⟩ := h
  have k := keP.put (c := cO 3 [.ref x, .int (i32 (nN N)), .ref D, vOf u3, vOf u4, vOf u5, vOf u6]) h2
  exact ⟨h1, put_me _ _ _, h3, ⟨f, k _ _ f1 trivial, f2⟩, h4.mono (Nat.le_refl _) (fun q e _ hn hq => k q e hq hn)⟩
/-- the points' allowed ones -/
def alM (N : Net) (pts : List (Nat × Fq)) (k : Nat) : Prop := k < pts.length ∧ alw (sts N (pts.getD k (0, 0, 1)).1) (pts.getD k (0, 0, 1)).2
/-- the plan with its points -/
def plP (b : Nat) (S : St) (p x D P E A Q L : Nat) (pts : List (Nat × Fq)) (B W M u : Nat) (N : Net) (w : Nat → Int) (v5 v6 : Option Nat) (mem : Nat → Prop) : Prop := wfS S ∧ planB b S p x D N w (some P) (some B) v5 v6 ∧ ptC b S P E A Q L pts pts.length ∧ bsC b S B W M u mem ∧ lpD N w (eN N) pts ∧ D ≠ E ∧ D ≠ A ∧ D ≠ Q
/-- the points' cells, new -/
theorem C_init7 (hw : wfS S) : ∃ T, C_X7_init (al S (cO 6 df_6) 5) S.2.1 = some T ∧ ex 4 197 S T ∧ (b ≤ S.2.1 → ptC b T S.2.1 (S.2.1 + 1) (S.2.1 + 2) (S.2.1 + 3) 64 [] 0) := by
  have mk : ∀ U : St, nI_ U 0 64 = some (U.2.1, al U (cI 0 64 (fun _ => 0)) 64) := fun U => mkI (n := 64) (by decide) (by decide)
  have c0 := al_me S 5 (cO 6 df_6)
  have x0 : ex 1 5 S (al S (cO 6 df_6) 5) := ex.al hw
  have n0 : (al S (cO 6 df_6) 5).2.1 = S.2.1 + 1 := rfl
  unfold C_X7_init
  generalize al S (cO 6 df_6) 5 = S0 at *
  have w0 := x0.1
  -- the first
  have c1 : (al S0 (cI 0 64 (fun _ => 0)) 64).1 S.2.1 = some (cO 6 df_6) := by rw [al_ne (by omega)]; exact c0
  have g1 : gP (al S0 (cI 0 64 (fun _ => 0)) 64) 6 S.2.1 0 (.ref S0.2.1) = some (put (al S0 (cI 0 64 (fun _ => 0)) 64) S.2.1 (cO 6 [.ref S0.2.1, .null, .null, .int 0, .int 0])) := gP_of c1 (by decide)
  have x1 := ex.put (e := cO 6 [.ref S0.2.1, .null, .null, .int 0, .int 0]) hw (ex_al (n := 64) (e := cI 0 64 (fun _ => 0)) x0) (Nat.le_refl _) c1
  have e1 : (put (al S0 (cI 0 64 (fun _ => 0)) 64) S.2.1 (cO 6 [.ref S0.2.1, .null, .null, .int 0, .int 0])).1 S0.2.1 = some (cI 0 64 (fun _ => 0)) := by rw [put_ne (by omega)]; exact al_me _ _ _
  have d1 := put_me (al S0 (cI 0 64 (fun _ => 0)) 64) S.2.1 (cO 6 [.ref S0.2.1, .null, .null, .int 0, .int 0])
  have n1 : (put (al S0 (cI 0 64 (fun _ => 0)) 64) S.2.1 (cO 6 [.ref S0.2.1, .null, .null, .int 0, .int 0])).2.1 = S0.2.1 + 1 := rfl
  rw [mk]
  simp only [Option.bind_eq_bind, Option.bind_some]
  rw [g1]
  simp only [Option.bind_eq_bind, Option.bind_some]
  generalize put (al S0 (cI 0 64 (fun _ => 0)) 64) S.2.1 (cO 6 [.ref S0.2.1, .null, .null, .int 0, .int 0]) = S1 at *
  -- the second
  have c2 : (al S1 (cI 0 64 (fun _ => 0)) 64).1 S.2.1 = some (cO 6 [.ref S0.2.1, .null, .null, .int 0, .int 0]) := by rw [al_ne (by omega)]; exact d1
  have g2 : gP (al S1 (cI 0 64 (fun _ => 0)) 64) 6 S.2.1 1 (.ref S1.2.1) = some (put (al S1 (cI 0 64 (fun _ => 0)) 64) S.2.1 (cO 6 [.ref S0.2.1, .ref S1.2.1, .null, .int 0, .int 0])) := gP_of c2 (by simp)
  have x2 := ex.put (e := cO 6 [.ref S0.2.1, .ref S1.2.1, .null, .int 0, .int 0]) hw (ex_al (n := 64) (e := cI 0 64 (fun _ => 0)) x1) (Nat.le_refl _) c2
  have e2 : (put (al S1 (cI 0 64 (fun _ => 0)) 64) S.2.1 (cO 6 [.ref S0.2.1, .ref S1.2.1, .null, .int 0, .int 0])).1 S1.2.1 = some (cI 0 64 (fun _ => 0)) := by rw [put_ne (by omega)]; exact al_me _ _ _
  have e1' : (put (al S1 (cI 0 64 (fun _ => 0)) 64) S.2.1 (cO 6 [.ref S0.2.1, .ref S1.2.1, .null, .int 0, .int 0])).1 S0.2.1 = some (cI 0 64 (fun _ => 0)) := by rw [put_ne (by omega), al_ne (by omega)]; exact e1
  have d2 := put_me (al S1 (cI 0 64 (fun _ => 0)) 64) S.2.1 (cO 6 [.ref S0.2.1, .ref S1.2.1, .null, .int 0, .int 0])
  have n2 : (put (al S1 (cI 0 64 (fun _ => 0)) 64) S.2.1 (cO 6 [.ref S0.2.1, .ref S1.2.1, .null, .int 0, .int 0])).2.1 = S1.2.1 + 1 := rfl
  rw [mk]
  simp only [Option.bind_eq_bind, Option.bind_some]
  rw [g2]
  simp only [Option.bind_eq_bind, Option.bind_some]
  generalize put (al S1 (cI 0 64 (fun _ => 0)) 64) S.2.1 (cO 6 [.ref S0.2.1, .ref S1.2.1, .null, .int 0, .int 0]) = S2 at *
  -- the third
  have c3 : (al S2 (cI 0 64 (fun _ => 0)) 64).1 S.2.1 = some (cO 6 [.ref S0.2.1, .ref S1.2.1, .null, .int 0, .int 0]) := by rw [al_ne (by omega)]; exact d2
  have g3 : gP (al S2 (cI 0 64 (fun _ => 0)) 64) 6 S.2.1 2 (.ref S2.2.1) = some (put (al S2 (cI 0 64 (fun _ => 0)) 64) S.2.1 (cO 6 [.ref S0.2.1, .ref S1.2.1, .ref S2.2.1, .int 0, .int 0])) := gP_of c3 (by simp)
  have x3 := ex.put (e := cO 6 [.ref S0.2.1, .ref S1.2.1, .ref S2.2.1, .int 0, .int 0]) hw (ex_al (n := 64) (e := cI 0 64 (fun _ => 0)) x2) (Nat.le_refl _) c3
  rw [mk]
  simp only [Option.bind_eq_bind, Option.bind_some]
  rw [g3]
  refine ⟨_, rfl, x3.le (by omega) (by omega), fun hb => ?_⟩
  have m0 : S0.2.1 = S.2.1 + 1 := n0
  have m1 : S1.2.1 = S.2.1 + 2 := by omega
  have m2 : S2.2.1 = S.2.1 + 3 := by omega
  rw [m0] at e1'
  rw [m1] at e2
  have k3 := al_me S2 64 (cI 0 64 (fun _ => 0))
  rw [m2] at k3
  rw [m0, m1, m2]
  refine ⟨hb, put_me _ _ _, ⟨by omega, by omega, by omega⟩, ⟨by omega, by omega, by omega⟩, by simp, ⟨by omega, by simp⟩, fun _ => 0, fun _ => 0, fun _ => 0, ?_, ?_, ?_, fun k hk => by simp at hk⟩
  · rw [put_ne (by omega), al_ne (by omega)]; exact e1'
  · rw [put_ne (by omega), al_ne (by omega)]; exact e2
  · rw [put_ne (by omega)]; exact k3
/-- the segment is closed -/
theorem C_turn (h : layI b S p x D P E A Q L pts f0 N w) : Rt (C_X7_turn S P) (fun T => layI b T p x D P E A Q L pts pts.length N w ∧ fr b p 0 0 S T) := by
  obtain ⟨hw, hB, hP, h1, h2, h3⟩ := h
  obtain ⟨a1, a2, a3, a4, a5, a6, fe, fa, fq, a7, a8, a9, a10⟩ := hP
  obtain ⟨b1, b2, b3, ⟨f, f1, f2⟩, b4⟩ := hB
  unfold C_X7_turn
  rw [gO_of a2, gI_of (k := 3) a2 rfl]
  refine Rt.let (Rt.let ?_)
  rw [gP_of a2 (by simp)]
  refine Rt.let (Rt.some ?_)
  have hf : fr b p 0 0 S (put S P (cO 6 [.ref E, .ref A, .ref Q, .int (i32 pts.length), .int (i32 pts.length)])) := fr.put hw a2 (Or.inr ⟨a1, rfl⟩)
  have ot : ∀ {q : Nat} {e : Cel}, S.1 q = some e → nP e → (put S P (cO 6 [.ref E, .ref A, .ref Q, .int (i32 pts.length), .int (i32 pts.length)])).1 q = some e := by
    intro q e hq hn
    rw [put_ne]
    · exact hq
    · rintro rfl
      rw [a2] at hq; cases hq; exact hn rfl
  have oa : ∀ {q : Nat} {g : Nat → Int32} {m : Nat}, S.1 q = some (cI 0 m g) → (put S P (cO 6 [.ref E, .ref A, .ref Q, .int (i32 pts.length), .int (i32 pts.length)])).1 q = some (cI 0 m g) := by
    intro q g m hq
    rw [put_ne]
    · exact hq
    · rintro rfl
      rw [a2] at hq; cases hq
  exact ⟨⟨hf.1, ⟨b1, ot b2 (show (3 : Nat) ≠ 6 by decide), b3, ⟨f, oa f1, f2⟩, b4.fr b2 hf⟩, ⟨a1, put_me _ _ _, a3, a4, a5, a6, fe, fa, fq, oa a7, oa a8, oa a9, a10⟩, h1, h2, h3⟩, hf⟩
/-- a bit is set: the plan stays -/
theorem plP.bs {mem' : Nat → Prop} {W' M' u' c d : Nat} (h : plP b S p x D P E A Q L pts B W M u N w v5 v6 mem) (hb : bsC b T B W' M' u' mem') (hk : bsK S T B W W' c d) : plP b T p x D P E A Q L pts B W' M' u' N w v5 v6 mem' ∧ fr b p c d S T := by
  obtain ⟨hw, ⟨b1, b2, b3, ⟨f, f1, f2⟩, b4⟩, ⟨a1, a2, a3, a4, a5, a6, fe, fa, fq, a7, a8, a9, a10⟩, ⟨⟨g1, g2⟩, g3, g4, ⟨fb, gb, g5, g6⟩, g7⟩, h5, h6⟩ := h
  obtain ⟨k1, k2, k3, k4, k5, k6⟩ := hk
  have hf : fr b p c d S T := by
    refine ⟨k1, k2, k3, k4, fun q e hq hp hc => k5 q e hq ?_ ?_⟩
    · rintro rfl
      rw [g3] at hq; cases hq
      rcases hc with hc | hc
      · omega
      · cases hc
    · rintro rfl
      rw [g5] at hq; cases hq
      rcases hc with hc | hc
      · omega
      · cases hc
  have ob : ∀ {q ci : Nat} {fs : List Value}, S.1 q = some (cO ci fs) → ci ≠ 16 → T.1 q = some (cO ci fs) := by
    intro q ci fs hq hn
    refine k5 q _ hq ?_ ?_
    · rintro rfl
      rw [g3] at hq; cases hq; exact hn rfl
    · rintro rfl
      rw [g5] at hq; cases hq
  have oa : ∀ {q m : Nat} {g : Nat → Int32}, S.1 q = some (cI 0 m g) → T.1 q = some (cI 0 m g) := by
    intro q m g hq
    refine k5 q _ hq ?_ ?_
    · rintro rfl
      rw [g3] at hq; cases hq
    · rintro rfl
      rw [g5] at hq; cases hq
  exact ⟨⟨k1, ⟨b1, ob b2 (by decide), b3, ⟨f, oa f1, f2⟩, b4.mono (Nat.le_refl _) (fun q e hq _ he => k5 q e he (by omega) (by omega))⟩, ⟨a1, ob a2 (by decide), a3, a4, a5, a6, fe, fa, fq, oa a7, oa a8, oa a9, a10⟩, hb, h5, h6⟩, hf⟩
/-- what is read of a point -/
theorem plP.pt {k : Nat} (hN : okN N) (h : plP b S p x D P E A Q L pts B W M u N w v5 v6 mem) (hk : k < pts.length) : lI S 0 E (i32 k) = some (i32 (pts.getD k (0, 0, 1)).1) ∧ lI S 0 A (i32 k) = some (i32 (pts.getD k (0, 0, 1)).2.1) ∧ lI S 0 Q (i32 k) = some (i32 (pts.getD k (0, 0, 1)).2.2) := by
  obtain ⟨hw, -, ⟨a1, a2, a3, a4, a5, a6, fe, fa, fq, a7, a8, a9, a10⟩, -, h5, -⟩ := h
  have z2 := hN.sz.2.1
  have hl := h5.2.2.2
  obtain ⟨e1, e2, e3⟩ := a10 k hk
  rw [lI_of a7 (by omega) (by omega) (by omega), lI_of a8 (by omega) (by omega) (by omega), lI_of a9 (by omega) (by omega) (by omega), Int.toNat_natCast, e1, e2, e3]
  exact ⟨rfl, rfl, rfl⟩
theorem plP.gP (h : plP b S p x D P E A Q L pts B W M u N w v5 v6 mem) : gA S 6 P 0 = some E ∧ gA S 6 P 1 = some A ∧ gA S 6 P 2 = some Q ∧ gI S 6 P 3 = some (i32 pts.length) := by
  obtain ⟨hw, -, ⟨a1, a2, -⟩, -⟩ := h
  exact ⟨gA_of a2 rfl, gA_of a2 rfl, gA_of a2 rfl, gI_of a2 rfl⟩
/-- the allowed points are marked -/
theorem C_lay64 (hN : okN N) (h : plP b S p x D P E A Q L pts B W 1 u N w none none (fun _ => False)) (hF : 4294967296 < F) :
    Rt (C_X3_layPoints_64 F p F (i32 0) S) (fun T => ∃ W M u, plP b T p x D P E A Q L pts B W M u N w none none (alM N pts) ∧ fr b p 51 102 S T) := by
  have z2 := hN.sz.2.1
  have hl := h.2.2.2.2.1.2.2.2
  refine Rt.loop (ι := Nat) (fun k v U => v = i32 k ∧ k ≤ pts.length ∧ ∃ W M u, M ≤ 52 ∧ plP b U p x D P E A Q L pts B W M u N w none none (fun j => j < k ∧ alM N pts j) ∧ fr b p (M - 1) (2 * (M - 1)) S U) (fun k => pts.length - k) ?_ F 0 _ _ ⟨rfl, by omega, W, 1, u, by omega, ?_, fr.rf h.1⟩ (by omega)
  rotate_left
  · have : (fun j => j < 0 ∧ alM N pts j) = (fun _ => False) := by funext j; simp
    rw [this]; exact h
  rintro n k _ U ⟨rfl, hk, W, M, u, hM, hU, fU⟩ ih
  obtain ⟨q1, q2, q3, q4⟩ := hU.gP
  obtain ⟨-, g1, -, -, g3, g4, -⟩ := hU.2.1.g
  unfold C_X3_layPoints_64
  rw [g3]
  refine Rt.let (Rt.let ?_)
  rw [q4]
  refine Rt.let (Rt.ite (fun hh => ?_) (fun hh => ?_))
  · rw [i_le (by omega) (by omega) (by omega) (by omega)] at hh
    obtain rfl : k = pts.length := by omega
    refine Rt.some ⟨W, M, u, ?_, fU.le (by omega) (by omega)⟩
    have : (fun j => j < pts.length ∧ alM N pts j) = alM N pts := by
      funext j
      exact propext ⟨fun z => z.2, fun z => ⟨z.1, z⟩⟩
    rw [this] at hU; exact hU
  rw [i_le (by omega) (by omega) (by omega) (by omega)] at hh
  have hk' : k < pts.length := by omega
  obtain ⟨l1, l2, l3⟩ := hU.pt hN hk'
  obtain ⟨r1, r2, -⟩ := hU.2.2.2.2.1.1 k hk'
  obtain ⟨o1, o2, o3, o4⟩ := r2
  rw [g1]
  refine Rt.let (Rt.let (Rt.let ?_))
  rw [q1]
  refine Rt.let ?_
  rw [l1]
  refine Rt.let (Rt.let (Rt.let ?_))
  rw [q2]
  refine Rt.let ?_
  rw [l2]
  refine Rt.let (Rt.let (Rt.let ?_))
  rw [q3]
  refine Rt.let ?_
  rw [l3]
  refine Rt.let ?_
  rw [i_long (by omega) (by omega), i_long (by omega) (by omega)]
  refine Rt.tst (C_isAllowed hN hU.2.1.2.2.2.2 r1 ⟨o1, o2, o3, o4⟩ hF) (fun hn => ?_) (fun hy => ?_)
  · unfold C_X3_layPoints_122
    rw [i_c1, i_add]
    refine Rt.let (ih (k + 1) _ _ ⟨rfl, by omega, W, M, u, hM, ?_, fU⟩ (by omega))
    have : (fun j => j < k + 1 ∧ alM N pts j) = (fun j => j < k ∧ alM N pts j) := by
      funext j
      refine propext ⟨fun z => ⟨?_, z.2⟩, fun z => ⟨by omega, z.2⟩⟩
      have : j ≠ k := by
        rintro rfl
        exact hn z.2.2
      omega
    rw [this]; exact hU
  · rw [g4]
    refine Rt.let (Rt.let ?_)
    refine Rt.bind (C_bsSet (i := k) hU.1 hU.2.2.2.1 (by omega) (by omega) hF) ?_
    rintro V ⟨W', M', u', v1, v2, v3, v4⟩
    obtain ⟨hV, fV⟩ := hU.bs v1 v4
    unfold C_X3_layPoints_122
    rw [i_c1, i_add]
    have := hU.2.2.2.1.2.2.1
    refine Rt.let (ih (k + 1) _ _ ⟨rfl, by omega, W', M', u', by omega, ?_, fU.tr fV (by omega) (by omega)⟩ (by omega))
    have : (fun j => j < k + 1 ∧ alM N pts j) = (fun j => (j < k ∧ alM N pts j) ∨ j = k) := by
      funext j
      refine propext ⟨fun z => ?_, ?_⟩
      · by_cases c : j = k
        · exact Or.inr c
        · exact Or.inl ⟨by omega, z.2⟩
      · rintro (z | rfl)
        · exact ⟨by omega, z.2⟩
        · exact ⟨by omega, hk', hy⟩
    rw [this]; exact hV
/-- the marks' cells; the marks -/
theorem C_lay51 (hN : okN N) (h : layI b S p x D P E A Q L pts pts.length N w) (hd : lpD N w (eN N) pts) (hb : b ≤ S.2.1) (hF : 4294967296 < F) :
    Rt (C_X3_layPoints_51 F p S) (fun T => ∃ B W M u, plP b T p x D P E A Q L pts B W M u N w none none (alM N pts) ∧ fr b p 53 106 S T) := by
  obtain ⟨T, t1, t2, t3, t4⟩ := C_bsInit (b := b) h.1
  have hT := h.ex t2
  have t3 := t3 hb
  unfold C_X3_layPoints_51
  rw [nO_eq]
  refine Rt.let ?_
  dsimp only
  rw [t1]
  refine Rt.let ?_
  have pc := hT.2.1.2.1
  rw [gP_of pc (by simp)]
  refine Rt.let ?_
  have k := keP.put (c := cO 3 [.ref x, .int (i32 (nN N)), .ref D, vOf (some P), vOf (some S.2.1), vOf none, vOf none]) pc
  have f1 : fr b p 0 0 T (put T p (cO 3 [.ref x, .int (i32 (nN N)), .ref D, vOf (some P), vOf (some S.2.1), vOf none, vOf none])) := fr.put hT.1 pc (Or.inl rfl)
  refine Rt.mono (C_lay64 (u := 0) (W := S.2.1 + 1) hN ⟨hT.1.put pc, hT.2.1.putv (u4 := some S.2.1), hT.2.2.1.ke k, t3.ke k, hd, hT.2.2.2⟩ hF) ?_
  rintro V ⟨W, M, u, v1, v2⟩
  exact ⟨S.2.1, W, M, u, v1, ((t2.fr (b := b) (p := p)).tr f1 (Nat.le_refl _) (Nat.le_refl _)).tr v2 (by omega) (by omega)⟩
/-- all points are laid -/
theorem C_layPoints (hN : okN N) (hw9 : okw9 (nN N) w) (hw : wfS S) (h : planB b S p x D N w none none none none) (hb : b ≤ S.2.1) (hF : 4294967296 < F) :
    Rt (C_X3_layPoints F S p) (fun T => ∃ P E A Q L pts B W M u, plP b T p x D P E A Q L pts B W M u N w none none (alM N pts) ∧ fr b p 3600 21000 S T) := by
  have z2 := hN.sz.2.1
  obtain ⟨⟨fs, g0⟩, -, -, -, g3, -⟩ := h.g
  obtain ⟨T, t1, t2, t3⟩ := C_init7 (b := b) hw
  have t3 := t3 hb
  have hT := h.ex t2
  have pc := hT.2.1
  have lD : D < S.2.1 := by
    obtain ⟨-, -, -, ⟨f, f1, -⟩, -⟩ := h
    exact hw.lt f1
  unfold C_X3_layPoints
  rw [g0, g3]
  refine Rt.let (Rt.let (Rt.ite (fun _ => ?_) (fun z => absurd rfl z)))
  rw [nO_eq]
  refine Rt.let ?_
  dsimp only
  rw [t1]
  refine Rt.let ?_
  rw [gP_of pc (by simp)]
  refine Rt.let ?_
  have k := keP.put (c := cO 3 [.ref x, .int (i32 (nN N)), .ref D, vOf (some S.2.1), vOf none, vOf none, vOf none]) pc
  have f1 : fr b p 0 0 T (put T p (cO 3 [.ref x, .int (i32 (nN N)), .ref D, vOf (some S.2.1), vOf none, vOf none, vOf none])) := fr.put t2.1 pc (Or.inl rfl)
  have f2 := (t2.fr (b := b) (p := p)).tr f1 (Nat.le_refl _) (Nat.le_refl _)
  show Rt (C_X3_layPoints_21 F p F (i32 0) (put T p (cO 3 [.ref x, .int (i32 (nN N)), .ref D, vOf (some S.2.1), vOf none, vOf none, vOf none]))) _
  have hI : layI b (put T p (cO 3 [.ref x, .int (i32 (nN N)), .ref D, vOf (some S.2.1), vOf none, vOf none, vOf none])) p x D S.2.1 (S.2.1 + 1) (S.2.1 + 2) (S.2.1 + 3) 64 [] 0 N w := ⟨t2.1.put pc, hT.putv (u3 := some S.2.1), t3.ke k, by omega, by omega, by omega⟩
  generalize put T p (cO 3 [.ref x, .int (i32 (nN N)), .ref D, vOf (some S.2.1), vOf none, vOf none, vOf none]) = S0 at *
  refine Rt.loop (ι := Nat) (fun e v U => v = i32 e ∧ e ≤ eN N ∧ ∃ E A Q L pts, layI b U p x D S.2.1 E A Q L pts pts.length N w ∧ lpD N w e pts ∧ 64 ≤ L ∧ fr b p (4 + 18 * e + (L - 64)) (197 + 50 * e + 6 * (L - 64)) S U) (fun e => eN N - e) ?_ F 0 _ _ ⟨rfl, by omega, _, _, _, 64, [], hI, ⟨fun k hk => by simp at hk, fun j k _ hk => by simp at hk, fun e' he' => by omega, by simp⟩, Nat.le_refl _, f2.le (by omega) (by omega)⟩ (by omega)
  rintro n e _ U ⟨rfl, he, E, A, Q, L, pts, hU, dU, hL, fU⟩ ih
  obtain ⟨-, u1, -⟩ := hU.2.1.g
  obtain ⟨wa, ta, ea, sa, eq, sq, -, -, -, n2, -, -, n3, -⟩ := hU.2.1.2.2.2.2.get hN.sz
  have hl := dU.2.2.2
  have lL := hU.2.2.1.2.2.2.2.2.1.2
  unfold C_X3_layPoints_21
  rw [u1]
  refine Rt.let ?_
  rw [n2]
  refine Rt.let ?_
  rw [n3]
  refine Rt.let (Rt.ite (fun hh => ?_) (fun hh => ?_))
  · rw [i_le (by omega) (by omega) (by omega) (by omega)] at hh
    obtain rfl : e = eN N := by omega
    refine Rt.mono (C_lay51 hN hU dU (by have := fU.2.1; omega) hF) ?_
    rintro V ⟨B, W, M, u, v1, v2⟩
    exact ⟨_, E, A, Q, L, pts, B, W, M, u, v1, fU.tr v2 (by omega) (by omega)⟩
  rw [i_le (by omega) (by omega) (by omega) (by omega)] at hh
  refine Rt.bind (C_layEdge (e := e) hN hw9 (by omega) hU rfl (by omega) hF) ?_
  rintro V ⟨E', A', Q', L', pts', v1, v2, v3, v4, v5, v6, v7, v8, v9⟩
  obtain ⟨-, -, -, -, y3, -⟩ := v1.2.1.g
  rw [y3]
  refine Rt.let (Rt.let ?_)
  refine Rt.bind (C_turn v1) ?_
  rintro X ⟨x1, x2⟩
  rw [i_c1, i_add]
  refine Rt.let (ih (e + 1) _ _ ⟨rfl, by omega, E', A', Q', L', pts', x1, dU.step rfl v2 v3 v4 v5 v6 v9, by omega, (fU.tr v8 (Nat.le_refl _) (Nat.le_refl _)).tr x2 (by omega) (by omega)⟩ (by omega))
end CQ
