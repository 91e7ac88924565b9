/-! THE MODEL's SCRIPTS: fault, run; the checksum -/
theorem runC_snoc {N : Net} {l : List Cmd} {c : Cmd} : runC N (l ++ [c]) = run1 (runC N l) c := by
  unfold runC; rw [List.foldl_append]; rfl
section MH
variable {σ : MS} {N : Net} {F : Nat} {A : Ab} {t : List Int}
theorem M_goes_eq {d : Int} (hd : d = 0 ∨ d = 1) (hN : mN σ N) (hT : mT σ t) (hD : d = 1 → ∃ l, scr t = .inr l) (hF : 4294967296 < F) :
    Rt (M_goes F σ (i32 d)) (fun v => kp [5, 6, 7] [] [0] [] σ v.2 ∧ (d = 0 → kp [5, 6, 7] [] [] [] σ v.2) ∧ v.1 = i32 (fltA (scr t)) ∧ (∀ l, d = 1 → scr t = .inr l → mN v.2 (runC N l).1 ∧ mI v.2 7 = i32 (runC N l).2)) := by
  have h120 := hT.2.1
  unfold M_goes
  refine Rt.let (Rt.let (Rt.let ?_))
  have kk0 : kp [5, 6, 7] [] [] [] σ (sI (sI (sI σ 5 0) 6 (-1)) 7 0) := kp.tr kp.sI (kp.tr kp.sI kp.sI)
  have hT0 := hT.kp kk0
  have hN0 := hN.kp kk0
  refine Rt.bind (M_looking_eq (p := 0) hT0 rfl (Nat.zero_le _) hF) ?_
  rintro ⟨c, τ⟩ ⟨rfl, k1', k2'⟩
  have sk0 := skp_ok (Nat.zero_le t.length)
  show Rt (M_goes_20 F (i32 d) F (i32 (chr t (skp t 0))) τ) _
  refine Rt.loop (ι := Nat) (fun m c υ => kp [5, 6, 7] [] [0] [] σ υ ∧ (d = 0 → kp [5, 6, 7] [] [] [] σ υ) ∧
    ((∃ p pre n, m = t.length + 1 - p ∧ rdX υ t (.inr p) ∧ skp t p = p ∧ c = i32 (chr t p) ∧ t.length < n + p ∧ scr t = pmap (scrF t n p) (pre ++ ·) ∧ (d = 1 → mN υ (runC N pre).1 ∧ mI υ 7 = i32 (runC N pre).2)) ∨
      (m = 0 ∧ d = 0 ∧ ∃ f, rdX υ t (.inl f) ∧ scr t = .inl f))) (fun m => m) ?_ F (t.length + 1 - skp t 0) _ _ ⟨kp.tr kk0.le k1'.le, fun _ => kp.tr kk0 k1'.le, Or.inl ⟨skp t 0, [], t.length + 1, rfl, ⟨hT0.kp k1', _, k2', sk0.2.1, ?_, rfl⟩, skp_skp (Nat.zero_le _), rfl, by omega, ?_, fun _ => ⟨hN0.kp k1', ?_⟩⟩⟩ (by omega)
  rotate_left
  · rw [k1'.1 6 (by decide)]; rfl
  · have : scrF t (t.length + 1) (skp t 0) = scrF t (t.length + 1) 0 := by
      show (if t.length ≤ skp t (skp t 0) then _ else _) = (if t.length ≤ skp t 0 then _ else _)
      rw [skp_skp (Nat.zero_le _)]
    rw [this]
    unfold scr pmap
    cases scrF t (t.length + 1) 0 with
    | inl f => rfl
    | inr l => rfl
  · rw [k1'.1 7 (by decide)]; rfl
  rintro fu m c υ ⟨kA, kB, hst⟩ ih
  unfold M_goes_20 M_goes_209
  rcases hst with ⟨p, pre, n, rfl, hX, hsk, rfl, hnp, hscr, hrun⟩ | ⟨rfl, rfl, f, hX, hscr⟩
  · have hX' := hX
    obtain ⟨hTu, p', p1, p2, p3, rfl⟩ := hX
    have cr := chr_rng (p := p') hTu
    rw [hTu.1, p1, p3]
    simp (disch := omega) only [i_le, i_lt, i_eq]
    refine Rt.ite (fun h => ?_) (fun h => ?_)
    · have hend : scrF t n p' = .inr [] := by
        match n with
        | 0 => rfl
        | n + 1 => unfold scrF; rw [if_pos (by rw [hsk]; omega)]
      have hs : scr t = .inr pre := by rw [hscr, hend]; show Sum.inr (pre ++ []) = _; rw [List.append_nil]
      refine Rt.some ⟨kA, kB, by rw [hs]; rfl, fun l h1 h2 => ?_⟩
      rw [hs] at h2
      cases (Sum.inr.inj h2)
      exact hrun h1
    obtain ⟨n, rfl⟩ : ∃ n', n = n' + 1 := ⟨n - 1, by omega⟩
    have hun : scrF t (n + 1) p' = pb (cmdP t p') fun c => pb (scrF t n c.2) fun l => .inr (c.1 :: l) := by
      show (if t.length ≤ skp t p' then _ else _) = _
      rw [hsk, if_neg (by omega)]
    have hql : p' < t.length := by omega
    -- a command is read
    have body : ∀ L : Int, L = tr01 (isLt (chr t p')) → Rt (M_goes_62 F (M_goes_20 F (i32 d) fu) (i32 d) (i32 (chr t p')) (i32 L) υ) (fun v => kp [5, 6, 7] [] [0] [] σ v.2 ∧ (d = 0 → kp [5, 6, 7] [] [] [] σ v.2) ∧ v.1 = i32 (fltA (scr t)) ∧ (∀ l, d = 1 → scr t = .inr l → mN v.2 (runC N l).1 ∧ mI v.2 7 = i32 (runC N l).2)) := by
      intro L hL
      rw [hL]
      refine M_goes_62_eq (N := (runC N pre).1) (n := (runC N pre).2) hX' hql hd (fun h1 => ⟨?_, hrun h1⟩) hF (fun φ u1 u2 u3 u4 => ?_)
      · obtain ⟨l, hl⟩ := hD h1
        rw [hscr, hun] at hl
        obtain ⟨l1, hl1, -⟩ := pb_inr hl
        obtain ⟨c1, hc1, -⟩ := pb_inr hl1
        exact ⟨c1.1, c1.2, hc1⟩
      · unfold M_goes_201
        cases hcm : cmdP t p' with
        | inl f =>
          have d0 : d = 0 := by
            rcases hd with h | h
            · exact h
            · obtain ⟨l, hl⟩ := hD h
              rw [hscr, hun, hcm] at hl; cases hl
          rw [hcm] at u2
          have hs : scr t = .inl f := by rw [hscr, hun, hcm]; rfl
          obtain ⟨hTf, q, q1, q2, q3⟩ := u2
          refine Rt.bind (M_looking_eq hTf q1 q2 hF) ?_
          rintro ⟨c2, ψ⟩ ⟨rfl, r1, r2⟩
          have sk := skp_ok q2
          refine ih 0 _ _ ⟨kp.tr kA (kp.tr u1 r1.le), fun z => kp.tr (kB z) (kp.tr (u3 z) r1.le), Or.inr ⟨rfl, d0, f, ⟨hTf.kp r1, _, r2, sk.2.1, ?_⟩, hs⟩⟩ (by omega)
          show mI ψ 6 = i32 f ∧ f ≤ t.length
          rw [r1.1 6 (by decide)]; exact q3
        | inr cp =>
          obtain ⟨cmd, q0⟩ := cp
          obtain ⟨c1, c2, c3⟩ := (cmdP_ok hql).2 cmd q0 hcm
          rw [hcm] at u2
          obtain ⟨hTf, q, q1, q2, q3, rfl⟩ := u2
          refine Rt.bind (M_looking_eq hTf q1 q2 hF) ?_
          rintro ⟨c4, ψ⟩ ⟨rfl, r1, r2⟩
          have sk := skp_ok q2
          refine ih (t.length + 1 - skp t q) _ _ ⟨kp.tr kA (kp.tr u1 r1.le), fun z => kp.tr (kB z) (kp.tr (u3 z) r1.le), Or.inl ⟨skp t q, pre ++ [cmd], n, rfl, ⟨hTf.kp r1, _, r2, sk.2.1, by rw [r1.1 6 (by decide)]; exact q3, rfl⟩, skp_skp q2, rfl, by have := sk.1; omega, ?_, fun h1 => ?_⟩⟩ (by have := sk.1; omega)
          · have e1 : scrF t n (skp t q) = scrF t n q := by
              match n with
              | 0 => rfl
              | n + 1 =>
                show (if t.length ≤ skp t (skp t q) then _ else _) = (if t.length ≤ skp t q then _ else _)
                rw [skp_skp q2]
            rw [e1, hscr, hun, hcm]
            unfold pmap
            show pb (pb (scrF t n q) fun l => .inr (cmd :: l)) _ = _
            cases scrF t n q with
            | inl f => rfl
            | inr l => show Sum.inr (pre ++ cmd :: l) = Sum.inr (pre ++ [cmd] ++ l); rw [List.append_assoc]; rfl
          · rw [runC_snoc]
            obtain ⟨v1, v2⟩ := u4 cmd q h1 hcm
            exact ⟨v1.kp r1, by rw [r1.1 7 (by decide)]; exact v2⟩
    rw [if_pos (show i32 (-1) = -1 from rfl)]
    unfold M_goes_57
    simp (disch := omega) only [i_c0, i_c1, i_c2, i_c3, i_c4, i_c5, i_c6, i_c8, i_c9, i_c10, i_c12, i_c16, i_c17, i_c18, i_c31, i_c32, i_c45, i_c48, i_c50, i_c54, i_c55, i_c57, i_c58, i_c59, i_c61, i_c64, i_c73, i_c118, i_c119, i_c120, i_c126, i_c365, i_c1000, i_cFAR, i_le, i_lt, i_eq]
    refine Rt.ite (fun h1 => body 1 (by rw [tr01_pos (Or.inl h1)])) (fun h1 => ?_)
    refine Rt.ite (fun h2 => body 1 (by rw [tr01_pos (Or.inr (Or.inl h2))])) (fun h2 => ?_)
    refine Rt.ite (fun h3 => body 1 (by rw [tr01_pos (Or.inr (Or.inr h3))])) (fun h3 => body 0 (by rw [tr01_neg]; rintro (z | z | z) <;> omega))
  · obtain ⟨hTu, p', p1, p2, p3, p4⟩ := hX
    have fin : Rt (some (mI υ 6, υ)) (fun v => kp [5, 6, 7] [] [0] [] σ v.2 ∧ ((0 : Int) = 0 → kp [5, 6, 7] [] [] [] σ v.2) ∧ v.1 = i32 (fltA (scr t)) ∧ (∀ l, (0 : Int) = 1 → scr t = .inr l → mN v.2 (runC N l).1 ∧ mI v.2 7 = i32 (runC N l).2)) :=
      Rt.some ⟨kA, kB, by rw [hscr]; exact p3, fun l z => absurd z (by decide)⟩
    refine Rt.ite (fun _ => fin) (fun _ => Rt.ite (fun h => ?_) (fun _ => fin))
    rw [p3, show (-1 : Int32) = i32 (-1) from rfl, i_eq (by omega) (by omega) (by omega) (by omega)] at h
    omega
theorem M_fault_ok (hR : mR σ A) (hF : 4294967296 < F) : Rt (M_fault F σ) (mOK (sp_fault A)) := by
  have hR1 := hR.kp (k1 (v := i32 0))
  unfold M_fault sp_fault
  refine Rt.let (Rt.bind (M_goes_eq (d := 0) (Or.inl rfl) hR1.1 hR1.2.2 (fun z => absurd z (by decide)) hF) ?_)
  rintro ⟨v, τ⟩ ⟨h1, h2, rfl, -⟩
  exact Rt.some (mOK_yes hR1 (h2 rfl).le (by rw [h1.1 1 (by decide)]; rfl))
theorem M_run_ok (hR : mR σ A) (hF : 4294967296 < F) : Rt (M_run F σ) (mOK (sp_run A)) := by
  unfold M_run sp_run
  refine Rt.bind (M_goes_eq (d := 0) (Or.inl rfl) hR.1 hR.2.2 (fun z => absurd z (by decide)) hF) ?_
  rintro ⟨v, τ⟩ ⟨h1, h2, rfl, -⟩
  have hRt := hR.kp (h2 rfl)
  have h120 := hR.2.2.2.1
  have lf : ∀ f, scr A.2.2 = .inl f → f ≤ A.2.2.length := by
    have go : ∀ n p f, p ≤ A.2.2.length → scrF A.2.2 n p = .inl f → f ≤ A.2.2.length := by
      intro n
      induction n with
      | zero => intro p f _ h; cases h
      | succ n ih =>
        intro p f hp h
        unfold scrF at h
        split at h
        · cases h
        · rename_i hlt
          have sk := skp_ok hp
          rcases pb_inl h with h | ⟨c, hc, h⟩
          · exact (cmdP_ok (by omega)).1 f h
          · obtain ⟨c1, c2, -⟩ := (cmdP_ok (by omega)).2 c.1 c.2 hc
            rcases pb_inl h with h | ⟨l, hl, h⟩
            · exact ih c.2 f c2 h
            · cases h
    exact fun f h => go _ 0 f (Nat.zero_le _) h
  unfold M_run_15
  show Rt (if i32 (fltA (scr A.2.2)) = -1 then _ else _) _
  cases hs : scr A.2.2 with
  | inl f =>
    have := lf f hs
    refine Rt.ite (fun h => ?_) (fun h => ?_)
    · have h' : i32 (f : Int) = i32 (-1) := h
      rw [i_eq (by omega) (by omega) (by omega) (by omega)] at h'; omega
    · exact ref_no1 hRt
  | inr l =>
    refine Rt.ite (fun h => ?_) (fun h => absurd rfl h)
    have hR1 := hRt.kp (k1 (v := i32 0))
    refine ref_yes0 (Rt.bind (M_saves_eq hR1.1 hR1.2.1 (by omega)) ?_)
    rintro υ ⟨q1, q2⟩
    refine Rt.bind (M_goes_eq (d := 1) (Or.inr rfl) (hR1.1.kp q1) (hR1.2.2.kp q1) (fun _ => ⟨l, hs⟩) hF) ?_
    rintro ⟨w, φ⟩ ⟨g1, -, -, g4⟩
    obtain ⟨g5, g6⟩ := g4 l rfl hs
    refine Rt.some ⟨?_, ⟨g5, q2.kp g1, (hR1.2.2.kp q1).kp g1⟩, ?_⟩
    · exact g6
    · show mI φ 1 = i32 0
      rw [g1.1 1 (by decide), q1.1 1 (by decide)]; rfl
end MH
/-- the checksum's step, and the sum over a list -/
def mx1 (h : Int64) (v : Int) : Int64 := 31 * h + (i32 v).toInt64
def hS (h : Int64) (l : List Int) : Int64 := l.foldl mx1 h
theorem hS_app (h : Int64) (l m : List Int) : hS h (l ++ m) = hS (hS h l) m := List.foldl_append
theorem hS_snoc (h : Int64) (l : List Int) (v : Int) : hS h (l ++ [v]) = mx1 (hS h l) v := hS_app h l [v]
def rL (n : Nat) (f : Nat → Int) : List Int := (List.range n).map f
def rLL (n : Nat) (m : Nat) (f : Nat → Nat → Int) : List Int := (List.range n).flatMap (fun i => rL m (f i))
theorem rL_succ (n : Nat) (f : Nat → Int) : rL (n + 1) f = rL n f ++ [f n] := by unfold rL; rw [List.range_succ, List.map_append]; rfl
theorem rLL_succ (n m : Nat) (f : Nat → Nat → Int) : rLL (n + 1) m f = rLL n m f ++ rL m (f n) := by unfold rLL; rw [List.range_succ, List.flatMap_append]; simp
noncomputable def cenL (N : Net) : List Int :=
  [valT N (hgt N (wN N) (allN N)) 0, valT N (hgt N (wN N) (allN N)) 1] ++ rL 3 (fun w => cenT N (hgt N (wN N) (allN N)) w) ++ [(crtA N (wN N) (allN N) : Int)] ++ rL 5 (fun w => medA N (wN N) w) ++
  [rdc (kR N 2).1 (kR N 2).2 0, rdc (kR N 2).1 (kR N 2).2 1] ++ rLL (eN N) 4 (fun e w => corA N (wN N) e 1 w)
noncomputable def chkL (A : Ab) : List Int :=
  rL 4 (fun w => cntN A.1 w) ++ rLL (nN A.1) 3 (fun i w => ndW A.1 i w) ++ rLL (eN A.1) 3 (fun e w => edW A.1 e w) ++ rLL (sN A.1) 3 (fun k w => sdW A.1 k w) ++
  ifc (canN A.1) (cenL A.1) [] ++ [(A.2.2.length : Int)] ++ [(A.2.1.length : Int)]
noncomputable def sp_checksum (A : Ab) : Int64 := hS 18473 (chkL A)
