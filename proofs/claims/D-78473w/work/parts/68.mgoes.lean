/-! THE MODEL GOES THROUGH A SCRIPT -/
section MG
variable {σ : MS} {N : Net} {F : Nat} {A : Ab} {t : List Int}
theorem run1_eq {n : Nat} {c : Cmd} : run1 (N, n) c = ((doC N c).getD N, n + (if (doC N c).isSome then 1 else 0)) := by
  unfold run1
  cases h : doC N c with
  | none => rfl
  | some N' => rfl
theorem zz_01 (c : Bool) : zz (i32 (if c then 1 else 0)) = some (i32 (if c then 1 else 0)) := by cases c <;> rfl
theorem M_isDone_eq {c : Cmd} (hN : mN σ N) (hc : okCm c) (hF : 4294967296 < F) : Rt (M_isDone F σ (i32 c.1) (i32 c.2.1) (i32 c.2.2.1) (i32 c.2.2.2)) (fun v => kp [] [] [0] [] σ v.2 ∧ v.1 = i32 (if (doC N c).isSome then 1 else 0) ∧ mN v.2 ((doC N c).getD N)) := by
  obtain ⟨k, a, b, d⟩ := c
  obtain ⟨c0, c1, c2, c3, c4, c5, c6⟩ := hc
  simp only at c0 c1 c2 c3 c4 c5 c6 ⊢
  have kr : 0 ≤ k ∧ k ≤ 120 := by rcases c0 with h | h | h | h <;> omega
  have z1 := hN.2.sz.1
  have z2 := hN.2.sz.2.1
  have z3 := hN.2.sz.2.2
  have ra : rng a := ⟨by omega, by omega⟩
  have rb : rng b := ⟨by omega, by omega⟩
  have rd : rng d := ⟨by omega, by omega⟩
  have none_ : doC N (k, a, b, d) = none → Rt (M_isDone_62 F (i32 k) (i32 a) (i32 b) (i32 d) (i32 0) σ) (fun v => kp [] [] [0] [] σ v.2 ∧ v.1 = i32 (if (doC N (k, a, b, d)).isSome then 1 else 0) ∧ mN v.2 ((doC N (k, a, b, d)).getD N)) := by
    intro h
    rw [h]
    unfold M_isDone_62 M_isDone_85 M_isDone_108
    rw [if_pos (show i32 0 = 0 from rfl), if_pos (show i32 0 = 0 from rfl), if_pos (show i32 0 = 0 from rfl)]
    exact Rt.of (a := (i32 0, σ)) rfl ⟨kp.rf, rfl, hN⟩
  unfold M_isDone
  simp (disch := omega) only [i_c0, i_c1, i_c2, i_c3, i_c4, i_c5, i_c6, i_c8, i_c9, i_c10, i_c12, i_c16, i_c17, i_c18, i_c31, i_c32, i_c45, i_c48, i_c50, i_c54, i_c55, i_c57, i_c58, i_c59, i_c61, i_c64, i_c73, i_c118, i_c119, i_c120, i_c126, i_c365, i_c1000, i_cFAR, i_le, i_lt, i_eq]
  refine Rt.ite (fun h0 => ?_) (fun h0 => ?_)
  · subst h0
    refine Rt.bind (M_needConnect_eq hN ra rb rd hF) ?_
    rintro _ rfl
    have cl := cdCon_le (N := N) (a := a) (b := b) (l := d)
    simp (disch := omega) only [i_le, i_lt, i_eq]
    by_cases h : cdCon N a b d = 0
    · have e : doC N (0, a, b, d) = some (nCon N a.toNat b.toNat d) := by simp [doC, h]
      rw [if_pos (by omega), e]
      obtain ⟨q1, q2, q3, q4, q5, q6⟩ := cdCon_0 h
      obtain ⟨υ, u1, u2, u3⟩ := M_connects_eq (a := a.toNat) (b := b.toNat) (l := d) hN (by omega) (nCon_okc hN.2 h)
      rw [show ((a.toNat : Nat) : Int) = a by omega, show ((b.toNat : Nat) : Int) = b by omega] at u1
      unfold M_isDone_62
      rw [if_neg (by decide), if_pos (show i32 0 = 0 from rfl), u1]
      exact Rt.of (a := (i32 1, υ)) rfl ⟨u2, rfl, u3⟩
    · rw [if_neg (by omega)]
      refine none_ ?_
      simp [doC, h]
  · refine Rt.ite (fun h1 => ?_) (fun h1 => ?_)
    · subst h1
      rw [M_needForbid_eq hN ra rb rd]
      have cl := cdFor_le (N := N) (e := a) (a := b) (b := d)
      simp (disch := omega) only [Option.bind_eq_bind, Option.bind_some, i_le, i_lt, i_eq]
      by_cases h : cdFor N a b d = 0
      · have e : doC N (120, a, b, d) = some (nFor N a.toNat b d) := by simp [doC, h]
        rw [if_pos (by omega), e]
        obtain ⟨q1, q2, q3⟩ := cdFor_0 h
        obtain ⟨υ, u1, u2, u3⟩ := M_forbids_eq (e := a.toNat) (a := b) (b := d) hN (by omega) (nFor_okc hN.2 h)
        rw [show ((a.toNat : Nat) : Int) = a by omega] at u1
        unfold M_isDone_62 M_isDone_85
        rw [if_neg (by decide), if_neg (by decide), if_neg (by decide), if_pos (show i32 120 = 120 from rfl), u1]
        exact Rt.of (a := (i32 1, υ)) rfl ⟨u2, rfl, u3⟩
      · rw [if_neg (by omega)]
        refine none_ ?_
        simp [doC, h]
    · rw [M_needSet_eq hN ra rb]
      have cl := cdSet_le (N := N) (i := a) (v := b)
      simp (disch := omega) only [Option.bind_eq_bind, Option.bind_some, i_le, i_lt, i_eq]
      by_cases h : cdSet N a b = 0
      · rw [if_pos (by omega)]
        obtain ⟨q1, q2⟩ := cdSet_0 h
        obtain ⟨m, rfl⟩ : ∃ m : Nat, a = m := ⟨a.toNat, by omega⟩
        have hm : m < nN N := by have := q1.2; omega
        have e1 : (1 + (m : Int)).toNat = 1 + m := by omega
        have e9 : (9 + (m : Int)).toNat = 9 + m := by omega
        unfold M_isDone_62 M_isDone_85 M_isDone_108
        simp (disch := omega) only [i_c0, i_c1, i_c2, i_c3, i_c4, i_c5, i_c6, i_c8, i_c9, i_c10, i_c12, i_c16, i_c17, i_c18, i_c31, i_c32, i_c45, i_c48, i_c50, i_c54, i_c55, i_c57, i_c58, i_c59, i_c61, i_c64, i_c73, i_c118, i_c119, i_c120, i_c126, i_c365, i_c1000, i_cFAR, i_le, i_lt, i_eq]
        rw [if_neg (by decide), if_neg h0, if_neg (by decide), if_neg h1, if_neg (by decide)]
        refine Rt.ite (fun h2 => ?_) (fun h2 => ?_)
        · have e : doC N (k, (m : Int), b, d) = some (nWei N m b) := by unfold doC; simp only; rw [if_neg h0, if_neg h1, if_pos h2, if_pos h]; rfl
          rw [e]
          unfold M_isDone_129
          rw [i_add, stA_i (by omega) (by omega) (by omega), e1]
          exact Rt.of (a := (i32 1, _)) rfl ⟨kp.sA, rfl, (M_set_eq hN hm q2.1 q2.2).1⟩
        · have e : doC N (k, (m : Int), b, d) = some (nTre N m b) := by unfold doC; simp only; rw [if_neg h0, if_neg h1, if_neg h2, if_pos h]; rfl
          rw [e]
          unfold M_isDone_129
          rw [i_add, stA_i (by omega) (by omega) (by omega), e9]
          exact Rt.of (a := (i32 1, _)) rfl ⟨kp.sA, rfl, (M_set_eq hN hm q2.1 q2.2).2⟩
      · rw [if_neg (by omega)]
        refine none_ ?_
        simp [doC, h0, h1, h]
theorem mN_rd {τ : MS} (hN : mN σ N) (hk : kp [5, 6] [] [] [] σ τ) : mN τ N := hN.kp hk
/-- the end of a command: the last sign, and what is done -/
theorem M_goes_155_eq {k20 : Int32 → MS → Option (Int32 × MS)} {Q : Int32 × MS → Prop} {r : Nat ⊕ Nat} {c d : Int} {x4 x5 x6 : Int32} {n : Nat} {cmd : Cmd} (hX : rdX σ t r) (hd : d = 0 ∨ d = 1) (hcr : 0 ≤ c ∧ c ≤ 126)
    (hD : d = 1 → x4 = i32 cmd.2.1 ∧ x5 = i32 cmd.2.2.1 ∧ x6 = i32 cmd.2.2.2 ∧ cmd.1 = (if isLt c then c else 0) ∧ okCm cmd ∧ mN σ N ∧ mI σ 7 = i32 n) (hF : 4294967296 < F)
    (K : ∀ υ, kp [5, 6, 7] [] [0] [] σ υ → rdX υ t (pb r (sgn t 59)) → (d = 0 → kp [5, 6, 7] [] [] [] σ υ) → (d = 1 → mN υ (run1 (N, n) cmd).1 ∧ mI υ 7 = i32 (run1 (N, n) cmd).2) → Rt (M_goes_201 F k20 (i32 d) υ) Q) :
    Rt (M_goes_155 F k20 (i32 d) (i32 c) (i32 (tr01 (isLt c))) x4 x5 x6 σ) Q := by
  unfold M_goes_155
  simp only [i_c0, i_c1, i_c2, i_c3, i_c4, i_c5, i_c6, i_c8, i_c9, i_c10, i_c12, i_c16, i_c17, i_c18, i_c31, i_c32, i_c45, i_c48, i_c50, i_c54, i_c55, i_c57, i_c58, i_c59, i_c61, i_c64, i_c73, i_c118, i_c119, i_c120, i_c126, i_c365, i_c1000, i_cFAR]
  refine Rt.bind (M_sign_eq hX (by omega) (by omega) hF) ?_
  rintro τ ⟨k1', hX1⟩
  rcases hd with rfl | rfl
  · exact Rt.ite (fun _ => K τ k1'.le hX1 (fun _ => k1'.le) (fun z => absurd z (by decide))) (fun z => absurd rfl z)
  · refine Rt.ite (fun z => absurd (show (1 : Int32) = 0 from z) (by decide)) (fun _ => ?_)
    obtain ⟨rfl, rfl, rfl, d4, d5, d6, d7⟩ := hD rfl
    have hNt := d6.kp k1'
    have go : Rt (M_goes_180 F k20 (i32 1) (i32 cmd.2.1) (i32 cmd.2.2.1) (i32 cmd.2.2.2) (mI τ 7) (i32 cmd.1) τ) Q := by
      unfold M_goes_180
      refine Rt.bind (M_isDone_eq hNt d5 hF) ?_
      rintro ⟨v, υ⟩ ⟨k2', rfl, hNu⟩
      have d7' : mI τ 7 = i32 n := by rw [k1'.1 7 (by decide)]; exact d7
      have hXu : rdX υ t (pb r (sgn t 59)) := by
        obtain ⟨hT, p, p1, p2, p3⟩ := hX1
        refine ⟨hT.kp k2', p, by rw [k2'.1 5 (by decide)]; exact p1, p2, ?_⟩
        revert p3
        cases pb r (sgn t 59) with
        | inl f => rw [k2'.1 6 (by decide)]; exact fun h => h
        | inr q => rw [k2'.1 6 (by decide)]; exact fun h => h
      have fin : ∀ w : Int, w = (n : Int) + (if (doC N cmd).isSome then 1 else 0) → Rt (M_goes_201 F k20 (i32 1) (sI υ 7 (i32 w))) Q := by
        intro w hw
        have hXw : rdX (sI υ 7 (i32 w)) t (pb r (sgn t 59)) := by
          obtain ⟨hT, p, p1, p2, p3⟩ := hXu
          exact ⟨hT.kp (kp.sI (iS := [7]) (lS := []) (aS := []) (bS := [])), p, p1, p2, p3⟩
        refine K _ (kp.tr k1'.le (kp.tr k2'.le kp.sI)) hXw (fun z => absurd z (by decide)) (fun _ => ?_)
        rw [run1_eq]
        refine ⟨hNu.kp (kp.sI (iS := [7]) (lS := []) (aS := []) (bS := [])), ?_⟩
        rw [mI_sI, if_pos rfl, hw]
        congr 1
        simp only
        split <;> rfl
      unfold M_goes_197
      rw [d7']
      cases hs : (doC N cmd).isSome with
      | false =>
        rw [hs] at fin
        refine Rt.ite (fun _ => ?_) (fun z => absurd rfl z)
        simp only [i_c0, i_c1, i_c2, i_c3, i_c4, i_c5, i_c6, i_c8, i_c9, i_c10, i_c12, i_c16, i_c17, i_c18, i_c31, i_c32, i_c45, i_c48, i_c50, i_c54, i_c55, i_c57, i_c58, i_c59, i_c61, i_c64, i_c73, i_c118, i_c119, i_c120, i_c126, i_c365, i_c1000, i_cFAR, i_add, i_sub, i_mul, i_neg, Option.bind_eq_bind, Option.bind_some]
        exact fin _ rfl
      | true =>
        rw [hs] at fin
        refine Rt.ite (fun z => absurd (show (1 : Int32) = 0 from z) (by decide)) (fun _ => ?_)
        simp only [i_c0, i_c1, i_c2, i_c3, i_c4, i_c5, i_c6, i_c8, i_c9, i_c10, i_c12, i_c16, i_c17, i_c18, i_c31, i_c32, i_c45, i_c48, i_c50, i_c54, i_c55, i_c57, i_c58, i_c59, i_c61, i_c64, i_c73, i_c118, i_c119, i_c120, i_c126, i_c365, i_c1000, i_cFAR, i_add, i_sub, i_mul, i_neg, Option.bind_eq_bind, Option.bind_some]
        exact fin _ rfl
    refine Rt.ite (fun h => ?_) (fun h => ?_)
    · rw [if_neg (tr01_n h)] at d4
      rw [d4] at go; exact go
    · rw [if_pos (tr01_y h)] at d4
      rw [d4] at go; exact go
def pmap {α β : Type} (r : Nat ⊕ α) (f : α → β) : Nat ⊕ β := pb r (fun a => .inr (f a))
/-- a whole command -/
theorem M_goes_62_eq {k20 : Int32 → MS → Option (Int32 × MS)} {Q : Int32 × MS → Prop} {q n : Nat} {d : Int} (hX : rdX σ t (.inr q)) (hql : q < t.length) (hd : d = 0 ∨ d = 1)
    (hD : d = 1 → (∃ cmd p, cmdP t q = .inr (cmd, p)) ∧ mN σ N ∧ mI σ 7 = i32 n) (hF : 4294967296 < F)
    (K : ∀ υ, kp [5, 6, 7] [] [0] [] σ υ → rdX υ t (pmap (cmdP t q) (·.2)) → (d = 0 → kp [5, 6, 7] [] [] [] σ υ) → (∀ cmd p, d = 1 → cmdP t q = .inr (cmd, p) → mN υ (run1 (N, n) cmd).1 ∧ mI υ 7 = i32 (run1 (N, n) cmd).2) → Rt (M_goes_201 F k20 (i32 d) υ) Q) :
    Rt (M_goes_62 F k20 (i32 d) (i32 (chr t q)) (i32 (tr01 (isLt (chr t q)))) σ) Q := by
  obtain ⟨hT, p, h1, h2, h3, rfl⟩ := hX
  have cr := chr_rng (p := p) hT
  have h120 := hT.2.1
  generalize hc : chr t p = c at *
  -- the letter
  have main : ∀ x : Int, x = ((if isLt c then p + 1 else p : Nat) : Int) - p → Rt (M_goes_77 F k20 (i32 d) (i32 c) (i32 (tr01 (isLt c))) (i32 p) (i32 x) σ) Q := by
    intro x hx
    unfold M_goes_77
    simp only [i_add, i_sub, i_mul, i_neg, Option.bind_eq_bind, Option.bind_some]
    have p0l : (if isLt c then p + 1 else p) ≤ t.length := by split <;> omega
    have hX0 : rdX (sI σ 5 (i32 ((p : Int) + x))) t (.inr (if isLt c then p + 1 else p)) :=
      ⟨hT.kp (kp.sI (iS := [5]) (lS := []) (aS := []) (bS := [])), _, by rw [mI_sI, if_pos rfl, hx]; congr 1; omega, p0l, h3, rfl⟩
    have kk0 : kp [5, 6] [] [] [] σ (sI σ 5 (i32 ((p : Int) + x))) := kp.sI
    generalize hp0 : (if isLt c then p + 1 else p) = p0 at *
    refine Rt.bindO (M_number_eq hX0 hF) ?_
    rintro ⟨va, τ⟩ ⟨ka, hXa, hva⟩
    have s1e : ∀ s : Int, s = (if c = 120 then 58 else if isLt c then 61 else 45) → Rt (M_goes_110 F k20 (i32 d) (i32 c) (i32 (tr01 (isLt c))) va (i32 s) τ) Q := by
      intro s hs
      have sr : 1 ≤ s ∧ s ≤ 126 := by
        rw [hs]; split
        · omega
        · split <;> omega
      unfold M_goes_110
      refine Rt.bind (M_sign_eq hXa sr.1 sr.2 hF) ?_
      rintro τ2 ⟨kb, hXb⟩
      refine Rt.bind (M_number_eq hXb hF) ?_
      rintro ⟨vb, τ3⟩ ⟨kc, hXc, hvb⟩
      have kk3 : kp [5, 6] [] [] [] σ τ3 := kp.tr kk0 (kp.tr ka (kp.tr kb kc))
      have ecmd : cmdP t p = pb (num t p0) fun a => pb (sgn t s a.2) fun q => pb (num t q) fun b =>
          if c = 120 ∨ ¬ isLt c then pb (sgn t (if c = 120 then 45 else 58) b.2) fun q => pb (num t q) fun e => pb (sgn t 59 e.2) fun q => .inr ((if isLt c then c else 0, a.1, b.1, e.1), q)
          else pb (sgn t 59 b.2) fun q => .inr ((if isLt c then c else 0, a.1, b.1, 0), q) := by
        unfold cmdP
        simp only [hc, hp0, hs]
      -- three numbers
      have three : (c = 120 ∨ ¬ isLt c) → Rt (M_goes_132 F k20 (i32 d) (i32 c) (i32 (tr01 (isLt c))) va vb τ3) Q := by
        intro h3'
        have s2e : ∀ s2 : Int, s2 = (if c = 120 then 45 else 58) → Rt (M_goes_146 F k20 (i32 d) (i32 c) (i32 (tr01 (isLt c))) va vb (i32 s2) τ3) Q := by
          intro s2 hs2
          have sr2 : 1 ≤ s2 ∧ s2 ≤ 126 := by rw [hs2]; split <;> omega
          unfold M_goes_146
          refine Rt.bind (M_sign_eq hXc sr2.1 sr2.2 hF) ?_
          rintro τ4 ⟨kd, hXd⟩
          refine Rt.bind (M_number_eq hXd hF) ?_
          rintro ⟨ve, τ5⟩ ⟨ke, hXe, hve⟩
          have kk5 : kp [5, 6] [] [] [] σ τ5 := kp.tr kk3 (kp.tr kd ke)
          show Rt (M_goes_155 F k20 (i32 d) (i32 c) (i32 (tr01 (isLt c))) va vb ve τ5) Q
          -- what has been read
          by_cases hok : ∃ cmd q, cmdP t p = .inr (cmd, q)
          · obtain ⟨cmd, qe, hcmd⟩ := hok
            obtain ⟨c1', c2', c3'⟩ := (cmdP_ok hql).2 cmd qe hcmd
            have hcmd' := hcmd
            rw [ecmd] at hcmd'
            obtain ⟨a, ea, hcmd'⟩ := pb_inr hcmd'
            obtain ⟨q1, eq1, hcmd'⟩ := pb_inr hcmd'
            obtain ⟨b, eb, hcmd'⟩ := pb_inr hcmd'
            rw [if_pos h3'] at hcmd'
            obtain ⟨q2, eq2, hcmd'⟩ := pb_inr hcmd'
            obtain ⟨e, ee, hcmd'⟩ := pb_inr hcmd'
            obtain ⟨q3, eq3, hcmd'⟩ := pb_inr hcmd'
            have hcq := Sum.inr.inj hcmd'
            cases hcq
            have r1 : pb (.inr p0) (num t) = .inr (a.1, a.2) := ea
            have x1 : snd2 (pb (.inr p0) (num t)) = .inr a.2 := by rw [r1]; rfl
            rw [x1] at hXb hXc hvb hXd hve hXe
            have r2 : pb (.inr a.2) (sgn t s) = .inr q1 := eq1
            rw [r2] at hXc hvb hXd hve hXe
            have r3 : pb (.inr q1) (num t) = .inr (b.1, b.2) := eb
            have x3 : snd2 (pb (.inr q1) (num t)) = .inr b.2 := by rw [r3]; rfl
            rw [x3] at hXd hve hXe
            have r4 : pb (.inr b.2) (sgn t s2) = .inr q2 := by rw [hs2]; exact eq2
            rw [r4] at hve hXe
            have r5 : pb (.inr q2) (num t) = .inr (e.1, e.2) := ee
            have x5 : snd2 (pb (.inr q2) (num t)) = .inr e.2 := by rw [r5]; rfl
            rw [x5] at hXe
            refine M_goes_155_eq (N := N) (n := n) (cmd := (if isLt c then c else 0, a.1, b.1, e.1)) hXe hd (by omega) (fun hd1 => ⟨hva a.1 a.2 r1, hvb b.1 b.2 r3, hve e.1 e.2 r5, rfl, c3', (hD hd1).2.1.kp kk5, by rw [kk5.1 7 (by decide)]; exact (hD hd1).2.2⟩) hF (fun υ u1 u2 u3 u4 => ?_)
            refine K υ (kp.tr kk5.le u1) ?_ (fun z => kp.tr kk5.le (u3 z)) (fun cmd' p' z1 z2 => ?_)
            · have : pmap (cmdP t p) (·.2) = .inr qe := by rw [hcmd]; rfl
              rw [this]
              have r6 : pb (.inr e.2) (sgn t 59) = .inr qe := eq3
              rw [r6] at u2; exact u2
            · rw [hcmd] at z2
              have := Sum.inr.inj z2
              cases this
              exact u4 z1
          · have hd0 : d = 0 := by
              rcases hd with h | h
              · exact h
              · exact absurd (hD h).1 hok
            refine M_goes_155_eq (N := N) (n := n) (cmd := (0, 0, 0, 0)) hXe hd (by omega) (fun hd1 => by omega) hF (fun υ u1 u2 u3 u4 => ?_)
            refine K υ (kp.tr kk5.le u1) ?_ (fun z => kp.tr kk5.le (u3 z)) (fun cmd' p' z1 z2 => by omega)
            have : pmap (cmdP t p) (·.2) = pb (snd2 (pb (pb (snd2 (pb (pb (snd2 (pb (.inr p0) (num t))) (sgn t s)) (num t))) (sgn t s2)) (num t))) (sgn t 59) := by
              rw [ecmd]
              unfold pmap snd2
              show pb (pb (num t p0) _) _ = pb (pb (pb (pb (pb (pb (pb (pb (num t p0) _) _) _) _) _) _) _) _
              cases num t p0 with
              | inl f => rfl
              | inr a =>
                simp only [pb]
                cases sgn t s a.2 with
                | inl f => rfl
                | inr q1 =>
                  simp only
                  cases num t q1 with
                  | inl f => rfl
                  | inr b =>
                    simp only [if_pos h3', hs2]
                    cases sgn t (if c = 120 then 45 else 58) b.2 with
                    | inl f => rfl
                    | inr q2 =>
                      simp only
                      cases num t q2 with
                      | inl f => rfl
                      | inr e =>
                        simp only
                        cases sgn t 59 e.2 with
                        | inl f => rfl
                        | inr q3 => rfl
            rw [this]; exact u2
        unfold M_goes_132
        simp (disch := omega) only [i_c0, i_c1, i_c2, i_c3, i_c4, i_c5, i_c6, i_c8, i_c9, i_c10, i_c12, i_c16, i_c17, i_c18, i_c31, i_c32, i_c45, i_c48, i_c50, i_c54, i_c55, i_c57, i_c58, i_c59, i_c61, i_c64, i_c73, i_c118, i_c119, i_c120, i_c126, i_c365, i_c1000, i_cFAR, i_le, i_lt, i_eq]
        exact Rt.ite (fun h => s2e 45 (by rw [if_pos h])) (fun h => s2e 58 (by rw [if_neg h]))
      -- two numbers
      have two : ¬ (c = 120 ∨ ¬ isLt c) → Rt (M_goes_155 F k20 (i32 d) (i32 c) (i32 (tr01 (isLt c))) va vb (i32 0) τ3) Q := by
        intro h3'
        by_cases hok : ∃ cmd q, cmdP t p = .inr (cmd, q)
        · obtain ⟨cmd, qe, hcmd⟩ := hok
          obtain ⟨c1', c2', c3'⟩ := (cmdP_ok hql).2 cmd qe hcmd
          have hcmd' := hcmd
          rw [ecmd] at hcmd'
          obtain ⟨a, ea, hcmd'⟩ := pb_inr hcmd'
          obtain ⟨q1, eq1, hcmd'⟩ := pb_inr hcmd'
          obtain ⟨b, eb, hcmd'⟩ := pb_inr hcmd'
          rw [if_neg h3'] at hcmd'
          obtain ⟨q3, eq3, hcmd'⟩ := pb_inr hcmd'
          have hcq := Sum.inr.inj hcmd'
          cases hcq
          have r1 : pb (.inr p0) (num t) = .inr (a.1, a.2) := ea
          have x1 : snd2 (pb (.inr p0) (num t)) = .inr a.2 := by rw [r1]; rfl
          rw [x1] at hXb hXc hvb
          have r2 : pb (.inr a.2) (sgn t s) = .inr q1 := eq1
          rw [r2] at hXc hvb
          have r3 : pb (.inr q1) (num t) = .inr (b.1, b.2) := eb
          have x3 : snd2 (pb (.inr q1) (num t)) = .inr b.2 := by rw [r3]; rfl
          rw [x3] at hXc
          refine M_goes_155_eq (N := N) (n := n) (cmd := (if isLt c then c else 0, a.1, b.1, 0)) hXc hd (by omega) (fun hd1 => ⟨hva a.1 a.2 r1, hvb b.1 b.2 r3, rfl, rfl, c3', (hD hd1).2.1.kp kk3, by rw [kk3.1 7 (by decide)]; exact (hD hd1).2.2⟩) hF (fun υ u1 u2 u3 u4 => ?_)
          refine K υ (kp.tr kk3.le u1) ?_ (fun z => kp.tr kk3.le (u3 z)) (fun cmd' p' z1 z2 => ?_)
          · have : pmap (cmdP t p) (·.2) = .inr qe := by rw [hcmd]; rfl
            rw [this]
            have r6 : pb (.inr b.2) (sgn t 59) = .inr qe := eq3
            rw [r6] at u2; exact u2
          · rw [hcmd] at z2
            have := Sum.inr.inj z2
            cases this
            exact u4 z1
        · have hd0 : d = 0 := by
            rcases hd with h | h
            · exact h
            · exact absurd (hD h).1 hok
          refine M_goes_155_eq (N := N) (n := n) (cmd := (0, 0, 0, 0)) hXc hd (by omega) (fun hd1 => by omega) hF (fun υ u1 u2 u3 u4 => ?_)
          refine K υ (kp.tr kk3.le u1) ?_ (fun z => kp.tr kk3.le (u3 z)) (fun cmd' p' z1 z2 => by omega)
          have : pmap (cmdP t p) (·.2) = pb (snd2 (pb (pb (snd2 (pb (.inr p0) (num t))) (sgn t s)) (num t))) (sgn t 59) := by
            rw [ecmd]
            unfold pmap snd2
            show pb (pb (num t p0) _) _ = pb (pb (pb (pb (pb (num t p0) _) _) _) _) _
            cases num t p0 with
            | inl f => rfl
            | inr a =>
              simp only [pb]
              cases sgn t s a.2 with
              | inl f => rfl
              | inr q1 =>
                simp only
                cases num t q1 with
                | inl f => rfl
                | inr b =>
                  simp only [if_neg h3']
                  cases sgn t 59 b.2 with
                  | inl f => rfl
                  | inr q3 => rfl
          rw [this]; exact u2
      refine Rt.let ?_
      simp (disch := omega) only [i_c0, i_c1, i_c2, i_c3, i_c4, i_c5, i_c6, i_c8, i_c9, i_c10, i_c12, i_c16, i_c17, i_c18, i_c31, i_c32, i_c45, i_c48, i_c50, i_c54, i_c55, i_c57, i_c58, i_c59, i_c61, i_c64, i_c73, i_c118, i_c119, i_c120, i_c126, i_c365, i_c1000, i_cFAR, i_le, i_lt, i_eq]
      refine Rt.ite (fun h => three (Or.inl h)) (fun h => ?_)
      exact Rt.ite (fun h4 => three (Or.inr (tr01_n h4))) (fun h4 => two (fun z => by rcases z with z | z; exact h z; exact z (tr01_y h4)))
    simp only [Option.bind_eq_bind, Option.bind_some]
    simp (disch := omega) only [i_c0, i_c1, i_c2, i_c3, i_c4, i_c5, i_c6, i_c8, i_c9, i_c10, i_c12, i_c16, i_c17, i_c18, i_c31, i_c32, i_c45, i_c48, i_c50, i_c54, i_c55, i_c57, i_c58, i_c59, i_c61, i_c64, i_c73, i_c118, i_c119, i_c120, i_c126, i_c365, i_c1000, i_cFAR, i_le, i_lt, i_eq]
    refine Rt.ite (fun h => s1e 58 (by rw [if_pos h])) (fun h => ?_)
    exact Rt.ite (fun h4 => s1e 45 (by rw [if_neg h, if_neg (tr01_n h4)])) (fun h4 => s1e 61 (by rw [if_neg h, if_pos (tr01_y h4)]))
  unfold M_goes_62
  rw [h1]
  simp only [i_c0, i_c1, i_c2, i_c3, i_c4, i_c5, i_c6, i_c8, i_c9, i_c10, i_c12, i_c16, i_c17, i_c18, i_c31, i_c32, i_c45, i_c48, i_c50, i_c54, i_c55, i_c57, i_c58, i_c59, i_c61, i_c64, i_c73, i_c118, i_c119, i_c120, i_c126, i_c365, i_c1000, i_cFAR]
  refine Rt.ite (fun h => main 0 (by rw [if_neg (tr01_n h)]; omega)) (fun h => main 1 (by rw [if_pos (tr01_y h)]; omega))
end MG
