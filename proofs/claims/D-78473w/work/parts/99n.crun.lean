/-! THE CLASS RUNS ITS TEXT -/
theorem scrF_le {t : List Int} (n : Nat) : ∀ p f, p ≤ t.length → scrF t n p = .inl f → f ≤ t.length := by
  induction n with
  | zero => intro p f _ h; cases h
  | succ n ih =>
    intro p f hp h
    unfold scrF at h
    have sk := skp_ok hp
    split at h
    · cases h
    · rename_i hlt
      rcases pb_inl h with h | ⟨c, hc, h⟩
      · exact (cmdP_ok (by omega)).1 f h
      · obtain ⟨c1, c2, -⟩ := (cmdP_ok (by omega)).2 c.1 c.2 hc
        rcases pb_inl h with h | ⟨l, hl, h⟩
        · exact ih c.2 f c2 h
        · cases h
theorem scr_le {t : List Int} {f : Nat} (h : scr t = .inl f) : f ≤ t.length := scrF_le _ 0 f (Nat.zero_le _) h
section RN
variable {S S0 T : St} {x n p dq tx j b : Nat} {h : Int64} {A : Ab} {F : Nat} {N : Net} {ek : Nat → Nat} {a nb : Nat} {g : Nat → Int32}
/-- what a command's doing leaves -/
def dnQ (W : St) (a : Nat) (r : Option Net) (v : Option Nat × St) : Prop := ex 3 20 W v.2 ∧ match r with
  | none => v.1 = none
  | some N' => ∃ a', v.1 = some a' ∧ netC v.2.2.1 v.2 a' N' (wN N') ∧ ∀ z, z < W.2.1 → avd z W a → avd z v.2 a'
theorem nb_g {i : Nat} (h : S.1 nb = some (cI 0 3 g)) (hi : i < 3) : lI S 0 nb (i32 i) = some (g i) := by
  rw [lI_of h (by omega) (by omega) (by omega), Int.toNat_natCast]
theorem avd_al {z k : Nat} {e : Cel} (hw : wfS S) (ha : avd z S a) (hc : ∃ f, S.1 a = some (cO 2 f)) : avd z (al S e k) a := by
  intro wa ta v w h
  obtain ⟨f, hf⟩ := hc
  rw [al_ne (by have := hw.lt hf; omega)] at h
  exact ha _ _ _ _ h
theorem netC.cell {w : Nat → Int} (h : netC b S a N w) : ∃ f, S.1 a = some (cO 2 f) := by
  obtain ⟨_, _, _, _, _, _, _, _, _, _, ⟨-, c⟩, -⟩ := h
  exact ⟨_, c⟩
theorem C_done13 {u v l : Int} (hN : okN N) (hw : wfS S) (hn : netC b S a N (wN N)) (hb : S.1 nb = some (cI 0 3 g)) (g0 : g 0 = i32 u) (g1 : g 1 = i32 v) (g2 : g 2 = i32 l) (hu : rng u) (hv : rng v) (hl : rng l) (hF : 4294967296 < F) :
    Rt (C_X13_done F S p a nb) (dnQ S a (if cdCon N u v l = 0 then some (nCon N u.toNat v.toNat l) else none)) := by
  have r0 := nb_g (i := 0) hb (by decide)
  have r1 := nb_g (i := 1) hb (by decide)
  have r2 := nb_g (i := 2) hb (by decide)
  rw [g0] at r0
  rw [g1] at r1
  rw [g2] at r2
  change lI S 0 nb 0 = _ at r0
  change lI S 0 nb 1 = _ at r1
  change lI S 0 nb 2 = _ at r2
  have no : cdCon N u v l ≠ 0 → Rt (C_X13_done_53 F a nb S) (dnQ S a (if cdCon N u v l = 0 then some (nCon N u.toNat v.toNat l) else none)) := by
    intro hne
    unfold C_X13_done_53 C_X13_done_54
    rw [if_neg hne]
    exact Rt.ite (fun _ => Rt.some ⟨ex.rf hw, rfl⟩) (fun z => absurd rfl z)
  unfold C_X13_done
  rw [r0]
  refine Rt.let (Rt.tst (C_isNode hN.sz hn hu) (fun q => no ?_) (fun y1 => ?_))
  · rw [show cdCon N u v l = 1 from ifc_pos (fun z => q z.1)]; decide
  rw [r1]
  refine Rt.let (Rt.tst (C_isNode hN.sz hn hv) (fun q => no ?_) (fun y2 => ?_))
  · rw [show cdCon N u v l = 1 from ifc_pos (fun z => q z.2)]; decide
  have d1 : cdCon N u v l = ifc (u = v ∨ ¬ inR l 1 50) 2 (ifc (joinN N u v ∨ eN N = 12) 3 0) := ifc_neg (fun z => z ⟨y1, y2⟩)
  refine Rt.let (Rt.let ?_)
  rw [r2]
  refine Rt.let (Rt.tst (C_mayConnect hN hn hu hv hl) (fun q => no ?_) (fun y3 => ?_))
  · rw [d1, ifc_pos (Classical.not_not.mp q)]; decide
  rw [ifc_neg y3] at d1
  refine Rt.let (Rt.let (Rt.tst (C_hasRoom hN hn hu hv hF) (fun q => no ?_) (fun y4 => ?_)))
  · rw [d1, ifc_pos (Classical.not_not.mp q)]; decide
  rw [ifc_neg y4] at d1
  rw [if_pos d1]
  unfold C_X13_done_54
  refine Rt.ite (fun z => absurd z (by decide)) (fun _ => ?_)
  rw [nO_eq]
  refine Rt.let ?_
  dsimp only
  have xa : ex 1 3 S (al S (cO 4 df_4) 3) := ex.al hw
  have hb2 := xa.get hb
  have s0 := nb_g (i := 0) hb2 (by decide)
  have s1 := nb_g (i := 1) hb2 (by decide)
  have s2 := nb_g (i := 2) hb2 (by decide)
  rw [g0] at s0
  rw [g1] at s1
  rw [g2] at s2
  change lI _ 0 nb 0 = _ at s0
  change lI _ 0 nb 1 = _ at s1
  change lI _ 0 nb 2 = _ at s2
  rw [s0, s1, s2]
  refine Rt.let (Rt.let (Rt.let ?_))
  obtain ⟨u', rfl⟩ : ∃ k : Nat, u = k := ⟨u.toNat, by have := y1.1; omega⟩
  obtain ⟨v', rfl⟩ : ∃ k : Nat, v = k := ⟨v.toNat, by have := y2.1; omega⟩
  rw [C_init5 (show (al S (cO 4 df_4) 3).1 S.2.1 = some (cO 4 [.int 0, .int 0, .int 0]) from al_me _ _ _), put_al]
  refine Rt.let ?_
  have xb : ex 1 3 S (al S (cO 4 [.int (i32 u'), .int (i32 v'), .int (i32 l)]) 3) := ex.al hw
  obtain ⟨o, U, e1, e2, e3, e4⟩ := C_withEdgeA (a := u') (c := v') (l := l) hN xb.1 (hn.ex xb) (al_me _ _ _)
  rw [e1]
  refine Rt.let (Rt.some ⟨xb.tr e2 (by omega) (by omega), o, rfl, e4, fun z hz ha => e3 z (by show z < S.2.1 + 1; omega) (avd_al hw ha hn.cell)⟩)
theorem C_done12 {u v l : Int} (hN : okN N) (hw : wfS S) (hn : netC b S a N (wN N)) (hb : S.1 nb = some (cI 0 3 g)) (g0 : g 0 = i32 u) (g1 : g 1 = i32 v) (g2 : g 2 = i32 l) (hu : 0 ≤ u ∧ u ≤ 99) (hv : rng v) (hl : rng l) :
    Rt (C_X12_done S p a nb) (dnQ S a (if cdFor N u v l = 0 then some (nFor N u.toNat v l) else none)) := by
  have z2 := hN.sz.2.1
  have z3 := hN.sz.2.2
  obtain ⟨wa, ta, ea, sa, eq, sq, ⟨fs', k0⟩, k1, k2, k3, k4, k5, k6, k7, -⟩ := hn.get hN.sz
  have r0 := nb_g (i := 0) hb (by decide)
  have r1 := nb_g (i := 1) hb (by decide)
  have r2 := nb_g (i := 2) hb (by decide)
  rw [g0] at r0
  rw [g1] at r1
  rw [g2] at r2
  change lI S 0 nb 0 = _ at r0
  change lI S 0 nb 1 = _ at r1
  change lI S 0 nb 2 = _ at r2
  have no : cdFor N u v l ≠ 0 → Rt (C_X12_done_41 a nb S) (dnQ S a (if cdFor N u v l = 0 then some (nFor N u.toNat v l) else none)) := by
    intro hne
    unfold C_X12_done_41 C_X12_done_42
    rw [if_neg hne]
    exact Rt.ite (fun _ => Rt.some ⟨ex.rf hw, rfl⟩) (fun z => absurd rfl z)
  obtain ⟨hu1, hu2⟩ := hu
  unfold C_X12_done
  rw [r0]
  refine Rt.let ?_
  rw [k3]
  refine Rt.let ?_
  rw [k6]
  refine Rt.let (Rt.ite (fun q => no ?_) (fun q => ?_))
  · rw [i_le (by omega) (by omega) (by omega) (by omega)] at q
    rw [show cdFor N u v l = 1 from ifc_pos (fun z => by have := z.2; omega)]; decide
  rw [i_le (by omega) (by omega) (by omega) (by omega)] at q
  have d1 : cdFor N u v l = ifc (¬ (0 ≤ v ∧ v < l ∧ l ≤ (ed N u.toNat).2.2)) 2 (ifc (sN N = 6) 3 0) := ifc_neg (fun z => z ⟨hu1, by omega⟩)
  obtain ⟨k, rfl⟩ : ∃ k : Nat, u = k := ⟨u.toNat, by omega⟩
  have hk : k < eN N := by omega
  rw [Int.toNat_natCast] at d1 no ⊢
  refine Rt.let ?_
  rw [r1]
  refine Rt.let ?_
  rw [r2]
  refine Rt.let (Rt.tst (C_mayForbid hN hn hk hv hl) (fun q => no ?_) (fun y2 => ?_))
  · rw [d1, ifc_pos q]; decide
  rw [ifc_neg (fun z => z y2)] at d1
  rw [k4]
  refine Rt.let ?_
  rw [k7]
  refine Rt.let (Rt.ite (fun q => no ?_) (fun q => ?_))
  · rw [i_c6, i_le (by omega) (by omega) (by omega) (by omega)] at q
    rw [d1, ifc_pos (by omega)]; decide
  rw [i_c6, i_le (by omega) (by omega) (by omega) (by omega)] at q
  rw [ifc_neg (by omega)] at d1
  rw [if_pos d1]
  unfold C_X12_done_42
  refine Rt.ite (fun z => absurd z (by decide)) (fun _ => ?_)
  rw [nO_eq]
  refine Rt.let ?_
  dsimp only
  have xa : ex 1 3 S (al S (cO 5 df_5) 3) := ex.al hw
  have hb2 := xa.get hb
  have s0 := nb_g (i := 0) hb2 (by decide)
  have s1 := nb_g (i := 1) hb2 (by decide)
  have s2 := nb_g (i := 2) hb2 (by decide)
  rw [g0] at s0
  rw [g1] at s1
  rw [g2] at s2
  change lI _ 0 nb 0 = _ at s0
  change lI _ 0 nb 1 = _ at s1
  change lI _ 0 nb 2 = _ at s2
  rw [s0, s1, s2]
  refine Rt.let (Rt.let (Rt.let ?_))
  rw [C_init6 (show (al S (cO 5 df_5) 3).1 S.2.1 = some (cO 5 [.int 0, .int 0, .int 0]) from al_me _ _ _), put_al]
  refine Rt.let ?_
  have xb : ex 1 3 S (al S (cO 5 [.int (i32 k), .int (i32 v), .int (i32 l)]) 3) := ex.al hw
  obtain ⟨o, U, e1, e2, e3, e4⟩ := C_withStretchA (e := k) (u := v) (v := l) hN xb.1 (hn.ex xb) (al_me _ _ _)
  rw [e1]
  refine Rt.let (Rt.some ⟨xb.tr e2 (by omega) (by omega), o, rfl, e4, fun z hz ha => e3 z (by show z < S.2.1 + 1; omega) (avd_al hw ha hn.cell)⟩)
theorem C_done14 {u v : Int} (hN : okN N) (hw : wfS S) (hn : netC b S a N (wN N)) (hb : S.1 nb = some (cI 0 3 g)) (g0 : g 0 = i32 u) (g1 : g 1 = i32 v) (hu : rng u) (hv : 0 ≤ v ∧ v ≤ 99) :
    Rt (C_X14_done S p a nb) (dnQ S a (if cdSet N u v = 0 then some (nWei N u.toNat v) else none)) := by
  have r0 := nb_g (i := 0) hb (by decide)
  have r1 := nb_g (i := 1) hb (by decide)
  rw [g0] at r0
  rw [g1] at r1
  change lI S 0 nb 0 = _ at r0
  change lI S 0 nb 1 = _ at r1
  obtain ⟨hv1, hv2⟩ := hv
  unfold C_X14_done
  rw [r0]
  refine Rt.let (Rt.tst (C_isNode hN.sz hn hu) (fun q => ?_) (fun y1 => ?_))
  · rw [show cdSet N u v = 1 from ifc_pos q, if_neg (by decide)]
    exact Rt.some ⟨ex.rf hw, rfl⟩
  have d1 : cdSet N u v = ifc (¬ inR v 0 9) 2 0 := ifc_neg (fun z => z y1)
  rw [r1]
  refine Rt.let (Rt.ite (fun q => ?_) (fun q => ?_))
  · rw [i_c9, i_lt (by omega) (by omega) (by omega) (by omega)] at q
    rw [d1, ifc_pos (fun z => by have := z.2; omega), if_neg (by decide)]
    exact Rt.some ⟨ex.rf hw, rfl⟩
  rw [i_c9, i_lt (by omega) (by omega) (by omega) (by omega)] at q
  rw [d1, ifc_neg (fun z => z ⟨hv1, by omega⟩), if_pos rfl]
  obtain ⟨k, rfl⟩ : ∃ k : Nat, u = k := ⟨u.toNat, by have := y1.1; omega⟩
  have hk : k < nN N := by have := y1.2; omega
  refine Rt.let (Rt.let ?_)
  obtain ⟨o, U, e2, e3, e5, e4⟩ := C_withWeightA (v := v) hN hw hn hk
  rw [e2]
  rw [show (fun j => if j = k then v else wN N j) = wN (nWei N k v) from funext (fun j => ((nWei_w hk).1).symm)] at e4
  exact Rt.let (Rt.some ⟨e3.le (by omega) (by omega), o, rfl, e4, e5⟩)
theorem C_done15 {u v : Int} (hN : okN N) (hw : wfS S) (hn : netC b S a N (wN N)) (hb : S.1 nb = some (cI 0 3 g)) (g0 : g 0 = i32 u) (g1 : g 1 = i32 v) (hu : rng u) (hv : 0 ≤ v ∧ v ≤ 99) :
    Rt (C_X15_done S p a nb) (dnQ S a (if cdSet N u v = 0 then some (nTre N u.toNat v) else none)) := by
  have r0 := nb_g (i := 0) hb (by decide)
  have r1 := nb_g (i := 1) hb (by decide)
  rw [g0] at r0
  rw [g1] at r1
  change lI S 0 nb 0 = _ at r0
  change lI S 0 nb 1 = _ at r1
  obtain ⟨hv1, hv2⟩ := hv
  unfold C_X15_done
  rw [r0]
  refine Rt.let (Rt.tst (C_isNode hN.sz hn hu) (fun q => ?_) (fun y1 => ?_))
  · rw [show cdSet N u v = 1 from ifc_pos q, if_neg (by decide)]
    exact Rt.some ⟨ex.rf hw, rfl⟩
  have d1 : cdSet N u v = ifc (¬ inR v 0 9) 2 0 := ifc_neg (fun z => z y1)
  rw [r1]
  refine Rt.let (Rt.ite (fun q => ?_) (fun q => ?_))
  · rw [i_c9, i_lt (by omega) (by omega) (by omega) (by omega)] at q
    rw [d1, ifc_pos (fun z => by have := z.2; omega), if_neg (by decide)]
    exact Rt.some ⟨ex.rf hw, rfl⟩
  rw [i_c9, i_lt (by omega) (by omega) (by omega) (by omega)] at q
  rw [d1, ifc_neg (fun z => z ⟨hv1, by omega⟩), if_pos rfl]
  obtain ⟨k, rfl⟩ : ∃ k : Nat, u = k := ⟨u.toNat, by have := y1.1; omega⟩
  have hk : k < nN N := by have := y1.2; omega
  refine Rt.let (Rt.let ?_)
  obtain ⟨o, U, e2, e3, e5, e4⟩ := C_withTrendA (v := v) hN hw hn hk
  rw [e2]
  rw [show wN N = wN (nTre N k v) from funext (fun j => ((nTre_w hk).1).symm)] at e4
  exact Rt.let (Rt.some ⟨e3.le (by omega) (by omega), o, rfl, e4, e5⟩)
/-- the constants of Kind are different -/
def ekD (ek : Nat → Nat) : Prop := ek 1 ≠ ek 0 ∧ ek 2 ≠ ek 0 ∧ ek 2 ≠ ek 1 ∧ ek 3 ≠ ek 0 ∧ ek 3 ≠ ek 1 ∧ ek 3 ≠ ek 2
theorem C_doneK {c : Cmd} (he : ekD ek) (hc : okCm c) (hN : okN N) (hw : wfS S) (hn : netC b S a N (wN N)) (hb : S.1 nb = some (cI 0 3 g)) (g0 : g 0 = i32 c.2.1) (g1 : g 1 = i32 c.2.2.1) (g2 : c.1 = 0 ∨ c.1 = 120 → g 2 = i32 c.2.2.2) (hF : 4294967296 < F) :
    Rt (if ek (kIx c.1) = ek 0 then C_X13_done F S (ek 0) a nb else if ek (kIx c.1) = ek 1 then C_X14_done S (ek 1) a nb else if ek (kIx c.1) = ek 2 then C_X15_done S (ek 2) a nb else if ek (kIx c.1) = ek 3 then C_X12_done S (ek 3) a nb else none) (dnQ S a (doC N c)) := by
  obtain ⟨h1, h2, h3, h4, h5, h6⟩ := he
  obtain ⟨k, q1, q2, q3, q4, q5, q6⟩ := hc
  have ru : rng c.2.1 := ⟨by omega, by omega⟩
  have rv : rng c.2.2.1 := ⟨by omega, by omega⟩
  have rl : rng c.2.2.2 := ⟨by omega, by omega⟩
  unfold doC
  rcases k with k | k | k | k
  · rw [k]
    rw [show kIx 0 = 0 from rfl, if_pos rfl, if_pos rfl]
    exact C_done13 hN hw hn hb g0 g1 (g2 (Or.inl k)) ru rv rl hF
  · rw [k]
    rw [show kIx 119 = 1 from rfl, if_neg h1, if_pos rfl, if_neg (by decide), if_neg (by decide), if_pos rfl]
    exact C_done14 hN hw hn hb g0 g1 ru ⟨q3, q4⟩
  · rw [k]
    rw [show kIx 118 = 2 from rfl, if_neg h2, if_neg h3, if_pos rfl, if_neg (by decide), if_neg (by decide), if_neg (by decide)]
    exact C_done15 hN hw hn hb g0 g1 ru ⟨q3, q4⟩
  · rw [k]
    rw [show kIx 120 = 3 from rfl, if_neg h4, if_neg h5, if_neg h6, if_pos rfl, if_neg (by decide), if_pos rfl]
    exact C_done12 hN hw hn hb g0 g1 (g2 (Or.inr k)) ⟨q1, q2⟩ rv rl
theorem cRo.rd (hc : cRo S x A n p dq tx j b h) : rdX0 S tx A.2.2 := ⟨hc.wf, hc.2.2.2.2, hc.1.2.2.2.1, hc.1.2.2.2.2⟩
theorem C_faultO (hc : cRo S x A n p dq tx j b h) (hF : 4294967296 < F) : Rt (C_X1_fault F ek S x) (fun v => v.1 = i32 (fltA (scr A.2.2)) ∧ ex 3 14 S v.2) := by
  obtain ⟨⟨fs, g0⟩, -⟩ := hc.g
  have hw := hc.wf
  have xa : ex 1 4 S (al S (cO 9 df_9) 4) := ex.al hw
  unfold C_X1_fault
  rw [g0, nO_eq]
  refine Rt.let (Rt.let ?_)
  dsimp only
  rw [gA_of (k := 3) (xa.get hc.2.1) rfl]
  refine Rt.let ?_
  obtain ⟨T, e1, e2⟩ := C_newReader hc.rd
  rw [e1]
  refine Rt.let (Rt.mono (C_fault12 (m := A.2.2.length + 1) hc.rd e2 (by omega) (by omega) rfl hF) ?_)
  rintro ⟨v, V⟩ ⟨h1, h2⟩
  exact ⟨h1, h2.ex hw (Nat.le_refl _) (by omega)⟩
theorem P_fault (hc : cRo S x A n p dq tx j b h) (hF : 4294967296 < F) : Rt (C_X1_fault F ek S x) (Qs S x (sp_fault A)) := by
  refine Rt.mono (C_faultO hc hF) ?_
  rintro ⟨v, V⟩ ⟨h1, h2⟩
  exact ⟨h1, (hc.ex h2).cR, h2.cs_.le (by omega) (by omega)⟩
/-- the commands are carried out -/
theorem C_run35 {l : List Cmd} {y nb0 : Nat} {kd0 : Value} {g0 : Nat → Int32} (he : ekD ek) (hc : cRo S x A n p dq tx j b h) (hl : scr A.2.2 = .inr l) (hr : rdT S T 2 7 y tx nb0 kd0 0 g0) (hy : S.2.1 ≤ y) (hnb : S.2.1 ≤ nb0) (hF : 4294967296 < F) :
    Rt (C_X1_run_35 F ek x y F n (i32 0) T) (fun v => v.1 = i32 (runC A.1 l).2 ∧ cR v.2 x (push A (runC A.1 l).1) ∧ cs_ 8000 90000 S v.2) := by
  have hw := hc.wf
  have ht := hc.1.2.2.2.1
  have hN0 := hc.1.1
  have x0 := hr.1.ex hw hy hnb
  have n0 := hc.net
  refine Rt.loop3 (ι := Nat) (fun p a k V => p ≤ A.2.2.length ∧ ex (2 + 3 * p) (7 + 20 * p) S V ∧ (∃ kd g, V.1 y = some (cO 9 [.ref tx, .ref nb0, kd, .int (i32 p)]) ∧ V.1 nb0 = some (cI 0 3 g)) ∧ ∃ N' k' m l', k = i32 (k' : Nat) ∧ okN N' ∧ netC V.2.1 V a N' (wN N') ∧ avd nb0 V a ∧ A.2.2.length - p < m ∧ scrF A.2.2 m p = .inr l' ∧ l'.foldl run1 (N', k') = runC A.1 l) (fun p => A.2.2.length - p) ?_ F 0 _ _ _ ⟨by omega, x0.le (by omega) (by omega), ⟨kd0, g0, hr.2.2.2.1, hr.2.2.2.2⟩, A.1, 0, A.2.2.length + 1, l, rfl, hN0, (n0.ex x0).up (by have := hc.2.2.1.2.1; have := x0.2.1; omega), ?_, by omega, hl, rfl⟩ (by omega)
  rotate_left
  · intro wa ta v w hcell
    obtain ⟨wa', ta', _, _, _, _, _, _, _, _, ⟨-, c0⟩, ⟨b1, -⟩, ⟨b2, -⟩, -⟩ := n0
    have hb := hc.2.2.1.2.1
    rw [x0.get c0] at hcell
    cases hcell
    exact ⟨Nat.ne_of_lt (by omega), Nat.ne_of_lt (by omega)⟩
  rintro f p a _ V ⟨hp, xV, ⟨kd, g, cy, cn⟩, N', k', m, l', rfl, hN', hnet, hav, hm, hsc, hfold⟩ ih
  obtain ⟨m', rfl⟩ : ∃ m', m = m' + 1 := ⟨m - 1, by omega⟩
  have hcV := hc.ex xV
  have rV : rdT V V 0 0 y tx nb0 kd p g := ⟨rx.rf hcV.wf, fun e h => by rw [cy] at h; cases h; exact ⟨_, rfl⟩, fun e h => by rw [cn] at h; cases h; exact ⟨_, rfl⟩, cy, cn⟩
  have sk := skp_ok hp
  unfold scrF at hsc
  -- what a step of the reader keeps
  have keep : ∀ {c d : Nat} {W : St}, rx y nb0 c d V W → ex (2 + 3 * p + c) (7 + 20 * p + d) S W ∧ netC W.2.1 W a N' (wN N') ∧ avd nb0 W a := by
    intro c d W hW
    have ny : ∀ {q ci : Nat} {f : List Value}, V.1 q = some (cO ci f) → ci ≠ 9 → q ≠ y := by
      rintro q ci f hq hne rfl
      rw [cy] at hq; cases hq; exact hne rfl
    have nb1 : ∀ {q ci : Nat} {f : List Value}, V.1 q = some (cO ci f) → q ≠ nb0 := by
      rintro q ci f hq rfl
      rw [cn] at hq; cases hq
    have na : ∀ {q kk L : Nat} {f : Nat → Option Nat}, V.1 q = some (cQ kk L f) → q ≠ nb0 := by
      rintro q kk L f hq rfl
      rw [cn] at hq; cases hq
    have ya : ∀ {q : Nat} {z : Nat × vp_A}, V.1 q = some (.inl z) → q ≠ y := by
      rintro q z hq rfl
      rw [cy] at hq; cases hq
    have k5 := hW.2.2.2.2
    refine ⟨⟨hW.1, by have := xV.2.1; have := hW.2.1; omega, by have := xV.2.2.1; have := hW.2.2.1; omega, by have := xV.2.2.2.1; have := hW.2.2.2.1; omega, fun q e hq => k5 q e (xV.get hq) (by have := hw.lt hq; omega) (by have := hw.lt hq; omega)⟩, ?_, ?_⟩
    · obtain ⟨wa, ta, ea, sa, fw, ft, fe, fs, eq, sq, ⟨a1, a2⟩, ⟨b1, b2, b3⟩, ⟨c1, c2, c3⟩, ⟨d1, d2, d3⟩, e1, e2, e3⟩ := hnet
      obtain ⟨v1, v2⟩ := hav _ _ _ _ a2
      have hs := hW.2.1
      exact ⟨wa, ta, ea, sa, fw, ft, fe, fs, eq, sq, ⟨by omega, k5 _ _ a2 (ny a2 (by decide)) (nb1 a2)⟩, ⟨by omega, k5 _ _ b2 (ya b2) v1, b3⟩, ⟨by omega, k5 _ _ c2 (ya c2) v2, c3⟩, ⟨by omega, k5 _ _ d2 (ya d2) (na d2), fun i hi => ⟨(d3 i hi).1, by have := (d3 i hi).2.1; omega, k5 _ _ (d3 i hi).2.2 (ny (d3 i hi).2.2 (by decide)) (nb1 (d3 i hi).2.2)⟩⟩, by omega, k5 _ _ e2 (ya e2) (na e2), fun i hi => ⟨(e3 i hi).1, by have := (e3 i hi).2.1; omega, k5 _ _ (e3 i hi).2.2 (ny (e3 i hi).2.2 (by decide)) (nb1 (e3 i hi).2.2)⟩⟩
    · intro wa ta v w hcell
      obtain ⟨f, hf⟩ := hnet.cell
      rw [k5 _ _ hf (ny hf (by decide)) (nb1 hf)] at hcell
      rw [← hf] at hcell
      exact hav _ _ _ _ hcell
  unfold C_X1_run_35
  refine Rt.bind (C_isAtEnd hcV.rd rV hp hF) ?_
  rintro ⟨v, V2⟩ ⟨rfl, h2⟩
  dsimp only at h2 ⊢
  refine Rt.ite (fun z => ?_) (fun z => ?_)
  · rw [i_c0] at z
    have z' := tr01_n z
    rw [if_neg z'] at hsc
    have cm := C_command (ek := ek) hcV.rd h2 (show skp A.2.2 p < A.2.2.length by omega) (skp_skp hp) hF
    have ok := cmdP_ok (t := A.2.2) (q := skp A.2.2 p) (by omega)
    obtain ⟨cq, hr', hsc⟩ := pb_inr hsc
    obtain ⟨l2, hl2, hsc⟩ := pb_inr hsc
    have el : cq.1 :: l2 = l' := Sum.inr.inj hsc
    rw [hr'] at cm
    obtain ⟨w0, W, w1, g', w2, w3, w4, w5⟩ := cm
    obtain ⟨k1, k2, k3⟩ := ok.2 cq.1 cq.2 hr'
    obtain ⟨xW, nW, aW⟩ := keep w2.1
    rw [w0, w1]
    show Rt ((gA W 9 y 2) >>= _) _
    rw [gA_of (k := 2) w2.2.2.2.1 rfl]
    refine Rt.let ?_
    rw [gA_of (k := 1) w2.2.2.2.1 rfl]
    refine Rt.let (Rt.bind (C_doneK he k3 hN' xW.1 nW w2.2.2.2.2 w3 w4 w5 hF) ?_)
    rintro ⟨r, X⟩ ⟨dx, dr⟩
    dsimp only at dx dr ⊢
    have xX : ex (2 + 3 * cq.2) (7 + 20 * cq.2) S X := xW.tr dx (by omega) (by omega)
    have cyX := dx.get w2.2.2.2.1
    have cnX := dx.get w2.2.2.2.2
    have fold1 : (cq.1 :: l2).foldl run1 (N', k') = l2.foldl run1 (run1 (N', k') cq.1) := rfl
    rw [← el, fold1] at hfold
    unfold run1 at hfold
    match hd : doC N' cq.1, dr with
    | none, dr =>
      rw [dr]
      rw [hd] at hfold
      refine Rt.let (Rt.ite (fun _ => ?_) (fun z => absurd rfl z))
      unfold C_X1_run_71 C_X1_run_84
      rw [i_c0, i_add, Int.add_zero]
      refine Rt.let (Rt.ite (fun _ => ?_) (fun z => absurd rfl z))
      refine ih cq.2 _ _ _ ⟨k2, xX, ⟨_, g', cyX, cnX⟩, N', k', m', l2, rfl, hN', (nW.ex dx).up dx.2.1, ?_, by omega, hl2, hfold⟩ (by omega)
      intro wa ta v w hcell
      obtain ⟨f, hf⟩ := nW.cell
      rw [dx.get hf, ← hf] at hcell
      exact aW _ _ _ _ hcell
    | some N2, dr =>
      obtain ⟨a', rfl, d2, d3⟩ := dr
      rw [hd] at hfold
      refine Rt.let (Rt.ite (fun z => by cases z) (fun _ => ?_))
      unfold C_X1_run_71 C_X1_run_84
      rw [i_c1, i_add]
      refine Rt.let (Rt.ite (fun z => by cases z) (fun _ => ?_))
      refine Rt.let (ih cq.2 _ _ _ ⟨k2, xX, ⟨_, g', cyX, cnX⟩, N2, k' + 1, m', l2, rfl, doC_ok hN' hd, d2, d3 nb0 (xW.1.lt w2.2.2.2.2) aW, by omega, hl2, hfold⟩ (by omega))
  · rw [i_c0] at z
    have z' := tr01_y z
    rw [if_pos z'] at hsc
    have el : [] = l' := Sum.inr.inj hsc
    rw [← el] at hfold
    have hfold' : (N', k') = runC A.1 l := hfold
    obtain ⟨x2, n2, -⟩ := keep h2.1
    unfold C_X1_run_88
    refine Rt.bind (C_become (hc.ex x2) n2 hN' hF) ?_
    rintro U ⟨u1, p', b', u2⟩
    rw [← hfold']
    exact Rt.some ⟨rfl, u2.cR, x2.cs_.tr u1 (by omega) (by omega)⟩
theorem P_run (he : ekD ek) (hc : cRo S x A n p dq tx j b h) (hF : 4294967296 < F) : ((sp_run A).1 = 1 → ∃ S1, T_X1_run F ek 2 S x = some (thr S1) ∧ cR S1 x A ∧ cs_ 8000 90000 S S1 ∧ (sp_run A).2.2 = A) ∧ ((sp_run A).1 = 0 → Rt (C_X1_run F ek S x) (Qs S x (sp_run A))) ∧ ((sp_run A).1 = 0 ∨ (sp_run A).1 = 1) := by
  obtain ⟨⟨fs, g0⟩, -⟩ := hc.g
  have fo := C_faultO (ek := ek) hc hF
  obtain ⟨⟨v, S1⟩, e1, e2, e3⟩ := fo
  dsimp only at e2 e3
  subst e2
  have hc1 := hc.ex e3
  unfold sp_run
  match hs : scr A.2.2 with
  | .inl f =>
    dsimp only
    have fl : f ≤ A.2.2.length := by
      have := scr_le hs
      exact this
    have ht := hc.1.2.2.2.1
    refine ⟨fun _ => ⟨S1, ?_, hc1.cR, e3.cs_.le (by omega) (by omega), rfl⟩, fun z => ?_, Or.inr rfl⟩
    · unfold T_X1_run
      rw [g0, e1, hs]
      simp only [Option.bind_eq_bind, Option.bind_some]
      rw [if_neg (by show ¬ i32 (f : Int) = -1; rw [show (-1 : Int32) = i32 (-1) from rfl, i_eq (by omega) (by omega) (by omega) (by omega)]; omega)]
      unfold T_X1_run_13
      rw [tchk0]; rfl
    · cases z
  | .inr l =>
    dsimp only
    refine ⟨fun z => (by cases z), fun _ => ?_, Or.inl rfl⟩
    unfold C_X1_run
    rw [g0, e1, hs]
    refine Rt.let (Rt.let (Rt.ite (fun _ => ?_) (fun z => absurd rfl z)))
    obtain ⟨⟨fs1, h0⟩, h1, -⟩ := hc1.g
    have xa : ex 1 4 S1 (al S1 (cO 9 df_9) 4) := ex.al hc1.wf
    unfold C_X1_run_13 C_X1_checkThat
    rw [if_neg (by decide)]
    refine Rt.let ?_
    rw [h1]
    refine Rt.let ?_
    rw [nO_eq]
    refine Rt.let ?_
    dsimp only
    rw [gA_of (k := 3) (xa.get hc1.2.1) rfl]
    refine Rt.let ?_
    obtain ⟨T, t1, t2⟩ := C_newReader hc1.rd
    rw [t1]
    refine Rt.let (Rt.mono (C_run35 he hc1 hs t2 (Nat.le_refl _) (by omega) hF) ?_)
    rintro ⟨v, V⟩ ⟨r1, r2, r3⟩
    exact ⟨r1, r2, e3.cs_.tr r3 (by omega) (by omega)⟩
end RN
