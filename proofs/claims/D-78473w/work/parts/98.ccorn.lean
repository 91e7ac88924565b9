/-! THE CLASS's CORNERS -/
section CN
variable {S T : St} {b x p D P E A Q L B W M u : Nat} {pts : List (Nat × Fq)} {N : Net} {w : Nat → Int} {F : Nat} {v5 v6 : Option Nat} {mem : Nat → Prop} {j : Nat}
theorem slq_tot (r : Bool) (a c : Int) : slq r a c ∨ slq r c a := by
  cases r
  · exact (Int.le_total c a)
  · exact (Int.le_total a c)
/-- the slopes are there -/
theorem slF_ex (e : Nat) (y : Fq) (h : Int) (r : Bool) (k : Nat) : ∃ s f, slF N w e y h r k s f := by
  induction k with
  | zero => exact ⟨0, 1, Or.inl ⟨rfl, rfl, fun i hi => by omega⟩⟩
  | succ k ih =>
    obtain ⟨s, f, hs⟩ := ih
    by_cases hk : w k * awy N k e y = h
    · rcases hs' : hs with ⟨a, -, -⟩ | ⟨a, -⟩
      · exact ⟨_, 0, slF_take hs hk (Or.inl a)⟩
      · rcases slq_tot r s (slB N w e k y r) with q | q
        · exact ⟨_, 0, slF_take hs hk (Or.inr q)⟩
        · exact ⟨s, 0, slF_keep hs a q⟩
    · exact ⟨s, f, slF_skip hs hk⟩
theorem slF_all {e : Nat} {y : Fq} (hN : okN N) (hw9 : okw9 (nN N) w) (hc : cnN N) (he : e < eN N) (hx : okx y) (hxl : y.1 ≤ (ed N e).2.2 * y.2) (r : Bool) : ∃ s, slF N w e y (hgt N w (allN N) e y) r (nN N) s 0 := by
  obtain ⟨s, f, hs⟩ := slF_ex (N := N) (w := w) e y (hgt N w (allN N) e y) r (nN N)
  rcases hs with ⟨a, b, c⟩ | hs
  · exfalso
    obtain ⟨h1, h2, h3⟩ := hgF_spec (fun i => w i * awy N i e y) (allN N) (nN N)
    have n1 := hN.1
    rcases h3 with h3 | ⟨i, hi, -, h3⟩
    · have hb := allN_bits (N := N) (i := 0)
      have := h2 0 (by omega) (hb.mpr (by omega)).2
      have w0 := hw9 0 (by omega)
      have aw := wa_rng hN hc (show 0 < nN N by omega) he hx hxl
      have := Int.mul_nonneg w0.1 aw.1
      refine c 0 (by omega) ?_
      unfold hgt
      omega
    · exact c i hi h3
  · exact ⟨s, Or.inr ⟨rfl, hs.2⟩⟩
theorem slF_r9 {e : Nat} {y : Fq} {h s : Int} {r : Bool} (hw9 : okw9 (nN N) w) (hw : ∀ i, i < nN N → w i ≤ 9) (hs : slF N w e y h r (nN N) s 0) : -9 ≤ s ∧ s ≤ 9 := by
  rcases hs with ⟨a, -⟩ | ⟨-, i, hi, -, d, -⟩
  · omega
  · have h0 := (hw9 i hi).1
    have h9 := hw i hi
    rw [d]
    cases r with
    | true => rw [slB_R h0]; split <;> omega
    | false => rw [slB_L h0]; split <;> omega
/-- between neighbouring points nothing crosses -/
theorem noB_pts {k e : Nat} (hd : lpD N w (eN N) pts) (hk : k + 1 < pts.length) (e1 : ptE pts k = e) (e2 : ptE pts (k + 1) = e) : noB (bits N (allN N)) (Lw N w e) (ptX pts k) (ptX pts (k + 1)) ∧ noB (bits N (allN N)) (Lw N w e) (ptX pts (k + 1)) (ptX pts k) := by
  have he : e < eN N := by rw [← e1]; exact (hd.1 k (by omega)).1
  obtain ⟨hB, hX, hO, hs⟩ := hd.2.2.1 e he
  have m1 : ptX pts k ∈ edP pts e := edP_mem.mpr ⟨k, by omega, Prod.ext e1 rfl⟩
  have m2 : ptX pts (k + 1) ∈ edP pts e := edP_mem.mpr ⟨k + 1, by omega, Prod.ext e2 rfl⟩
  have i1 := hB.1 _ m1
  have i2 := hB.1 _ m2
  have lt : flt (ptX pts k) (ptX pts (k + 1)) := by
    rcases hd.2.1 k (k + 1) (by omega) hk with z | z
    · have z' : ptE pts k < ptE pts (k + 1) := z
      omega
    · exact z.2
  have key : ∀ y, 0 < y.2 → hasF (edP pts e) y → flt (ptX pts k) y → ¬ flt y (ptX pts (k + 1)) := by
    rintro y py ⟨c, hc, hce⟩ h1 h2
    have pc := (hB.1 c hc).1
    obtain ⟨q, hq, eq⟩ := edP_mem.mp hc
    have ex : ptX pts q = c := by unfold ptX; rw [eq]
    have ee : ptE pts q = e := by unfold ptE; rw [eq]
    rw [← ex] at hce pc
    have up : ∀ a d, a < d → d < pts.length → ptE pts a = e → ptE pts d = e → flt (ptX pts a) (ptX pts d) := by
      intro a d hl hd' ea ed
      rcases hd.2.1 a d hl hd' with z | z
      · have z' : ptE pts a < ptE pts d := z
        omega
      · exact z.2
    have b1 : flt (ptX pts k) (ptX pts q) := flt_of_flt_of_fle i1.1 py pc h1 (fle_of_feq (feq_symm hce))
    have b2 : flt (ptX pts q) (ptX pts (k + 1)) := flt_of_fle_of_flt pc py i2.1 (fle_of_feq hce) h2
    by_cases c1 : q ≤ k
    · by_cases c2 : q = k
      · subst c2; exact flt_irrefl _ b1
      · exact flt_irrefl _ (flt_trans i1.1 pc i1.1 b1 (up q k (by omega) (by omega) ee e1))
    · by_cases c2 : q = k + 1
      · subst c2; exact flt_irrefl _ b2
      · exact flt_irrefl _ (flt_trans pc i2.1 pc b2 (up (k + 1) q (by omega) hq e2 ee))
  have go : noB (bits N (allN N)) (Lw N w e) (ptX pts k) (ptX pts (k + 1)) := by
    intro i j l m hi hj hl hm hne hbt
    have hi' := allN_bits.mp hi
    have hj' := allN_bits.mp hj
    have py := crs_pos hne
    rcases hbt with ⟨h1, h2⟩ | ⟨h1, h2⟩
    · have hin := inE_btw i1 i2 py (fle_of_flt h1) (fle_of_flt h2)
      refine key _ py ?_ h1 h2
      by_cases hij : i = j
      · subst hij
        rcases hl with hl | hl <;> rcases hm with hm | hm
        · exact absurd (by rw [hl, hm]) hne
        · rw [hl, hm] at hne hin ⊢; exact hO i hi' hne hin
        · rw [hl, hm] at hne hin ⊢; rw [crs_comm hne] at hin ⊢; exact hO i hi' (Ne.symm hne) hin
        · exact absurd (by rw [hl, hm]) hne
      · exact hX i j _ _ hi' hj' hij hl hm hne hin
    · exact flt_irrefl _ (flt_trans i1.1 i2.1 i1.1 lt (flt_trans i2.1 py i1.1 h1 h2))
  exact ⟨go, fun i j l m hi hj hl hm hne hbt => go i j l m hi hj hl hm hne (Or.comm.mp hbt)⟩
theorem turn_eqs {a b c : Fq} {ha hb hc s s' : Int} (e1 : ha * b.2 - hb * a.2 = s' * (a.1 * b.2 - b.1 * a.2)) (e2 : hc * b.2 - hb * c.2 = s * (c.1 * b.2 - b.1 * c.2)) :
    (hb * a.2 * c.2 - ha * b.2 * c.2) * (c.1 * a.2 * b.2 - b.1 * a.2 * c.2) = s' * ((b.1 * a.2 - a.1 * b.2) * c.2 * ((c.1 * b.2 - b.1 * c.2) * a.2)) ∧ (hc * a.2 * b.2 - hb * a.2 * c.2) * (b.1 * a.2 * c.2 - a.1 * b.2 * c.2) = s * ((b.1 * a.2 - a.1 * b.2) * c.2 * ((c.1 * b.2 - b.1 * c.2) * a.2)) := by
  have f1 : hb * a.2 * c.2 - ha * b.2 * c.2 = s' * (b.1 * a.2 - a.1 * b.2) * c.2 := by
    have : hb * a.2 - ha * b.2 = s' * (b.1 * a.2 - a.1 * b.2) := by grind
    grind
  have f2 : hc * a.2 * b.2 - hb * a.2 * c.2 = s * (c.1 * b.2 - b.1 * c.2) * a.2 := by grind
  have f3 : c.1 * a.2 * b.2 - b.1 * a.2 * c.2 = (c.1 * b.2 - b.1 * c.2) * a.2 := by grind
  have f4 : b.1 * a.2 * c.2 - a.1 * b.2 * c.2 = (b.1 * a.2 - a.1 * b.2) * c.2 := by grind
  rw [f1, f2, f3, f4]
  exact ⟨by grind, by grind⟩
theorem s9_rng {s K B : Int} (h1 : -9 ≤ s) (h2 : s ≤ 9) (h3 : 0 ≤ K) (h4 : K ≤ B) : -(9 * B) ≤ s * K ∧ s * K ≤ 9 * B := by
  have a := Int.mul_le_mul_of_nonneg_right h1 h3
  have c := Int.mul_le_mul_of_nonneg_right h2 h3
  omega
/-- whether a point is a corner -/
theorem C_turns {k e : Nat} (hN : okN N) (hw9 : okw9 (nN N) w) (hw : ∀ i, i < nN N → w i ≤ 9) (hc : cnN N) (h1 : plP b S p x D P E A Q L pts B W M u N w v5 v6 mem) (k0 : 1 ≤ k) (hk : k + 1 < pts.length) (e0 : ptE pts (k - 1) = e) (e1 : ptE pts k = e) (e2 : ptE pts (k + 1) = e) (hF : 4294967296 < F) :
    C_X3_turns F S p (i32 k) = some (i32 (tr01 (turnP N w e (ptX pts k)))) := by
  have hd := h1.2.2.2.2.1
  have he : e < eN N := by rw [← e1]; exact (hd.1 k (by omega)).1
  obtain ⟨⟨fs, g0⟩, -, -, -, g3, -⟩ := h1.2.1.g
  obtain ⟨q1, q2, q3, q4⟩ := h1.gP
  have kl : pts.length ≤ 134 * 12 := by have := hd.2.2.2; have := hN.sz.2.1; omega
  obtain ⟨-, la2, la3⟩ := h1.pt hN (show k - 1 < pts.length by omega)
  obtain ⟨-, lb2, lb3⟩ := h1.pt hN (show k < pts.length by omega)
  obtain ⟨-, lc2, lc3⟩ := h1.pt hN hk
  obtain ⟨ya1, ya2, ya3, ya4⟩ := h1.px (show k - 1 < pts.length by omega)
  obtain ⟨yb1, yb2, yb3, yb4⟩ := h1.px (show k < pts.length by omega)
  obtain ⟨yc1, yc2, yc3, yc4⟩ := h1.px hk
  have ha := C_heightAt hN hw9 hc h1 (show k - 1 < pts.length by omega) hF
  have hb := C_heightAt hN hw9 hc h1 (show k < pts.length by omega) hF
  have hc' := C_heightAt hN hw9 hc h1 hk hF
  rw [e0] at ha ya3
  rw [e1] at hb yb3
  rw [e2] at hc' yc3
  have nb1 := (noB_pts (k := k - 1) hd (by omega) e0 (by rw [show k - 1 + 1 = k by omega]; exact e1)).2
  rw [show k - 1 + 1 = k by omega] at nb1
  have nb2 := (noB_pts hd hk e1 e2).1
  have lab : flt (ptX pts (k - 1)) (ptX pts k) := by
    rcases hd.2.1 (k - 1) k (by omega) (by omega) with z | z
    · have z' : ptE pts (k - 1) < ptE pts k := z
      omega
    · exact z.2
  have lbc : flt (ptX pts k) (ptX pts (k + 1)) := by
    rcases hd.2.1 k (k + 1) (by omega) (by omega) with z | z
    · have z' : ptE pts k < ptE pts (k + 1) := z
      omega
    · exact z.2
  change lI S 0 A (i32 ((k - 1 : Nat) : Int)) = some (i32 (ptX pts (k - 1)).1) at la2
  change lI S 0 Q (i32 ((k - 1 : Nat) : Int)) = some (i32 (ptX pts (k - 1)).2) at la3
  change lI S 0 A (i32 k) = some (i32 (ptX pts k).1) at lb2
  change lI S 0 Q (i32 k) = some (i32 (ptX pts k).2) at lb3
  change lI S 0 A (i32 ((k + 1 : Nat) : Int)) = some (i32 (ptX pts (k + 1)).1) at lc2
  change lI S 0 Q (i32 ((k + 1 : Nat) : Int)) = some (i32 (ptX pts (k + 1)).2) at lc3
  generalize ptX pts (k - 1) = xa at *
  generalize ptX pts k = xb at *
  generalize ptX pts (k + 1) = xc at *
  obtain ⟨s, hs⟩ := slF_all hN hw9 hc he yb2 yb3 true
  obtain ⟨s', hs'⟩ := slF_all hN hw9 hc he yb2 yb3 false
  have r1 := slF_r9 hw9 hw hs
  have r2 := slF_r9 hw9 hw hs'
  have R := slF_R hw9.ok0 hs
  have Lf := slF_L hw9.ok0 hs'
  have hwl : ∀ i, bits N (allN N) i → (Lw N w e i).2.1 ≤ (Lw N w e i).1.1 := fun i hi => by
    have := (hw9 i hi.1).1
    show -w i ≤ w i
    omega
  have nn : ∀ {y : Fq}, okx y → y.1 ≤ (ed N e).2.2 * y.2 → ∀ i, bits N (allN N) i → 0 ≤ nf (Lw N w e) i y := fun hy hy2 i hi => by
    rw [nf_Lw (hw9.ok0 i hi.1)]
    exact Int.mul_nonneg (hw9.ok0 i hi.1) (awy_nn hN he ⟨hy.1, hy.2.2.1, hy2⟩)
  have E1 := slopeL yb2.1 ya2.1 hwl (nn ya2 ya3) Lf (fle_of_flt lab) nb1 (hgt_isH hw9.ok0) (hgt_isH hw9.ok0)
  have E2 := slopeR yb2.1 yc2.1 hwl (nn yc2 yc3) R (fle_of_flt lbc) nb2 (hgt_isH hw9.ok0) (hgt_isH hw9.ok0)
  have tq := turn_eqs E1 E2
  have ti := turn_iff ya2.1 yb2.1 yc2.1 lab lbc E1 E2
  obtain ⟨b1, b2, b3, b4, b5⟩ := hN.2.2.2.2.1 e he
  have w1 : 0 < xb.1 * xa.2 - xa.1 * xb.2 := by unfold flt at lab; omega
  have w2 : 0 < xc.1 * xb.2 - xb.1 * xc.2 := by unfold flt at lbc; omega
  have mlen : ∀ {y : Fq}, okx y → y.2 ≤ 198 → y.1 ≤ (ed N e).2.2 * y.2 → y.1 ≤ 9900 := fun {y} hy h2 h3 => by
    have := mul_rng (a := (ed N e).2.2) (b := y.2) (A := 50) (B := 198) (by omega) b5 (by have := hy.1; omega) h2
    omega
  have u1 := mul_rng (a := xb.1) (b := xa.2) (A := 9900) (B := 198) yb2.2.2.1 (mlen yb2 yb4 yb3) (by have := ya2.1; omega) ya4
  have u2 := mul_rng (a := xa.1) (b := xb.2) (A := 9900) (B := 198) ya2.2.2.1 (mlen ya2 ya4 ya3) (by have := yb2.1; omega) yb4
  have u3 := mul_rng (a := xc.1) (b := xb.2) (A := 9900) (B := 198) yc2.2.2.1 (mlen yc2 yc4 yc3) (by have := yb2.1; omega) yb4
  have u4 := mul_rng (a := xb.1) (b := xc.2) (A := 9900) (B := 198) yb2.2.2.1 (mlen yb2 yb4 yb3) (by have := yc2.1; omega) yc4
  have v1 := mul_rng (a := xb.1 * xa.2 - xa.1 * xb.2) (b := xc.2) (A := 1960200) (B := 198) (by omega) (by omega) (by have := yc2.1; omega) yc4
  have v2 := mul_rng (a := xc.1 * xb.2 - xb.1 * xc.2) (b := xa.2) (A := 1960200) (B := 198) (by omega) (by omega) (by have := ya2.1; omega) ya4
  have vv := mul_rng (a := (xb.1 * xa.2 - xa.1 * xb.2) * xc.2) (b := (xc.1 * xb.2 - xb.1 * xc.2) * xa.2) (A := 388119600) (B := 388119600) v1.1 (by omega) v2.1 (by omega)
  have z1 := s9_rng (B := 150636823904160000) r2.1 r2.2 vv.1 (by omega)
  have z2 := s9_rng (B := 150636823904160000) r1.1 r1.2 vv.1 (by omega)
  rw [← tq.1] at z1
  rw [← tq.2] at z2
  have tp : turnP N w e xb ↔ ¬ s = s' := ⟨fun ⟨t, t', p1, p2, p3⟩ z => p3 (by rw [← slR_uniq R p1, ← slL_uniq Lf p2, z]), fun z => ⟨s, s', R, Lf, z⟩⟩
  obtain ⟨oa1, oa2, oa3, oa4⟩ := ya2
  obtain ⟨ob1, ob2, ob3, ob4⟩ := yb2
  obtain ⟨oc1, oc2, oc3, oc4⟩ := yc2
  have km : i32 (k : Int) - 1 = i32 ((k - 1 : Nat) : Int) := by rw [i_c1, i_sub]; congr 1; omega
  have kp : i32 (k : Int) + 1 = i32 ((k + 1 : Nat) : Int) := by rw [i_c1, i_add]; congr 1
  apply Rt.eq
  unfold C_X3_turns
  rw [g0, g3, km, kp]
  refine Rt.let (Rt.let (Rt.let ?_))
  rw [q3]
  refine Rt.let ?_
  rw [la3]
  refine Rt.let (Rt.let (Rt.let (Rt.let ?_)))
  rw [q3]
  refine Rt.let ?_
  rw [lb3]
  refine Rt.let (Rt.let (Rt.let (Rt.let ?_)))
  rw [q3]
  refine Rt.let ?_
  rw [lc3]
  refine Rt.let (Rt.let ?_)
  rw [hb, ha, hc']
  refine Rt.let (Rt.let (Rt.let (Rt.let (Rt.let ?_))))
  rw [q2]
  refine Rt.let ?_
  rw [lb2]
  refine Rt.let (Rt.let (Rt.let ?_))
  rw [q2]
  refine Rt.let ?_
  rw [la2]
  refine Rt.let (Rt.let (Rt.let (Rt.let (Rt.let (Rt.let (Rt.let ?_))))))
  rw [q2]
  refine Rt.let ?_
  rw [lc2]
  refine Rt.let (Rt.let (Rt.let ?_))
  rw [q2]
  refine Rt.let ?_
  rw [lb2]
  refine Rt.let (Rt.let ?_)
  rw [i_long (by omega) (by omega), i_long (by omega) (by omega), i_long (by omega) (by omega), i_long (by omega) (by omega), i_long (by omega) (by omega), i_long (by omega) (by omega)]
  simp only [j_mul, j_sub]
  refine Rt.ite (fun z => Rt.some ?_) (fun z => Rt.some ?_)
  · rw [j_eq (by omega) (by omega) (by omega) (by omega), ti] at z
    exact tr_0 (fun y => tp.mp y z)
  · rw [j_eq (by omega) (by omega) (by omega) (by omega), ti] at z
    exact tr_1 (tp.mpr z)
end CN
section CNs
variable {S T : St} {b x p D P E A Q L B W M u : Nat} {pts : List (Nat × Fq)} {N : Net} {w : Nat → Int} {F : Nat} {v5 v6 : Option Nat} {mem : Nat → Prop} {j : Nat}
/-- an edge's points lie from f to t -/
def segP (pts : List (Nat × Fq)) (e f t : Nat) : Prop := f < t ∧ t ≤ pts.length ∧ ∀ q, q < pts.length → (ptE pts q = e ↔ f ≤ q ∧ q < t)
theorem segP.up {e f t a d : Nat} (hd : lpD N w (eN N) pts) (h : segP pts e f t) (h1 : f ≤ a) (h2 : a < d) (h3 : d < t) : flt (ptX pts a) (ptX pts d) := by
  obtain ⟨s1, s2, s3⟩ := h
  have ea := (s3 a (by omega)).mpr ⟨h1, by omega⟩
  have ed := (s3 d (by omega)).mpr ⟨by omega, h3⟩
  rcases hd.2.1 a d h2 (by omega) with z | z
  · have z' : ptE pts a < ptE pts d := z
    omega
  · exact z.2
theorem segP.in {e f t q : Nat} (hd : lpD N w (eN N) pts) (h : segP pts e f t) (h1 : f ≤ q) (h2 : q < t) : e < eN N ∧ inE (lenN N e) (ptX pts q) := by
  obtain ⟨s1, s2, s3⟩ := h
  have eq := (s3 q (by omega)).mpr ⟨h1, h2⟩
  have he : e < eN N := by rw [← eq]; exact (hd.1 q (by omega)).1
  exact ⟨he, (hd.2.2.1 e he).1.1 _ (edP_mem.mpr ⟨q, by omega, Prod.ext eq rfl⟩)⟩
theorem segP.has {e f t : Nat} {y : Fq} (h : segP pts e f t) (hy : hasF (edP pts e) y) : ∃ q, f ≤ q ∧ q < t ∧ feq (ptX pts q) y := by
  obtain ⟨c, hc, e1⟩ := hy
  obtain ⟨q, hq, eq⟩ := edP_mem.mp hc
  have ex : ptX pts q = c := by unfold ptX; rw [eq]
  have ee : ptE pts q = e := by unfold ptE; rw [eq]
  have := (h.2.2 q hq).mp ee
  exact ⟨q, this.1, this.2, by rw [ex]; exact e1⟩
theorem segP.first {e f t : Nat} (hd : lpD N w (eN N) pts) (h : segP pts e f t) : (ptX pts f).1 = 0 := by
  obtain ⟨he, hin⟩ := h.in hd (Nat.le_refl _) h.1
  obtain ⟨q, q1, q2, q3⟩ := h.has (hd.2.2.1 e he).1.2.1
  have hq := (h.in hd q1 q2).2
  have q0 : (ptX pts q).1 = 0 := by have : (ptX pts q).1 * 1 = 0 * (ptX pts q).2 := q3; omega
  by_cases c : q = f
  · rw [← c]; exact q0
  · have l : (ptX pts f).1 * (ptX pts q).2 < (ptX pts q).1 * (ptX pts f).2 := h.up hd (Nat.le_refl _) (by omega) q2
    rw [q0, Int.zero_mul] at l
    have := Int.mul_nonneg hin.2.1 (Int.le_of_lt hq.1)
    omega
theorem segP.last {e f t : Nat} (hd : lpD N w (eN N) pts) (h : segP pts e f t) : (ptX pts (t - 1)).1 = lenN N e * (ptX pts (t - 1)).2 := by
  have hft := h.1
  obtain ⟨he, hin⟩ := h.in hd (show f ≤ t - 1 by omega) (by omega)
  obtain ⟨q, q1, q2, q3⟩ := h.has (hd.2.2.1 e he).1.2.2.1
  have hq := (h.in hd q1 q2).2
  have q0 : (ptX pts q).1 = lenN N e * (ptX pts q).2 := by have : (ptX pts q).1 * 1 = (ed N e).2.2 * (ptX pts q).2 := q3; unfold lenN; omega
  by_cases c : q = t - 1
  · rw [← c]; exact q0
  · have l : (ptX pts q).1 * (ptX pts (t - 1)).2 < (ptX pts (t - 1)).1 * (ptX pts q).2 := h.up hd q1 (by omega) (by omega)
    have := Int.mul_le_mul_of_nonneg_right hin.2.2 (Int.le_of_lt hq.1)
    rw [q0] at l
    have e1 : lenN N e * (ptX pts q).2 * (ptX pts (t - 1)).2 = lenN N e * (ptX pts (t - 1)).2 * (ptX pts q).2 := by grind
    omega
/-- inside, only a turn makes a corner -/
theorem segP.mid {e f t q : Nat} (hd : lpD N w (eN N) pts) (h : segP pts e f t) (h1 : f < q) (h2 : q < t - 1) : isCor N w e (ptX pts q) ↔ turnP N w e (ptX pts q) := by
  obtain ⟨he, hin⟩ := h.in hd (show f ≤ q by omega) (by omega)
  have hf := (h.in hd (Nat.le_refl _) h.1).2
  have ht := (h.in hd (show f ≤ t - 1 by omega) (by omega)).2
  have z0 := h.first hd
  have z1 := h.last hd
  have l0 : (ptX pts f).1 * (ptX pts q).2 < (ptX pts q).1 * (ptX pts f).2 := h.up hd (Nat.le_refl _) h1 (by omega)
  have l1 : (ptX pts q).1 * (ptX pts (t - 1)).2 < (ptX pts (t - 1)).1 * (ptX pts q).2 := h.up hd (by omega) h2 (by omega)
  constructor
  · rintro ⟨-, c | c | c⟩
    · rw [z0, c, Int.zero_mul, Int.zero_mul] at l0; omega
    · rw [z1, c] at l1
      have e1 : lenN N e * (ptX pts q).2 * (ptX pts (t - 1)).2 = lenN N e * (ptX pts (t - 1)).2 * (ptX pts q).2 := by grind
      omega
    · exact c
  · exact fun c => ⟨hin, Or.inr (Or.inr c)⟩
/-- the corners ahead of q: how many, the last of them -/
def corS (N : Net) (w : Nat → Int) (e : Nat) (pts : List (Nat × Fq)) (f q r : Nat) (m : Option Nat) : Prop := (∀ z, nxC N w e (m.map (ptX pts)) z → corI N w e r z) ∧ match m with
  | none => ∀ k, f ≤ k → k < q → ¬ isCor N w e (ptX pts k)
  | some m => f ≤ m ∧ m < q ∧ ∀ k, m < k → k < q → ¬ isCor N w e (ptX pts k)
theorem corS.skip {e f q r : Nat} {m : Option Nat} (h : corS N w e pts f q r m) (hq : ¬ isCor N w e (ptX pts q)) : corS N w e pts f (q + 1) r m := by
  refine ⟨h.1, ?_⟩
  match m, h.2 with
  | none, h2 =>
    intro k hk1 hk2
    by_cases c : k = q
    · rw [c]; exact hq
    · exact h2 k hk1 (by omega)
  | some m, h2 =>
    refine ⟨h2.1, by have := h2.2.1; omega, fun k hk1 hk2 => ?_⟩
    by_cases c : k = q
    · rw [c]; exact hq
    · exact h2.2.2 k hk1 (by omega)
/-- what is behind the last corner -/
theorem corS.aft {e f t q r k : Nat} {m : Option Nat} {y : Fq} (hd : lpD N w (eN N) pts) (hs : segP pts e f t) (h : corS N w e pts f q r m) (hqt : q ≤ t) (hk : f ≤ k) (hk2 : k < t) (hc : isCor N w e (ptX pts k)) (hy : 0 < y.2) (he : feq (ptX pts k) y) (ha : aft (m.map (ptX pts)) y) : q ≤ k := by
  apply Classical.byContradiction
  intro hn
  match m, h.2, ha with
  | none, h2, _ => exact h2 k hk (by omega) hc
  | some m, h2, ha =>
    have ha' : flt (ptX pts m) y := ha
    have pk := (hs.in hd hk hk2).2.1
    have pm := (hs.in hd h2.1 (show m < t by have := h2.2.1; omega)).2.1
    by_cases c : m < k
    · exact h2.2.2 k c (by omega) hc
    · have l : flt (ptX pts m) (ptX pts k) := flt_of_flt_of_fle pm hy pk ha' (fle_of_feq (feq_symm he))
      by_cases c2 : k = m
      · rw [c2] at l; exact flt_irrefl _ l
      · exact flt_irrefl _ (flt_trans pm pk pm l (hs.up hd hk (by omega) (by have := h2.2.1; omega)))
theorem corS.hit {e f t q r : Nat} {m : Option Nat} (hw9 : okw9 (nN N) w) (hd : lpD N w (eN N) pts) (hs : segP pts e f t) (h : corS N w e pts f q r m) (hq : f ≤ q) (hqt : q < t) (hc : isCor N w e (ptX pts q)) : corI N w e r (some (ptX pts q)) ∧ corS N w e pts f (q + 1) (r + 1) (some q) := by
  obtain ⟨he, hin⟩ := hs.in hd hq hqt
  obtain ⟨hB, hX, hO, -⟩ := hd.2.2.1 e he
  have hX' : cdX (bits N (allN N)) (Lw N w e) (lenN N e) (edP pts e) := fun i j l m hi hj => hX i j l m (allN_bits.mp hi) (allN_bits.mp hj)
  have hO' : cdO (bits N (allN N)) (Lw N w e) (lenN N e) (edP pts e) := fun i hi => hO i (allN_bits.mp hi)
  have c1 : corI N w e r (some (ptX pts q)) := by
    refine h.1 _ ⟨hc, ?_, fun y hy ha => ?_⟩
    · match m, h.2 with
      | none, _ => exact trivial
      | some m, h2 => exact hs.up hd h2.1 h2.2.1 hqt
    · obtain ⟨k, k1, k2, k3⟩ := hs.has (isCor_has hB hX' hO' hy)
      have pk := (hs.in hd k1 k2).2.1
      have hk := h.aft hd hs (by omega) k1 k2 (isCor_feq hw9.ok0 pk (feq_symm k3) hy) hy.1.1 k3 ha
      by_cases c : k = q
      · rw [← c]; exact fle_of_feq k3
      · exact fle_of_flt (flt_of_flt_of_fle hin.1 pk hy.1.1 (hs.up hd hq (by omega) k2) (fle_of_feq k3))
  exact ⟨c1, fun z hz => Or.inl ⟨_, c1, hz⟩, hq, by omega, fun k hk1 hk2 => by omega⟩
theorem corS.done {e f t r i : Nat} {m : Option Nat} (hw9 : okw9 (nN N) w) (hd : lpD N w (eN N) pts) (hs : segP pts e f t) (h : corS N w e pts f t r m) (hri : r ≤ i) : corI N w e i none := by
  obtain ⟨he, -⟩ := hs.in hd (Nat.le_refl _) hs.1
  obtain ⟨hB, hX, hO, -⟩ := hd.2.2.1 e he
  have hX' : cdX (bits N (allN N)) (Lw N w e) (lenN N e) (edP pts e) := fun i j l m hi hj => hX i j l m (allN_bits.mp hi) (allN_bits.mp hj)
  have hO' : cdO (bits N (allN N)) (Lw N w e) (lenN N e) (edP pts e) := fun i hi => hO i (allN_bits.mp hi)
  have c1 : corI N w e r none := by
    refine h.1 none (fun y hy ha => ?_)
    obtain ⟨k, k1, k2, k3⟩ := hs.has (isCor_has hB hX' hO' hy)
    have pk := (hs.in hd k1 k2).2.1
    have := h.aft hd hs (Nat.le_refl _) k1 k2 (isCor_feq hw9.ok0 pk (feq_symm k3) hy) hy.1.1 k3 ha
    omega
  have go : ∀ d, corI N w e (r + d) none := by
    intro d
    induction d with
    | zero => exact c1
    | succ d ih => exact Or.inr ⟨ih, rfl⟩
  have := go (i - r)
  rwa [show r + (i - r) = i by omega] at this
/-- the corner's place among the points -/
theorem C_corner {e : Nat} {i : Int} (hN : okN N) (hw9 : okw9 (nN N) w) (hw : ∀ i, i < nN N → w i ≤ 9) (hc : cnN N) (he : e < eN N) (hi : 0 ≤ i) (hi2 : i < 2147483648) (hS : plS j b S p x N w) (hF : 4294967296 < F) :
    Rt (C_X3_corner F S p (i32 e) (i32 i)) (fun v => ∃ j' P E A Q pts, frJ b p j j' S v.2 ∧ plA j' b v.2 p x P E A Q pts N w ∧ ((v.1 = i32 (-1) ∧ corI N w e i.toNat none) ∨ ∃ k : Nat, v.1 = i32 k ∧ k < pts.length ∧ ptE pts k = e ∧ corI N w e i.toNat (some (ptX pts k)))) := by
  have z2 := hN.sz.2.1
  obtain ⟨D0, _, _, _, _, hpl⟩ := hS.pl
  obtain ⟨⟨fs, g0⟩, -⟩ := hpl.g
  unfold C_X3_corner
  rw [g0]
  refine Rt.let (Rt.bind (C_layA hN hw9 hS hF) ?_)
  rintro T ⟨j', t1, P, E, A, Q, pts, hA⟩
  obtain ⟨-, D, L, B, W, M, u, v5, v6, h1⟩ := id hA
  have hd := h1.2.2.2.2.1
  have hl := hd.2.2.2
  obtain ⟨-, -, -, -, g3, -⟩ := h1.2.1.g
  obtain ⟨q1, q2, q3, q4⟩ := h1.gP
  have rdE : ∀ k, k < pts.length → lI T 0 E (i32 (k : Nat)) = some (i32 (ptE pts k)) ∧ ptE pts k < 12 := fun k hk => ⟨(h1.pt hN hk).1, by have := (h1.px hk).1; omega⟩
  obtain ⟨c0, hc0, -⟩ := (hd.2.2.1 e he).1.2.1
  obtain ⟨m0, hm0, em0⟩ := edP_mem.mp hc0
  have hm1 : ptE pts m0 = e := by unfold ptE; rw [em0]
  -- the search along the segment
  have walk : ∀ f t : Nat, segP pts e f t → Rt (C_X3_corner_66 F p (i32 f) (i32 t) F (i32 i) (i32 f) T) (fun v => ∃ j' P E A Q pts, frJ b p j j' S v.2 ∧ plA j' b v.2 p x P E A Q pts N w ∧ ((v.1 = i32 (-1) ∧ corI N w e i.toNat none) ∨ ∃ k : Nat, v.1 = i32 k ∧ k < pts.length ∧ ptE pts k = e ∧ corI N w e i.toNat (some (ptX pts k)))) := by
    intro f t hs
    have hft := hs.1
    have htl := hs.2.1
    refine Rt.loop3 (ι := Nat) (fun q l v U => v = i32 q ∧ f ≤ q ∧ q ≤ t ∧ U = T ∧ ∃ (r : Nat) (m : Option Nat), l = i32 (i - r) ∧ r ≤ i ∧ corS N w e pts f q r m) (fun q => t - q) ?_ F f _ _ _ ⟨rfl, by omega, by omega, rfl, 0, none, by simp, by omega, fun z hz => hz, fun k hk1 hk2 => by omega⟩ (by omega)
    rintro n q _ _ U ⟨rfl, hq1, hq2, hU, r, m, rfl, hr, hC⟩ ih
    rw [hU]
    unfold C_X3_corner_66
    refine Rt.ite (fun z => ?_) (fun z => ?_)
    · rw [i_le (by omega) (by omega) (by omega) (by omega)] at z
      obtain rfl : q = t := by omega
      exact Rt.some ⟨j', P, E, A, Q, pts, t1, hA, Or.inl ⟨rfl, hC.done hw9 hd hs (by omega)⟩⟩
    rw [i_le (by omega) (by omega) (by omega) (by omega)] at z
    have hqt : q < t := by omega
    have nxt : ∀ (r' : Nat) (m' : Option Nat), (r' : Int) ≤ i → corS N w e pts f (q + 1) r' m' → Rt (C_X3_corner_108 F (C_X3_corner_66 F p (i32 f) (i32 t) n) p (i32 f) (i32 t) (i32 (i - r')) (i32 q) T) (fun v => ∃ j' P E A Q pts, frJ b p j j' S v.2 ∧ plA j' b v.2 p x P E A Q pts N w ∧ ((v.1 = i32 (-1) ∧ corI N w e i.toNat none) ∨ ∃ k : Nat, v.1 = i32 k ∧ k < pts.length ∧ ptE pts k = e ∧ corI N w e i.toNat (some (ptX pts k)))) := by
      intro r' m' hr' hC'
      unfold C_X3_corner_108
      rw [i_c1, i_add]
      exact Rt.let (ih (q + 1) _ _ _ ⟨rfl, by omega, by omega, rfl, r', m', rfl, hr', hC'⟩ (by omega))
    have yes : isCor N w e (ptX pts q) → Rt (C_X3_corner_97 F (C_X3_corner_66 F p (i32 f) (i32 t) n) p (i32 f) (i32 t) (i32 (i - r)) (i32 q) T) (fun v => ∃ j' P E A Q pts, frJ b p j j' S v.2 ∧ plA j' b v.2 p x P E A Q pts N w ∧ ((v.1 = i32 (-1) ∧ corI N w e i.toNat none) ∨ ∃ k : Nat, v.1 = i32 k ∧ k < pts.length ∧ ptE pts k = e ∧ corI N w e i.toNat (some (ptX pts k)))) := by
      intro hcq
      obtain ⟨k1, k2⟩ := hC.hit hw9 hd hs hq1 hqt hcq
      unfold C_X3_corner_97
      refine Rt.ite (fun y => ?_) (fun y => ?_)
      · rw [i_c0, i_eq (by omega) (by omega) (by omega) (by omega)] at y
        obtain rfl : r = i.toNat := by omega
        exact Rt.some ⟨j', P, E, A, Q, pts, t1, hA, Or.inr ⟨q, rfl, by omega, (hs.2.2 q (by omega)).mpr ⟨hq1, hqt⟩, k1⟩⟩
      · rw [i_c0, i_eq (by omega) (by omega) (by omega) (by omega)] at y
        have e1 : i32 (i - r) + (-1) = i32 (i - ((r + 1 : Nat) : Int)) := by rw [show (-1 : Int32) = i32 (-1) from rfl, i_add]; congr 1; omega
        rw [e1]
        exact Rt.let (nxt (r + 1) (some q) (by omega) k2)
    refine Rt.ite (fun z1 => ?_) (fun z1 => ?_)
    · rw [i_eq (by omega) (by omega) (by omega) (by omega)] at z1
      obtain rfl : q = f := by omega
      exact yes ⟨(hs.in hd (Nat.le_refl _) hs.1).2, Or.inl (hs.first hd)⟩
    rw [i_eq (by omega) (by omega) (by omega) (by omega)] at z1
    have et : i32 (t : Int) - 1 = i32 ((t - 1 : Nat) : Int) := by rw [i_c1, i_sub]; congr 1; omega
    rw [et]
    refine Rt.ite (fun z3 => ?_) (fun z3 => ?_)
    · rw [i_eq (by omega) (by omega) (by omega) (by omega)] at z3
      obtain rfl : q = t - 1 := by omega
      exact yes ⟨(hs.in hd (by omega) (by omega)).2, Or.inr (Or.inl (hs.last hd))⟩
    rw [i_eq (by omega) (by omega) (by omega) (by omega)] at z3
    have ee : ∀ k, f ≤ k → k < t → ptE pts k = e := fun k a c => (hs.2.2 k (by omega)).mpr ⟨a, c⟩
    have im := hs.mid hd (show f < q by omega) (by omega)
    refine Rt.tst (C_turns (k := q) hN hw9 hw hc h1 (by omega) (by omega) (ee _ (by omega) (by omega)) (ee _ (by omega) (by omega)) (ee _ (by omega) (by omega)) hF) (fun hn => ?_) (fun hy => ?_)
    · exact nxt r m hr (hC.skip (fun y => hn (im.mp y)))
    · exact yes (im.mpr hy)
  -- the end of the segment
  have second : ∀ f : Nat, f < pts.length → ptE pts f = e → (∀ q, q < f → ptE pts q ≠ e) → Rt (C_X3_corner_28 F p (i32 e) (i32 i) (i32 f) F (i32 f) T) (fun v => ∃ j' P E A Q pts, frJ b p j j' S v.2 ∧ plA j' b v.2 p x P E A Q pts N w ∧ ((v.1 = i32 (-1) ∧ corI N w e i.toNat none) ∨ ∃ k : Nat, v.1 = i32 k ∧ k < pts.length ∧ ptE pts k = e ∧ corI N w e i.toNat (some (ptX pts k)))) := by
    intro f hf ef hlo
    refine Rt.loop (ι := Nat) (fun t v U => v = i32 t ∧ f ≤ t ∧ t ≤ pts.length ∧ U = T ∧ ∀ q, f ≤ q → q < t → ptE pts q = e) (fun t => pts.length - t) ?_ F f _ _ ⟨rfl, by omega, by omega, rfl, fun q a c => by omega⟩ (by omega)
    rintro n t _ U ⟨rfl, ht1, ht2, hU, hin⟩ ih
    rw [hU]
    unfold C_X3_corner_28
    rw [g3]
    refine Rt.let (Rt.let ?_)
    rw [q4]
    refine Rt.let (Rt.ite (fun z => ?_) (fun z => ?_))
    · rw [i_le (by omega) (by omega) (by omega) (by omega)] at z
      unfold C_X3_corner_60
      exact walk f t ⟨by omega, ht2, fun q hq => ⟨fun h => ⟨by apply Classical.byContradiction; intro hn; exact hlo q (by omega) h, by omega⟩, fun h => hin q h.1 h.2⟩⟩
    rw [i_le (by omega) (by omega) (by omega) (by omega)] at z
    refine Rt.let (Rt.let ?_)
    rw [q1]
    refine Rt.let ?_
    have rt := rdE t (by omega)
    rw [rt.1]
    refine Rt.let (Rt.ite (fun y => ?_) (fun y => ?_))
    · rw [i_eq (by omega) (by omega) (by omega) (by omega)] at y
      rw [i_c1, i_add]
      refine Rt.let (ih (t + 1) _ _ ⟨rfl, by omega, by omega, rfl, fun q a c => ?_⟩ (by omega))
      by_cases e1 : q = t
      · rw [e1]; omega
      · exact hin q a (by omega)
    · rw [i_eq (by omega) (by omega) (by omega) (by omega)] at y
      have hft : f < t := by
        apply Classical.byContradiction
        intro hn
        obtain rfl : f = t := by omega
        exact y (by omega)
      unfold C_X3_corner_60
      refine walk f t ⟨hft, ht2, fun q hq => ⟨fun h => ⟨by apply Classical.byContradiction; intro hn; exact hlo q (by omega) h, ?_⟩, fun h => hin q h.1 h.2⟩⟩
      apply Classical.byContradiction
      intro hn
      have hne : q ≠ t := by rintro rfl; exact y (by omega)
      have up1 : ptE pts f ≤ ptE pts t := by
        rcases hd.2.1 f t hft (by omega) with z | z
        · exact Nat.le_of_lt z
        · exact Nat.le_of_eq z.1
      have up2 : ptE pts t ≤ ptE pts q := by
        rcases hd.2.1 t q (by omega) hq with z | z
        · exact Nat.le_of_lt z
        · exact Nat.le_of_eq z.1
      omega
  show Rt (C_X3_corner_6 F p (i32 e) (i32 i) F (i32 0) T) _
  refine Rt.loop (ι := Nat) (fun f v U => v = i32 f ∧ f ≤ m0 ∧ U = T ∧ ∀ q, q < f → ptE pts q ≠ e) (fun f => m0 - f) ?_ F 0 _ _ ⟨rfl, by omega, rfl, fun q hq => by omega⟩ (by omega)
  rintro n f _ U ⟨rfl, hf, hU, hlo⟩ ih
  rw [hU]
  unfold C_X3_corner_6
  rw [g3]
  refine Rt.let (Rt.let ?_)
  rw [q1]
  refine Rt.let ?_
  have rt := rdE f (by omega)
  rw [rt.1]
  refine Rt.let (Rt.ite (fun y => ?_) (fun y => ?_))
  · rw [i_eq (by omega) (by omega) (by omega) (by omega)] at y
    unfold C_X3_corner_25
    exact second f (by omega) (by omega) hlo
  · rw [i_eq (by omega) (by omega) (by omega) (by omega)] at y
    have hne : f ≠ m0 := by rintro rfl; exact y (by omega)
    rw [i_c1, i_add]
    refine Rt.let (ih (f + 1) _ _ ⟨rfl, by omega, rfl, fun q hq => ?_⟩ (by omega))
    by_cases e1 : q = f
    · rw [e1]; omega
    · exact hlo q (by omega)
end CNs
