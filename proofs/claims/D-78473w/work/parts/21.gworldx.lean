/-! THE CLASS's WORLD, further rows: copies, casts, null, Object's constructor, Math -/
section GX
variable {ρ : Type} {P : GP} {X : Ctx} {l : Launch} {cc : ByteArray} {nL fr lo : Nat} {own : String} {ret : Option FieldType} {S0 S : St} {fin : ρ → Option Value × St} {E : Option ρ} {pc : Nat} {lv : List (Nat × Value)} {st : List Value}
theorem nn32 (z : Int32) (hz : ¬ z < 0) : z.toInt = (z.toNatClampNeg : Int) := by
  have hz0 : (0 : Int) ≤ z.toInt := by
    have := Int32.not_lt.mp hz
    simpa using Int32.le_iff_toInt_le.mp this
  show z.toInt = ((z.toInt.toNat : Nat) : Int)
  omega
/-- the words of a call of arraycopy -/
def LkC (own : String) (idx : Nat) : Prop := Cond.methodLink own idx arraycopyName ∈ lw_all ∧ Cond.native arraycopyName ∈ lw_all ∧ Cond.static arraycopyName ∈ lw_all ∧ Cond.initialized "java/lang/System" ∈ lw_all
def fitB (f : Nat → Int32) (sp n : Nat) : Bool := (List.range n).all (fun i => fits .byte (.int (f (sp + i))))
def cB_ (S : St) (a b : Nat) (sp dp n : Int32) : Option St := (aI S 2 a) >>= fun x => if fitB x.2 sp.toNatClampNeg n.toNatClampNeg = true then cI_ S 2 a b sp dp n else none
theorem g_cpI {a b idx : Nat} {sp dp n : Int32} {G : St → Option ρ} (C : CX (OG P) X l cc nL own ret) (hd : decode cc pc = .ok (.invokestatic idx, 3)) (hk : LkC own idx) (hfr : 1 ≤ fr) (hlo : (st.map fun v => v.category).sum + (nativeFrameWords "java/lang/System" "arraycopy" 5 + 11) ≤ lo) (kk : ∀ S1, cI_ S 0 a b sp dp n = some S1 → VF (OG P) X nL fr lo S0 fin (G S1) S1 (pc + 3) lv st) : VF (OG P) X nL fr lo S0 fin (cI_ S 0 a b sp dp n >>= G) S pc lv (.int n :: .int dp :: .ref b :: .int sp :: .ref a :: st) := by
  refine VF.bind (fun S1 hx => ?_)
  have k2 := kk S1 hx
  obtain ⟨y, h1, hx⟩ := ob hx
  obtain ⟨z, h2, hx⟩ := ob hx
  by_cases hb : sp < 0 ∨ dp < 0 ∨ n < 0 ∨ y.1 < sp.toNatClampNeg + n.toNatClampNeg ∨ z.1 < dp.toNatClampNeg + n.toNatClampNeg
  · rw [if_pos hb] at hx; cases hx
  rw [if_neg hb] at hx
  cases hx
  have b1 : ¬ sp < 0 := fun q => hb (Or.inl q)
  have b2 : ¬ dp < 0 := fun q => hb (Or.inr (Or.inl q))
  have b3 : ¬ n < 0 := fun q => hb (Or.inr (Or.inr (Or.inl q)))
  have b4 : sp.toNatClampNeg + n.toNatClampNeg ≤ y.1 := Nat.not_lt.mp fun q => hb (Or.inr (Or.inr (Or.inr (Or.inl q))))
  have b5 : dp.toNatClampNeg + n.toNatClampNeg ≤ z.1 := Nat.not_lt.mp fun q => hb (Or.inr (Or.inr (Or.inr (Or.inr q))))
  obtain ⟨yn, f⟩ := y
  obtain ⟨zn, g⟩ := z
  refine VF.put (aI_at h2) k2 (fun R H locs cells slots Q ls hI hl w hR hR2 T hT Y => ?_)
  have hK := C.2.2.2.2.2.2.2.1.1
  have hc0 : H[a]? = some (vp_cell (P.2.1 0) (yn, .inl f)) := (hI.2.2.1 a _ (aI_at h1)).2
  have hc1 : H[b]? = some (vp_cell (P.2.1 0) (zn, .inl g)) := (hI.2.2.1 b _ (aI_at h2)).2
  obtain ⟨-, k0, hk0, cm0, hkk0⟩ := (hK.2 0 _ rfl).1 yn (fun j => .int (f j))
  obtain ⟨-, k1, hk1, cm1, hkk1⟩ := (hK.2 0 _ rfl).1 zn (fun j => .int (g j))
  obtain ⟨vm', Y', step⟩ := Y.arraycopy C.1 C.2.2.2.1 (C.2.2.2.2.1 _ hk.1) (C.2.2.2.2.1 _ hk.2.1) (C.2.2.2.2.1 _ hk.2.2.1) (C.2.2.2.2.1 _ hk.2.2.2) (src := a) (dst := b) (cs := vp_cell (P.2.1 0) (yn, .inl f)) (cd := vp_cell (P.2.1 0) (zn, .inl g)) (srcPos := sp) (destPos := dp) (n := n) (by rw [hT]; exact hc0) (by rw [hT]; exact hc1)
    (fun _ h => by cases h) (fun _ h => by cases h) (fun h => by cases h) (fun h => by cases h) hk0 hk1 hkk0 hkk1 rfl b1 b2 b3
    (by rw [nn32 sp b1, nn32 n b3]; show ¬ _ > ((arrV _ yn (fun j => .int (f j))).slots.size : Int); rw [arrV_size]; omega)
    (by rw [nn32 dp b2, nn32 n b3]; show ¬ _ > ((arrV _ zn (fun j => .int (g j))).slots.size : Int); rw [arrV_size]; omega)
    (fun vm₁ hal i hi => by
      have e : (vp_cell (P.2.1 0) (yn, .inl f)).slots.getD (sp.toNatClampNeg + i) .null = .int (f (sp.toNatClampNeg + i)) := by
        show (arrV _ yn (fun j => .int (f j))).slots.getD _ _ = _
        rw [Array.getD_eq_getD_getElem?, arrV_read _ _ (by omega)]
        rfl
      rw [e]
      exact ⟨rfl, trivial⟩)
    (g := F0 X.2.2.2.2.1 pc ls (.int n :: .int dp :: .ref b :: .int sp :: .ref a :: st)) rfl (by rw [C.2.2.1]; exact hl.1) (rest := st) rfl (by rw [C.2.1]; exact hd) (by rw [hR]; exact hfr) (by rw [hR2]; show 2 * 0 + _ + _ ≤ _; omega)
  have e1 : copied (vp_cell (P.2.1 0) (yn, .inl f)) (vp_cell (P.2.1 0) (zn, .inl g)) sp dp n = vp_cell (P.2.1 0) (zn, .inl (va_cpy f g sp.toNatClampNeg dp.toNatClampNeg n.toNatClampNeg)) := by
    rw [vp_cell_i, vp_cell_i, vp_cell_i]
    exact va_copied (fun z => .int z) _ _ f g b4
  rw [e1] at Y' step
  have hbl : b < H.size := (Array.getElem?_eq_some_iff.mp hc1).1
  have hheap : ((T.setVm vm').setCell b (vp_cell (P.2.1 0) (zn, .inl (va_cpy f g sp.toNatClampNeg dp.toNatClampNeg n.toNatClampNeg)))).heap = H.setIfInBounds b (vp_cell (P.2.1 0) (zn, .inl (va_cpy f g sp.toNatClampNeg dp.toNatClampNeg n.toNatClampNeg))) := by rw [← hT]; rfl
  obtain ⟨t, a1, b1⟩ := w _ _ (fun q hq => by
      obtain ⟨z, -, hz⟩ := List.mem_map.mp hq
      rw [← hz]) (show (H.setIfInBounds b _)[b]? = some _ by first | (simp [Array.getElem?_setIfInBounds, hbl]; done) | (simp [Array.getElem?_setIfInBounds, hbl]; rfl)) (by simp) (fun q hq => by simp [Array.getElem?_setIfInBounds, Ne.symm hq]) _ hheap Y'
  exact ⟨t, step t a1, b1⟩
theorem g_cpJ {a b idx : Nat} {sp dp n : Int32} {G : St → Option ρ} (C : CX (OG P) X l cc nL own ret) (hd : decode cc pc = .ok (.invokestatic idx, 3)) (hk : LkC own idx) (hfr : 1 ≤ fr) (hlo : (st.map fun v => v.category).sum + (nativeFrameWords "java/lang/System" "arraycopy" 5 + 11) ≤ lo) (kk : ∀ S1, cJ_ S 1 a b sp dp n = some S1 → VF (OG P) X nL fr lo S0 fin (G S1) S1 (pc + 3) lv st) : VF (OG P) X nL fr lo S0 fin (cJ_ S 1 a b sp dp n >>= G) S pc lv (.int n :: .int dp :: .ref b :: .int sp :: .ref a :: st) := by
  refine VF.bind (fun S1 hx => ?_)
  have k2 := kk S1 hx
  obtain ⟨y, h1, hx⟩ := ob hx
  obtain ⟨z, h2, hx⟩ := ob hx
  by_cases hb : sp < 0 ∨ dp < 0 ∨ n < 0 ∨ y.1 < sp.toNatClampNeg + n.toNatClampNeg ∨ z.1 < dp.toNatClampNeg + n.toNatClampNeg
  · rw [if_pos hb] at hx; cases hx
  rw [if_neg hb] at hx
  cases hx
  have b1 : ¬ sp < 0 := fun q => hb (Or.inl q)
  have b2 : ¬ dp < 0 := fun q => hb (Or.inr (Or.inl q))
  have b3 : ¬ n < 0 := fun q => hb (Or.inr (Or.inr (Or.inl q)))
  have b4 : sp.toNatClampNeg + n.toNatClampNeg ≤ y.1 := Nat.not_lt.mp fun q => hb (Or.inr (Or.inr (Or.inr (Or.inl q))))
  have b5 : dp.toNatClampNeg + n.toNatClampNeg ≤ z.1 := Nat.not_lt.mp fun q => hb (Or.inr (Or.inr (Or.inr (Or.inr q))))
  obtain ⟨yn, f⟩ := y
  obtain ⟨zn, g⟩ := z
  refine VF.put (aJ_at h2) k2 (fun R H locs cells slots Q ls hI hl w hR hR2 T hT Y => ?_)
  have hK := C.2.2.2.2.2.2.2.1.1
  have hc0 : H[a]? = some (vp_cell (P.2.1 1) (yn, .inr (.inl f))) := (hI.2.2.1 a _ (aJ_at h1)).2
  have hc1 : H[b]? = some (vp_cell (P.2.1 1) (zn, .inr (.inl g))) := (hI.2.2.1 b _ (aJ_at h2)).2
  obtain ⟨-, k0, hk0, cm0, hkk0⟩ := (hK.2 1 _ rfl).1 yn (fun j => .long (f j))
  obtain ⟨-, k1, hk1, cm1, hkk1⟩ := (hK.2 1 _ rfl).1 zn (fun j => .long (g j))
  obtain ⟨vm', Y', step⟩ := Y.arraycopy C.1 C.2.2.2.1 (C.2.2.2.2.1 _ hk.1) (C.2.2.2.2.1 _ hk.2.1) (C.2.2.2.2.1 _ hk.2.2.1) (C.2.2.2.2.1 _ hk.2.2.2) (src := a) (dst := b) (cs := vp_cell (P.2.1 1) (yn, .inr (.inl f))) (cd := vp_cell (P.2.1 1) (zn, .inr (.inl g))) (srcPos := sp) (destPos := dp) (n := n) (by rw [hT]; exact hc0) (by rw [hT]; exact hc1)
    (fun _ h => by cases h) (fun _ h => by cases h) (fun h => by cases h) (fun h => by cases h) hk0 hk1 hkk0 hkk1 rfl b1 b2 b3
    (by rw [nn32 sp b1, nn32 n b3]; show ¬ _ > ((arrV _ yn (fun j => .long (f j))).slots.size : Int); rw [arrV_size]; omega)
    (by rw [nn32 dp b2, nn32 n b3]; show ¬ _ > ((arrV _ zn (fun j => .long (g j))).slots.size : Int); rw [arrV_size]; omega)
    (fun vm₁ hal i hi => by
      have e : (vp_cell (P.2.1 1) (yn, .inr (.inl f))).slots.getD (sp.toNatClampNeg + i) .null = .long (f (sp.toNatClampNeg + i)) := by
        show (arrV _ yn (fun j => .long (f j))).slots.getD _ _ = _
        rw [Array.getD_eq_getD_getElem?, arrV_read _ _ (by omega)]
        rfl
      rw [e]
      exact ⟨rfl, trivial⟩)
    (g := F0 X.2.2.2.2.1 pc ls (.int n :: .int dp :: .ref b :: .int sp :: .ref a :: st)) rfl (by rw [C.2.2.1]; exact hl.1) (rest := st) rfl (by rw [C.2.1]; exact hd) (by rw [hR]; exact hfr) (by rw [hR2]; show 2 * 0 + _ + _ ≤ _; omega)
  have e1 : copied (vp_cell (P.2.1 1) (yn, .inr (.inl f))) (vp_cell (P.2.1 1) (zn, .inr (.inl g))) sp dp n = vp_cell (P.2.1 1) (zn, .inr (.inl (va_cpy f g sp.toNatClampNeg dp.toNatClampNeg n.toNatClampNeg))) := by
    rw [vp_cell_l, vp_cell_l, vp_cell_l]
    exact va_copied (fun z => .long z) _ _ f g b4
  rw [e1] at Y' step
  have hbl : b < H.size := (Array.getElem?_eq_some_iff.mp hc1).1
  have hheap : ((T.setVm vm').setCell b (vp_cell (P.2.1 1) (zn, .inr (.inl (va_cpy f g sp.toNatClampNeg dp.toNatClampNeg n.toNatClampNeg))))).heap = H.setIfInBounds b (vp_cell (P.2.1 1) (zn, .inr (.inl (va_cpy f g sp.toNatClampNeg dp.toNatClampNeg n.toNatClampNeg)))) := by rw [← hT]; rfl
  obtain ⟨t, a1, b1⟩ := w _ _ (fun q hq => by
      obtain ⟨z, -, hz⟩ := List.mem_map.mp hq
      rw [← hz]) (show (H.setIfInBounds b _)[b]? = some _ by first | (simp [Array.getElem?_setIfInBounds, hbl]; done) | (simp [Array.getElem?_setIfInBounds, hbl]; rfl)) (by simp) (fun q hq => by simp [Array.getElem?_setIfInBounds, Ne.symm hq]) _ hheap Y'
  exact ⟨t, step t a1, b1⟩
theorem g_cpB {a b idx : Nat} {sp dp n : Int32} {G : St → Option ρ} (C : CX (OG P) X l cc nL own ret) (hd : decode cc pc = .ok (.invokestatic idx, 3)) (hk : LkC own idx) (hfr : 1 ≤ fr) (hlo : (st.map fun v => v.category).sum + (nativeFrameWords "java/lang/System" "arraycopy" 5 + 11) ≤ lo) (kk : ∀ S1, cB_ S a b sp dp n = some S1 → VF (OG P) X nL fr lo S0 fin (G S1) S1 (pc + 3) lv st) : VF (OG P) X nL fr lo S0 fin (cB_ S a b sp dp n >>= G) S pc lv (.int n :: .int dp :: .ref b :: .int sp :: .ref a :: st) := by
  refine VF.bind (fun S1 hx => ?_)
  have k2 := kk S1 hx
  obtain ⟨y', h1', hx⟩ := ob hx
  by_cases hfb : fitB y'.2 sp.toNatClampNeg n.toNatClampNeg = true
  case neg => rw [if_neg hfb] at hx; cases hx
  rw [if_pos hfb] at hx
  obtain ⟨y, h1, hx⟩ := ob hx
  obtain ⟨z, h2, hx⟩ := ob hx
  by_cases hb : sp < 0 ∨ dp < 0 ∨ n < 0 ∨ y.1 < sp.toNatClampNeg + n.toNatClampNeg ∨ z.1 < dp.toNatClampNeg + n.toNatClampNeg
  · rw [if_pos hb] at hx; cases hx
  rw [if_neg hb] at hx
  have ey := Option.some.inj (h1.symm.trans h1')
  subst ey
  cases hx
  have b1 : ¬ sp < 0 := fun q => hb (Or.inl q)
  have b2 : ¬ dp < 0 := fun q => hb (Or.inr (Or.inl q))
  have b3 : ¬ n < 0 := fun q => hb (Or.inr (Or.inr (Or.inl q)))
  have b4 : sp.toNatClampNeg + n.toNatClampNeg ≤ y.1 := Nat.not_lt.mp fun q => hb (Or.inr (Or.inr (Or.inr (Or.inl q))))
  have b5 : dp.toNatClampNeg + n.toNatClampNeg ≤ z.1 := Nat.not_lt.mp fun q => hb (Or.inr (Or.inr (Or.inr (Or.inr q))))
  obtain ⟨yn, f⟩ := y
  obtain ⟨zn, g⟩ := z
  refine VF.put (aI_at h2) k2 (fun R H locs cells slots Q ls hI hl w hR hR2 T hT Y => ?_)
  have hK := C.2.2.2.2.2.2.2.1.1
  have hc0 : H[a]? = some (vp_cell (P.2.1 2) (yn, .inl f)) := (hI.2.2.1 a _ (aI_at h1)).2
  have hc1 : H[b]? = some (vp_cell (P.2.1 2) (zn, .inl g)) := (hI.2.2.1 b _ (aI_at h2)).2
  obtain ⟨-, k0, hk0, cm0, hkk0⟩ := (hK.2 2 _ rfl).1 yn (fun j => .int (f j))
  obtain ⟨-, k1, hk1, cm1, hkk1⟩ := (hK.2 2 _ rfl).1 zn (fun j => .int (g j))
  obtain ⟨vm', Y', step⟩ := Y.arraycopy C.1 C.2.2.2.1 (C.2.2.2.2.1 _ hk.1) (C.2.2.2.2.1 _ hk.2.1) (C.2.2.2.2.1 _ hk.2.2.1) (C.2.2.2.2.1 _ hk.2.2.2) (src := a) (dst := b) (cs := vp_cell (P.2.1 2) (yn, .inl f)) (cd := vp_cell (P.2.1 2) (zn, .inl g)) (srcPos := sp) (destPos := dp) (n := n) (by rw [hT]; exact hc0) (by rw [hT]; exact hc1)
    (fun _ h => by cases h) (fun _ h => by cases h) (fun h => by cases h) (fun h => by cases h) hk0 hk1 hkk0 hkk1 rfl b1 b2 b3
    (by rw [nn32 sp b1, nn32 n b3]; show ¬ _ > ((arrV _ yn (fun j => .int (f j))).slots.size : Int); rw [arrV_size]; omega)
    (by rw [nn32 dp b2, nn32 n b3]; show ¬ _ > ((arrV _ zn (fun j => .int (g j))).slots.size : Int); rw [arrV_size]; omega)
    (fun vm₁ hal i hi => by
      have e : (vp_cell (P.2.1 2) (yn, .inl f)).slots.getD (sp.toNatClampNeg + i) .null = .int (f (sp.toNatClampNeg + i)) := by
        show (arrV _ yn (fun j => .int (f j))).slots.getD _ _ = _
        rw [Array.getD_eq_getD_getElem?, arrV_read _ _ (by omega)]
        rfl
      rw [e]
      exact ⟨List.all_eq_true.mp hfb i (List.mem_range.mpr hi), trivial⟩)
    (g := F0 X.2.2.2.2.1 pc ls (.int n :: .int dp :: .ref b :: .int sp :: .ref a :: st)) rfl (by rw [C.2.2.1]; exact hl.1) (rest := st) rfl (by rw [C.2.1]; exact hd) (by rw [hR]; exact hfr) (by rw [hR2]; show 2 * 0 + _ + _ ≤ _; omega)
  have e1 : copied (vp_cell (P.2.1 2) (yn, .inl f)) (vp_cell (P.2.1 2) (zn, .inl g)) sp dp n = vp_cell (P.2.1 2) (zn, .inl (va_cpy f g sp.toNatClampNeg dp.toNatClampNeg n.toNatClampNeg)) := by
    rw [vp_cell_i, vp_cell_i, vp_cell_i]
    exact va_copied (fun z => .int z) _ _ f g b4
  rw [e1] at Y' step
  have hbl : b < H.size := (Array.getElem?_eq_some_iff.mp hc1).1
  have hheap : ((T.setVm vm').setCell b (vp_cell (P.2.1 2) (zn, .inl (va_cpy f g sp.toNatClampNeg dp.toNatClampNeg n.toNatClampNeg)))).heap = H.setIfInBounds b (vp_cell (P.2.1 2) (zn, .inl (va_cpy f g sp.toNatClampNeg dp.toNatClampNeg n.toNatClampNeg))) := by rw [← hT]; rfl
  obtain ⟨t, a1, b1⟩ := w _ _ (fun q hq => by
      obtain ⟨z, -, hz⟩ := List.mem_map.mp hq
      rw [← hz]) (show (H.setIfInBounds b _)[b]? = some _ by first | (simp [Array.getElem?_setIfInBounds, hbl]; done) | (simp [Array.getElem?_setIfInBounds, hbl]; rfl)) (by simp) (fun q hq => by simp [Array.getElem?_setIfInBounds, Ne.symm hq]) _ hheap Y'
  exact ⟨t, step t a1, b1⟩
theorem g_cpQ3 {a b idx : Nat} {sp dp n : Int32} {G : St → Option ρ} (C : CX (OG P) X l cc nL own ret) (hd : decode cc pc = .ok (.invokestatic idx, 3)) (hk : LkC own idx) (hfr : 1 ≤ fr) (hlo : (st.map fun v => v.category).sum + (nativeFrameWords "java/lang/System" "arraycopy" 5 + 11) ≤ lo) (kk : ∀ S1, cQ_ S 3 4 a b sp dp n = some S1 → VF (OG P) X nL fr lo S0 fin (G S1) S1 (pc + 3) lv st) : VF (OG P) X nL fr lo S0 fin (cQ_ S 3 4 a b sp dp n >>= G) S pc lv (.int n :: .int dp :: .ref b :: .int sp :: .ref a :: st) := by
  refine VF.bind (fun S1 hx => ?_)
  have k2 := kk S1 hx
  obtain ⟨y, h1, hx⟩ := ob hx
  obtain ⟨z, h2, hx⟩ := ob hx
  by_cases hb : sp < 0 ∨ dp < 0 ∨ n < 0 ∨ y.1 < sp.toNatClampNeg + n.toNatClampNeg ∨ z.1 < dp.toNatClampNeg + n.toNatClampNeg
  · rw [if_pos hb] at hx; cases hx
  rw [if_neg hb] at hx
  by_cases hel : elQ S 4 y.2 sp.toNatClampNeg n.toNatClampNeg = true
  case neg => rw [if_neg hel] at hx; cases hx
  rw [if_pos hel] at hx
  cases hx
  have b1 : ¬ sp < 0 := fun q => hb (Or.inl q)
  have b2 : ¬ dp < 0 := fun q => hb (Or.inr (Or.inl q))
  have b3 : ¬ n < 0 := fun q => hb (Or.inr (Or.inr (Or.inl q)))
  have b4 : sp.toNatClampNeg + n.toNatClampNeg ≤ y.1 := Nat.not_lt.mp fun q => hb (Or.inr (Or.inr (Or.inr (Or.inl q))))
  have b5 : dp.toNatClampNeg + n.toNatClampNeg ≤ z.1 := Nat.not_lt.mp fun q => hb (Or.inr (Or.inr (Or.inr (Or.inr q))))
  obtain ⟨yn, f⟩ := y
  obtain ⟨zn, g⟩ := z
  refine VF.put (aQ_at h2) k2 (fun R H locs cells slots Q ls hI hl w hR hR2 T hT Y => ?_)
  have hK := C.2.2.2.2.2.2.2.1.1
  have hc0 : H[a]? = some (vp_cell (P.2.1 3) (yn, .inr (.inr (.inr (.inr f))))) := (hI.2.2.1 a _ (aQ_at h1)).2
  have hc1 : H[b]? = some (vp_cell (P.2.1 3) (zn, .inr (.inr (.inr (.inr g))))) := (hI.2.2.1 b _ (aQ_at h2)).2
  obtain ⟨-, k0, hk0, cm0, hkk0⟩ := (hK.2 3 _ rfl).1 yn (fun j => va_rf (f j))
  obtain ⟨-, k1, hk1, cm1, hkk1⟩ := (hK.2 3 _ rfl).1 zn (fun j => va_rf (g j))
  obtain ⟨vm', Y', step⟩ := Y.arraycopy C.1 C.2.2.2.1 (C.2.2.2.2.1 _ hk.1) (C.2.2.2.2.1 _ hk.2.1) (C.2.2.2.2.1 _ hk.2.2.1) (C.2.2.2.2.1 _ hk.2.2.2) (src := a) (dst := b) (cs := vp_cell (P.2.1 3) (yn, .inr (.inr (.inr (.inr f))))) (cd := vp_cell (P.2.1 3) (zn, .inr (.inr (.inr (.inr g))))) (srcPos := sp) (destPos := dp) (n := n) (by rw [hT]; exact hc0) (by rw [hT]; exact hc1)
    (fun _ h => by cases h) (fun _ h => by cases h) (fun h => by cases h) (fun h => by cases h) hk0 hk1 hkk0 hkk1 rfl b1 b2 b3
    (by rw [nn32 sp b1, nn32 n b3]; show ¬ _ > ((arrV _ yn (fun j => va_rf (f j))).slots.size : Int); rw [arrV_size]; omega)
    (by rw [nn32 dp b2, nn32 n b3]; show ¬ _ > ((arrV _ zn (fun j => va_rf (g j))).slots.size : Int); rw [arrV_size]; omega)
    (fun vm₁ hal i hi => by
      have e : (vp_cell (P.2.1 3) (yn, .inr (.inr (.inr (.inr f))))).slots.getD (sp.toNatClampNeg + i) .null = va_rf (f (sp.toNatClampNeg + i)) := by
        show (arrV _ yn (fun j => va_rf (f j))).slots.getD _ _ = _
        rw [Array.getD_eq_getD_getElem?, arrV_read _ _ (by omega)]
        rfl
      rw [e]
      cases hy : f (sp.toNatClampNeg + i) with
      | none => exact ⟨rfl, trivial⟩
      | some v =>
        have hv := List.all_eq_true.mp hel i (List.mem_range.mpr hi)
        dsimp only at hv
        rw [hy] at hv
        obtain ⟨vs, hvs⟩ := Option.isSome_iff_exists.mp hv
        obtain ⟨r', hr', cellV, g1, g2, g3, -⟩ := (hI.2.2.1 v _ (gO_at hvs)).2
        have hcls := (hK.1 4 _ rfl).2
        obtain ⟨kA, comp, r1, r2, r3, -⟩ := (hK.2 3 _ rfl).2
        cases hk1.symm.trans r1
        cases hkk1.symm.trans r2
        have hcomp : cm1 = P.1.1 4 := Option.some.inj (r3.symm.trans hcls.1)
        obtain ⟨kC, hkC, -⟩ := hcls.2
        obtain ⟨kC', hkC', -⟩ := hal.2.2 _ _ hkC
        refine ⟨rfl, cellV, (show T.heap[v]? = some cellV by rw [hT]; exact g1), (fun q h => by rw [g3] at h; cases h), ⟨kC', by rw [g2]; exact hkC'⟩, ⟨kC', by rw [hcomp]; exact hkC'⟩, ?_⟩
        show vm₁.assignable _ _ = true
        rw [hal.assignable, g2, hcomp]
        exact va_assign hcls)
    (g := F0 X.2.2.2.2.1 pc ls (.int n :: .int dp :: .ref b :: .int sp :: .ref a :: st)) rfl (by rw [C.2.2.1]; exact hl.1) (rest := st) rfl (by rw [C.2.1]; exact hd) (by rw [hR]; exact hfr) (by rw [hR2]; show 2 * 0 + _ + _ ≤ _; omega)
  have e1 : copied (vp_cell (P.2.1 3) (yn, .inr (.inr (.inr (.inr f))))) (vp_cell (P.2.1 3) (zn, .inr (.inr (.inr (.inr g))))) sp dp n = vp_cell (P.2.1 3) (zn, .inr (.inr (.inr (.inr (va_cpy f g sp.toNatClampNeg dp.toNatClampNeg n.toNatClampNeg))))) := by
    rw [vp_cell_q, vp_cell_q, vp_cell_q]
    exact va_copied (fun z => va_rf z) _ _ f g b4
  rw [e1] at Y' step
  have hbl : b < H.size := (Array.getElem?_eq_some_iff.mp hc1).1
  have hheap : ((T.setVm vm').setCell b (vp_cell (P.2.1 3) (zn, .inr (.inr (.inr (.inr (va_cpy f g sp.toNatClampNeg dp.toNatClampNeg n.toNatClampNeg))))))).heap = H.setIfInBounds b (vp_cell (P.2.1 3) (zn, .inr (.inr (.inr (.inr (va_cpy f g sp.toNatClampNeg dp.toNatClampNeg n.toNatClampNeg)))))) := by rw [← hT]; rfl
  obtain ⟨t, a1, b1⟩ := w _ _ (fun q hq => by
      obtain ⟨z, -, hz⟩ := List.mem_map.mp hq
      rw [← hz]) (show (H.setIfInBounds b _)[b]? = some _ by first | (simp [Array.getElem?_setIfInBounds, hbl]; done) | (simp [Array.getElem?_setIfInBounds, hbl]; rfl)) (by simp) (fun q hq => by simp [Array.getElem?_setIfInBounds, Ne.symm hq]) _ hheap Y'
  exact ⟨t, step t a1, b1⟩
theorem g_cpQ4 {a b idx : Nat} {sp dp n : Int32} {G : St → Option ρ} (C : CX (OG P) X l cc nL own ret) (hd : decode cc pc = .ok (.invokestatic idx, 3)) (hk : LkC own idx) (hfr : 1 ≤ fr) (hlo : (st.map fun v => v.category).sum + (nativeFrameWords "java/lang/System" "arraycopy" 5 + 11) ≤ lo) (kk : ∀ S1, cQ_ S 4 5 a b sp dp n = some S1 → VF (OG P) X nL fr lo S0 fin (G S1) S1 (pc + 3) lv st) : VF (OG P) X nL fr lo S0 fin (cQ_ S 4 5 a b sp dp n >>= G) S pc lv (.int n :: .int dp :: .ref b :: .int sp :: .ref a :: st) := by
  refine VF.bind (fun S1 hx => ?_)
  have k2 := kk S1 hx
  obtain ⟨y, h1, hx⟩ := ob hx
  obtain ⟨z, h2, hx⟩ := ob hx
  by_cases hb : sp < 0 ∨ dp < 0 ∨ n < 0 ∨ y.1 < sp.toNatClampNeg + n.toNatClampNeg ∨ z.1 < dp.toNatClampNeg + n.toNatClampNeg
  · rw [if_pos hb] at hx; cases hx
  rw [if_neg hb] at hx
  by_cases hel : elQ S 5 y.2 sp.toNatClampNeg n.toNatClampNeg = true
  case neg => rw [if_neg hel] at hx; cases hx
  rw [if_pos hel] at hx
  cases hx
  have b1 : ¬ sp < 0 := fun q => hb (Or.inl q)
  have b2 : ¬ dp < 0 := fun q => hb (Or.inr (Or.inl q))
  have b3 : ¬ n < 0 := fun q => hb (Or.inr (Or.inr (Or.inl q)))
  have b4 : sp.toNatClampNeg + n.toNatClampNeg ≤ y.1 := Nat.not_lt.mp fun q => hb (Or.inr (Or.inr (Or.inr (Or.inl q))))
  have b5 : dp.toNatClampNeg + n.toNatClampNeg ≤ z.1 := Nat.not_lt.mp fun q => hb (Or.inr (Or.inr (Or.inr (Or.inr q))))
  obtain ⟨yn, f⟩ := y
  obtain ⟨zn, g⟩ := z
  refine VF.put (aQ_at h2) k2 (fun R H locs cells slots Q ls hI hl w hR hR2 T hT Y => ?_)
  have hK := C.2.2.2.2.2.2.2.1.1
  have hc0 : H[a]? = some (vp_cell (P.2.1 4) (yn, .inr (.inr (.inr (.inr f))))) := (hI.2.2.1 a _ (aQ_at h1)).2
  have hc1 : H[b]? = some (vp_cell (P.2.1 4) (zn, .inr (.inr (.inr (.inr g))))) := (hI.2.2.1 b _ (aQ_at h2)).2
  obtain ⟨-, k0, hk0, cm0, hkk0⟩ := (hK.2 4 _ rfl).1 yn (fun j => va_rf (f j))
  obtain ⟨-, k1, hk1, cm1, hkk1⟩ := (hK.2 4 _ rfl).1 zn (fun j => va_rf (g j))
  obtain ⟨vm', Y', step⟩ := Y.arraycopy C.1 C.2.2.2.1 (C.2.2.2.2.1 _ hk.1) (C.2.2.2.2.1 _ hk.2.1) (C.2.2.2.2.1 _ hk.2.2.1) (C.2.2.2.2.1 _ hk.2.2.2) (src := a) (dst := b) (cs := vp_cell (P.2.1 4) (yn, .inr (.inr (.inr (.inr f))))) (cd := vp_cell (P.2.1 4) (zn, .inr (.inr (.inr (.inr g))))) (srcPos := sp) (destPos := dp) (n := n) (by rw [hT]; exact hc0) (by rw [hT]; exact hc1)
    (fun _ h => by cases h) (fun _ h => by cases h) (fun h => by cases h) (fun h => by cases h) hk0 hk1 hkk0 hkk1 rfl b1 b2 b3
    (by rw [nn32 sp b1, nn32 n b3]; show ¬ _ > ((arrV _ yn (fun j => va_rf (f j))).slots.size : Int); rw [arrV_size]; omega)
    (by rw [nn32 dp b2, nn32 n b3]; show ¬ _ > ((arrV _ zn (fun j => va_rf (g j))).slots.size : Int); rw [arrV_size]; omega)
    (fun vm₁ hal i hi => by
      have e : (vp_cell (P.2.1 4) (yn, .inr (.inr (.inr (.inr f))))).slots.getD (sp.toNatClampNeg + i) .null = va_rf (f (sp.toNatClampNeg + i)) := by
        show (arrV _ yn (fun j => va_rf (f j))).slots.getD _ _ = _
        rw [Array.getD_eq_getD_getElem?, arrV_read _ _ (by omega)]
        rfl
      rw [e]
      cases hy : f (sp.toNatClampNeg + i) with
      | none => exact ⟨rfl, trivial⟩
      | some v =>
        have hv := List.all_eq_true.mp hel i (List.mem_range.mpr hi)
        dsimp only at hv
        rw [hy] at hv
        obtain ⟨vs, hvs⟩ := Option.isSome_iff_exists.mp hv
        obtain ⟨r', hr', cellV, g1, g2, g3, -⟩ := (hI.2.2.1 v _ (gO_at hvs)).2
        have hcls := (hK.1 5 _ rfl).2
        obtain ⟨kA, comp, r1, r2, r3, -⟩ := (hK.2 4 _ rfl).2
        cases hk1.symm.trans r1
        cases hkk1.symm.trans r2
        have hcomp : cm1 = P.1.1 5 := Option.some.inj (r3.symm.trans hcls.1)
        obtain ⟨kC, hkC, -⟩ := hcls.2
        obtain ⟨kC', hkC', -⟩ := hal.2.2 _ _ hkC
        refine ⟨rfl, cellV, (show T.heap[v]? = some cellV by rw [hT]; exact g1), (fun q h => by rw [g3] at h; cases h), ⟨kC', by rw [g2]; exact hkC'⟩, ⟨kC', by rw [hcomp]; exact hkC'⟩, ?_⟩
        show vm₁.assignable _ _ = true
        rw [hal.assignable, g2, hcomp]
        exact va_assign hcls)
    (g := F0 X.2.2.2.2.1 pc ls (.int n :: .int dp :: .ref b :: .int sp :: .ref a :: st)) rfl (by rw [C.2.2.1]; exact hl.1) (rest := st) rfl (by rw [C.2.1]; exact hd) (by rw [hR]; exact hfr) (by rw [hR2]; show 2 * 0 + _ + _ ≤ _; omega)
  have e1 : copied (vp_cell (P.2.1 4) (yn, .inr (.inr (.inr (.inr f))))) (vp_cell (P.2.1 4) (zn, .inr (.inr (.inr (.inr g))))) sp dp n = vp_cell (P.2.1 4) (zn, .inr (.inr (.inr (.inr (va_cpy f g sp.toNatClampNeg dp.toNatClampNeg n.toNatClampNeg))))) := by
    rw [vp_cell_q, vp_cell_q, vp_cell_q]
    exact va_copied (fun z => va_rf z) _ _ f g b4
  rw [e1] at Y' step
  have hbl : b < H.size := (Array.getElem?_eq_some_iff.mp hc1).1
  have hheap : ((T.setVm vm').setCell b (vp_cell (P.2.1 4) (zn, .inr (.inr (.inr (.inr (va_cpy f g sp.toNatClampNeg dp.toNatClampNeg n.toNatClampNeg))))))).heap = H.setIfInBounds b (vp_cell (P.2.1 4) (zn, .inr (.inr (.inr (.inr (va_cpy f g sp.toNatClampNeg dp.toNatClampNeg n.toNatClampNeg)))))) := by rw [← hT]; rfl
  obtain ⟨t, a1, b1⟩ := w _ _ (fun q hq => by
      obtain ⟨z, -, hz⟩ := List.mem_map.mp hq
      rw [← hz]) (show (H.setIfInBounds b _)[b]? = some _ by first | (simp [Array.getElem?_setIfInBounds, hbl]; done) | (simp [Array.getElem?_setIfInBounds, hbl]; rfl)) (by simp) (fun q hq => by simp [Array.getElem?_setIfInBounds, Ne.symm hq]) _ hheap Y'
  exact ⟨t, step t a1, b1⟩
theorem VF.liftR {pc' : Nat} {st' : List Value} (k : VF (OG P) X nL fr lo S0 fin E S pc' lv st')
    (h : ∀ (R : Room) (H : Heap) (locs : List Loc) (cells slots : Nat) (Q : State → Prop) (ls : Array Slot), (OG P).1 S H → lv_has ls nL lv → cells ≤ R.cells → slots ≤ R.slots → R.frames = fr → R.locals = lo → W X.1 X.2.1 X.2.2.1 R X.2.2.2.1 X.2.2.2.2.1 X.2.2.2.2.2.1 X.2.2.2.2.2.2.1 X.2.2.2.2.2.2.2.1 X.2.2.2.2.2.2.2.2.1 H locs cells slots Q (F0 X.2.2.2.2.1 pc' ls st') → W X.1 X.2.1 X.2.2.1 R X.2.2.2.1 X.2.2.2.2.1 X.2.2.2.2.2.1 X.2.2.2.2.2.2.1 X.2.2.2.2.2.2.2.1 X.2.2.2.2.2.2.2.2.1 H locs cells slots Q (F0 X.2.2.2.2.1 pc ls st)) : VF (OG P) X nL fr lo S0 fin E S pc lv st := by
  intro r hr hL
  obtain ⟨h1, h2⟩ := k r hr hL
  exact ⟨h1, fun H locs ls hI hS hl => h _ H locs _ _ _ ls hI hl (Nat.sub_le_sub_right h1.1 _) (Nat.sub_le_sub_right h1.2.1 _) rfl rfl (h2 H locs ls hI hS hl)⟩
def LkO (own : String) (idx : Nat) : Prop := Cond.methodLink own idx Lib.objectInit ∈ lw_all ∧ Cond.instanceMethod Lib.objectInit ∈ lw_all ∧ Cond.code Lib.objectInit ⟨#[0xb1]⟩ 1 none ∈ lw_all
theorem g_objInit {a idx : Nat} (C : CX (OG P) X l cc nL own ret) (hd : decode cc pc = .ok (.invokespecial idx, 3)) (hk : LkO own idx) (hfr : 1 ≤ fr) (hlo : (st.map fun v => v.category).sum + 12 ≤ lo) (k : VF (OG P) X nL fr lo S0 fin E S (pc + 3) lv st) : VF (OG P) X nL fr lo S0 fin E S pc lv (.ref a :: st) :=
  VF.liftR k (fun R H locs cells slots Q ls hI hl _ _ hR hR2 w => W.objInit C.1 C.2.1 C.2.2.2.1 (C.2.2.2.2.1 _ hk.1) (C.2.2.2.2.1 _ hk.2.1) (C.2.2.2.2.1 _ hk.2.2) rfl (hl.1.trans C.2.2.1.symm) rfl hd (by rw [hR]; exact hfr) (by rw [hR2]; show 2 * 0 + _ + _ ≤ _; omega) w)
theorem g_mmin {idx : Nat} {x y : Int32} (C : CX (OG P) X l cc nL own ret) (hd : decode cc pc = .ok (.invokestatic idx, 3)) (h1 : Cond.methodLink own idx Lib.Math.min.name ∈ lw_all) (h2 : Cond.static Lib.Math.min.name ∈ lw_all) (h3 : Cond.initialized "java/lang/Math" ∈ lw_all) (h4 : Cond.code Lib.Math.min.name Lib.Math.min.code 2 (some .int) ∈ lw_all) (hfr : 1 ≤ fr) (hlo : (st.map fun v => v.category).sum + 13 ≤ lo) (k : VF (OG P) X nL fr lo S0 fin E S (pc + 3) lv (.int (if y < x then y else x) :: st)) : VF (OG P) X nL fr lo S0 fin E S pc lv (.int y :: .int x :: st) :=
  VF.liftR k (fun R H locs cells slots Q ls hI hl hc hs hR hR2 w => va_mmin C.1 C.2.1 (C.2.2.1.trans hl.1.symm) C.2.2.2.1 (C.2.2.2.2.1 _ h1) (C.2.2.2.2.1 _ h2) (C.2.2.2.2.1 _ h3) (C.2.2.2.2.1 _ h4) (by rw [hR]; exact hfr) (by rw [hR2]; exact hlo) hc hs hd w)
theorem g_mmax {idx : Nat} {x y : Int32} (C : CX (OG P) X l cc nL own ret) (hd : decode cc pc = .ok (.invokestatic idx, 3)) (h1 : Cond.methodLink own idx Lib.Math.max.name ∈ lw_all) (h2 : Cond.static Lib.Math.max.name ∈ lw_all) (h3 : Cond.initialized "java/lang/Math" ∈ lw_all) (h4 : Cond.code Lib.Math.max.name Lib.Math.max.code 2 (some .int) ∈ lw_all) (hfr : 1 ≤ fr) (hlo : (st.map fun v => v.category).sum + 13 ≤ lo) (k : VF (OG P) X nL fr lo S0 fin E S (pc + 3) lv (.int (if x < y then y else x) :: st)) : VF (OG P) X nL fr lo S0 fin E S pc lv (.int y :: .int x :: st) :=
  VF.liftR k (fun R H locs cells slots Q ls hI hl hc hs hR hR2 w => va_mmax C.1 C.2.1 (C.2.2.1.trans hl.1.symm) C.2.2.2.1 (C.2.2.2.2.1 _ h1) (C.2.2.2.2.1 _ h2) (C.2.2.2.2.1 _ h3) (C.2.2.2.2.1 _ h4) (by rw [hR]; exact hfr) (by rw [hR2]; exact hlo) hc hs hd w)
theorem g_mminL {idx : Nat} {x y : Int64} (C : CX (OG P) X l cc nL own ret) (hd : decode cc pc = .ok (.invokestatic idx, 3)) (h1 : Cond.methodLink own idx Lib.MathLoose.min_long.x ∈ lw_all) (h2 : Cond.static Lib.MathLoose.min_long.x ∈ lw_all) (h3 : Cond.initialized "java/lang/Math" ∈ lw_all) (h4 : Cond.code Lib.MathLoose.min_long.x Lib.MathLoose.min_long.code 4 (some .long) ∈ lw_all) (hfr : 1 ≤ fr) (hlo : (st.map fun v => v.category).sum + 15 ≤ lo) (k : VF (OG P) X nL fr lo S0 fin E S (pc + 3) lv (.long (if y < x then y else x) :: st)) : VF (OG P) X nL fr lo S0 fin E S pc lv (.long y :: .long x :: st) :=
  VF.liftR k (fun R H locs cells slots Q ls hI hl hc hs hR hR2 w => va_mmin_long C.1 C.2.1 (C.2.2.1.trans hl.1.symm) C.2.2.2.1 (C.2.2.2.2.1 _ h1) (C.2.2.2.2.1 _ h2) (C.2.2.2.2.1 _ h3) (C.2.2.2.2.1 _ h4) (by rw [hR]; exact hfr) (by rw [hR2]; exact hlo) hc hs hd w)
theorem g_mmaxL {idx : Nat} {x y : Int64} (C : CX (OG P) X l cc nL own ret) (hd : decode cc pc = .ok (.invokestatic idx, 3)) (h1 : Cond.methodLink own idx Lib.MathLoose.max_long.x ∈ lw_all) (h2 : Cond.static Lib.MathLoose.max_long.x ∈ lw_all) (h3 : Cond.initialized "java/lang/Math" ∈ lw_all) (h4 : Cond.code Lib.MathLoose.max_long.x Lib.MathLoose.max_long.code 4 (some .long) ∈ lw_all) (hfr : 1 ≤ fr) (hlo : (st.map fun v => v.category).sum + 15 ≤ lo) (k : VF (OG P) X nL fr lo S0 fin E S (pc + 3) lv (.long (if y < x then x else y) :: st)) : VF (OG P) X nL fr lo S0 fin E S pc lv (.long y :: .long x :: st) :=
  VF.liftR k (fun R H locs cells slots Q ls hI hl hc hs hR hR2 w => va_mmax_long C.1 C.2.1 (C.2.2.1.trans hl.1.symm) C.2.2.2.1 (C.2.2.2.2.1 _ h1) (C.2.2.2.2.1 _ h2) (C.2.2.2.2.1 _ h3) (C.2.2.2.2.1 _ h4) (by rw [hR]; exact hfr) (by rw [hR2]; exact hlo) hc hs hd w)
theorem g_mabsL {idx : Nat} {x : Int64} (C : CX (OG P) X l cc nL own ret) (hd : decode cc pc = .ok (.invokestatic idx, 3)) (h1 : Cond.methodLink own idx Lib.MathLoose.abs_long.x ∈ lw_all) (h2 : Cond.static Lib.MathLoose.abs_long.x ∈ lw_all) (h3 : Cond.initialized "java/lang/Math" ∈ lw_all) (h4 : Cond.code Lib.MathLoose.abs_long.x Lib.MathLoose.abs_long.code 2 (some .long) ∈ lw_all) (hfr : 1 ≤ fr) (hlo : (st.map fun v => v.category).sum + 13 ≤ lo) (k : VF (OG P) X nL fr lo S0 fin E S (pc + 3) lv (.long (if 0 < x then x else -x) :: st)) : VF (OG P) X nL fr lo S0 fin E S pc lv (.long x :: st) :=
  VF.liftR k (fun R H locs cells slots Q ls hI hl hc hs hR hR2 w => va_mabs_long C.1 C.2.1 (C.2.2.1.trans hl.1.symm) C.2.2.2.1 (C.2.2.2.2.1 _ h1) (C.2.2.2.2.1 _ h2) (C.2.2.2.2.1 _ h3) (C.2.2.2.2.1 _ h4) (by rw [hR]; exact hfr) (by rw [hR2]; exact hlo) hc hs hd w)
/-- null and references that may be null -/
theorem g_null (C : CX (OG P) X l cc nL own ret) (hd : decode cc pc = .ok (.aconst_null, 1)) (k : VF (OG P) X nL fr lo S0 fin E S (pc + 1) lv (va_rf none :: st)) : VF (OG P) X nL fr lo S0 fin E S pc lv st := VF.lift k (fun _ _ _ _ _ _ _ _ w => lv_null C.1 C.2.1 hd w)
theorem g_aload_nQ {k0 : Fin 4} {x : Option Nat} (C : CX (OG P) X l cc nL own ret) (hd : decode cc pc = .ok (.aload_n k0, 1)) (j : Nat) (hj : lv[j]? = some (k0.val, va_rf x)) (k : VF (OG P) X nL fr lo S0 fin E S (pc + 1) lv (va_rf x :: st)) : VF (OG P) X nL fr lo S0 fin E S pc lv st := VF.lift k (fun _ _ _ _ _ _ _ hl w => by
  cases x with
  | none => exact lv_aload_nN C.1 C.2.1 hd rfl (lv_at hl j hj) w
  | some a => exact lv_aload_n C.1 C.2.1 hd rfl (lv_at hl j hj) w)
theorem g_aloadQ {i : Nat} {x : Option Nat} (C : CX (OG P) X l cc nL own ret) (hd : decode cc pc = .ok (.aload i, 2)) (j : Nat) (hj : lv[j]? = some (i, va_rf x)) (k : VF (OG P) X nL fr lo S0 fin E S (pc + 2) lv (va_rf x :: st)) : VF (OG P) X nL fr lo S0 fin E S pc lv st := VF.lift k (fun _ _ _ _ _ _ _ hl w => by
  cases x with
  | none => exact lv_aloadN C.1 C.2.1 hd (lv_at hl j hj) w
  | some a => exact lv_aload C.1 C.2.1 hd (lv_at hl j hj) w)
theorem g_astore_nQ {k0 : Fin 4} {x : Option Nat} {lv' : List (Nat × Value)} (C : CX (OG P) X l cc nL own ret) (hd : decode cc pc = .ok (.astore_n k0, 1)) (hn : k0.val < nL) (hl' : (k0.val, va_rf x) :: lv.filter (fun q => !(q.1 == k0.val) && !(q.1 + 1 == k0.val && q.2.category == 2)) = lv') (k : VF (OG P) X nL fr lo S0 fin E S (pc + 1) lv' st) : VF (OG P) X nL fr lo S0 fin E S pc lv (va_rf x :: st) := VF.lifts k (fun _ _ _ _ _ _ _ hl w => by
  cases x with
  | none => exact lv_astore_nN C.1 C.2.1 hd rfl hl hn hl' w
  | some a => exact lv_astore_n C.1 C.2.1 hd rfl hl hn hl' w)
theorem g_astoreQ {i : Nat} {x : Option Nat} {lv' : List (Nat × Value)} (C : CX (OG P) X l cc nL own ret) (hd : decode cc pc = .ok (.astore i, 2)) (hn : i < nL) (hl' : (i, va_rf x) :: lv.filter (fun q => !(q.1 == i) && !(q.1 + 1 == i && q.2.category == 2)) = lv') (k : VF (OG P) X nL fr lo S0 fin E S (pc + 2) lv' st) : VF (OG P) X nL fr lo S0 fin E S pc lv (va_rf x :: st) := VF.lifts k (fun _ _ _ _ _ _ _ hl w => by
  cases x with
  | none => exact lv_astoreN C.1 C.2.1 hd hl hn hl' w
  | some a => exact lv_astore C.1 C.2.1 hd hl hn hl' w)
theorem g_ifnull {x : Option Nat} {off : Int} {tgt : Nat} {ic : Decidable (x = none)} {Ea Eb : Option ρ} (C : CX (OG P) X l cc nL own ret) (hd : decode cc pc = .ok (.ifnull off, 3)) (ht : (pc : Int) + off = (tgt : Int)) (ka : x = none → VF (OG P) X nL fr lo S0 fin Ea S tgt lv st) (kb : ¬ x = none → VF (OG P) X nL fr lo S0 fin Eb S (pc + 3) lv st) : VF (OG P) X nL fr lo S0 fin (@ite _ (x = none) ic Ea Eb) S pc lv (va_rf x :: st) := VF.lift2 ka kb (fun _ _ _ _ _ _ _ wa wb => by
  cases x with
  | none => exact lv_ifnullN C.1 C.2.1 hd ht (wa rfl)
  | some a => exact lv_ifnull C.1 C.2.1 hd (wb (fun h => by cases h)))
theorem g_ifnonnull {x : Option Nat} {off : Int} {tgt : Nat} {ic : Decidable (x = none)} {Ea Eb : Option ρ} (C : CX (OG P) X l cc nL own ret) (hd : decode cc pc = .ok (.ifnonnull off, 3)) (ht : (pc : Int) + off = (tgt : Int)) (ka : x = none → VF (OG P) X nL fr lo S0 fin Ea S (pc + 3) lv st) (kb : ¬ x = none → VF (OG P) X nL fr lo S0 fin Eb S tgt lv st) : VF (OG P) X nL fr lo S0 fin (@ite _ (x = none) ic Ea Eb) S pc lv (va_rf x :: st) := VF.lift2 ka kb (fun _ _ _ _ _ _ _ wa wb => by
  cases x with
  | none => exact lv_ifnonnullN C.1 C.2.1 hd (wa rfl)
  | some a => exact lv_ifnonnull C.1 C.2.1 hd ht (wb (fun h => by cases h)))
theorem g_acmp_eq {x y : Option Nat} {off : Int} {tgt : Nat} {ic : Decidable (x = y)} {Ea Eb : Option ρ} (C : CX (OG P) X l cc nL own ret) (hd : decode cc pc = .ok (.if_acmp .eq off, 3)) (ht : (pc : Int) + off = (tgt : Int)) (ka : x = y → VF (OG P) X nL fr lo S0 fin Ea S tgt lv st) (kb : ¬ x = y → VF (OG P) X nL fr lo S0 fin Eb S (pc + 3) lv st) : VF (OG P) X nL fr lo S0 fin (@ite _ (x = y) ic Ea Eb) S pc lv (va_rf y :: va_rf x :: st) := VF.lift2 ka kb (fun _ _ _ _ _ _ _ wa wb => lv_acmp_eq C.1 C.2.1 hd ht wa wb)
theorem g_acmp_ne {x y : Option Nat} {off : Int} {tgt : Nat} {ic : Decidable (x = y)} {Ea Eb : Option ρ} (C : CX (OG P) X l cc nL own ret) (hd : decode cc pc = .ok (.if_acmp .ne off, 3)) (ht : (pc : Int) + off = (tgt : Int)) (ka : x = y → VF (OG P) X nL fr lo S0 fin Ea S (pc + 3) lv st) (kb : ¬ x = y → VF (OG P) X nL fr lo S0 fin Eb S tgt lv st) : VF (OG P) X nL fr lo S0 fin (@ite _ (x = y) ic Ea Eb) S pc lv (va_rf y :: va_rf x :: st) := VF.lift2 ka kb (fun _ _ _ _ _ _ _ wa wb => lv_acmp_ne C.1 C.2.1 hd ht wb wa)
theorem g_letq {x : Option Nat} {G : Option Nat → Option ρ} (k : ∀ y : Option Nat, y = x → VF (OG P) X nL fr lo S0 fin (G y) S pc lv (va_rf y :: st)) : VF (OG P) X nL fr lo S0 fin (some x >>= G) S pc lv (va_rf x :: st) := k x rfl
/-- the receiver's cell -/
theorem g_recv {a ci : Nat} {fs : List Value} {Cn : String} {T : u_T} {N : Nat} (hc : clG[ci]? = some (Cn, T, N)) (C : CX (OG P) X l cc nL own ret) (he : gO S ci a = some fs) : ∀ H, (OG P).1 S H → ∃ cell : Cell, H[a]? = some cell ∧ cell.vm.isStatics = false ∧ X.2.2.2.1.vm.findClass Cn = some cell.cls := fun H hI => by
  obtain ⟨r, h1, cell, q1, q2, q3, -⟩ := (hI.2.2.1 a _ (gO_at he)).2
  exact ⟨cell, q1, by rw [q3]; rfl, by rw [q2]; exact (C.2.2.2.2.2.2.2.1.1.1 ci _ hc).2.1⟩
theorem g_castS {a ci idx N : Nat} {Cn : String} {T : u_T} {G : List Value → Option ρ} (C : CX (OG P) X l cc nL own ret) (hd : decode cc pc = .ok (.checkcast idx, 3)) (hc : clG[ci]? = some (Cn, T, N)) (hk : Cond.classLink own idx Cn ∈ lw_all) (kk : ∀ fs, gO S ci a = some fs → VF (OG P) X nL fr lo S0 fin (G fs) S (pc + 3) lv (.ref a :: st)) : VF (OG P) X nL fr lo S0 fin (gO S ci a >>= G) S pc lv (.ref a :: st) :=
  VF.bind (fun fs hx => VF.liftR (kk fs hx) (fun R H locs cells slots Q ls hI hl _ _ _ _ w => va_castS C.1 C.2.1 C.2.2.2.1 (C.2.2.2.2.1 _ hk) (C.2.2.2.2.2.2.2.1.1.1 ci _ hc).2 (g_recv hc C hx H hI) hd w))
theorem g_castN {idx : Nat} (C : CX (OG P) X l cc nL own ret) (hd : decode cc pc = .ok (.checkcast idx, 3)) (k : VF (OG P) X nL fr lo S0 fin E S (pc + 3) lv (va_rf none :: st)) : VF (OG P) X nL fr lo S0 fin E S pc lv (va_rf none :: st) := VF.lift k (fun _ _ _ _ _ _ _ _ w => lv_castN C.1 C.2.1 hd w)
/-- a cast of what may be null -/
def gOQ (S : St) (ci : Nat) (x : Option Nat) : Option Unit := match x with
  | none => some ()
  | some a => (gO S ci a) >>= fun _ => some ()
theorem g_castQ {x : Option Nat} {ci idx N : Nat} {Cn : String} {T : u_T} {G : Unit → Option ρ} (C : CX (OG P) X l cc nL own ret) (hd : decode cc pc = .ok (.checkcast idx, 3)) (hc : clG[ci]? = some (Cn, T, N)) (hk : Cond.classLink own idx Cn ∈ lw_all) (kk : ∀ u, gOQ S ci x = some u → VF (OG P) X nL fr lo S0 fin (G u) S (pc + 3) lv (va_rf x :: st)) : VF (OG P) X nL fr lo S0 fin (gOQ S ci x >>= G) S pc lv (va_rf x :: st) := by
  refine VF.bind (fun u hu => ?_)
  have k2 := kk u hu
  cases x with
  | none => exact g_castN C hd k2
  | some a =>
    obtain ⟨fs, h1, -⟩ := ob hu
    exact VF.liftR k2 (fun R H locs cells slots Q ls hI hl _ _ _ _ w => va_castS C.1 C.2.1 C.2.2.2.1 (C.2.2.2.2.1 _ hk) (C.2.2.2.2.2.2.2.1.1.1 ci _ hc).2 (g_recv hc C h1 H hI) hd w)
theorem g_castI {a idx : Nat} {G : (Nat × (Nat → Int32)) → Option ρ} (C : CX (OG P) X l cc nL own ret) (hd : decode cc pc = .ok (.checkcast idx, 3)) (hk : Cond.classLink own idx "[I" ∈ lw_all) (kk : ∀ y, aI S 0 a = some y → VF (OG P) X nL fr lo S0 fin (G y) S (pc + 3) lv (.ref a :: st)) : VF (OG P) X nL fr lo S0 fin (aI S 0 a >>= G) S pc lv (.ref a :: st) :=
  VF.bind (fun y hy => VF.look (aI_at hy) (kk y hy) (fun R H locs cells slots Q ls hP hl w => va_castA C.1 C.2.1 C.2.2.2.1 (C.2.2.2.2.1 _ hk) (at_A hP) 0 rfl (C.2.2.2.2.2.2.2.1.1.2 0 _ rfl).2 hd w))
/-- instanceof of a Line: 7 Rising, 8 Falling -/
def isX (S : St) (ci cj a : Nat) : Option Int32 := match gO S ci a with
  | some _ => some 1
  | none => (gO S cj a) >>= fun _ => some 0
theorem g_inst {a ci cj idx N Nj : Nat} {Cn Cj : String} {T Tj : u_T} {G : Int32 → Option ρ} (C : CX (OG P) X l cc nL own ret) (hd : decode cc pc = .ok (.instanceof idx, 3)) (hc : clG[ci]? = some (Cn, T, N)) (hj : clG[cj]? = some (Cj, Tj, Nj)) (hk : Cond.classLink own idx Cn ∈ lw_all) (hn : (Cj, Cn) ∈ ncG) (kk : ∀ x, isX S ci cj a = some x → VF (OG P) X nL fr lo S0 fin (G x) S (pc + 3) lv (.int x :: st)) : VF (OG P) X nL fr lo S0 fin (isX S ci cj a >>= G) S pc lv (.ref a :: st) := by
  refine VF.bind (fun x hx => ?_)
  have k2 := kk x hx
  unfold isX at hx
  split at hx
  · rename_i fs e
    cases hx
    exact VF.liftR k2 (fun R H locs cells slots Q ls hI hl _ _ _ _ w => va_instS C.1 C.2.1 C.2.2.2.1 (C.2.2.2.2.1 _ hk) (C.2.2.2.2.2.2.2.1.1.1 ci _ hc).2 (g_recv hc C e H hI) hd w)
  · obtain ⟨fs, h1, h2⟩ := ob hx
    cases h2
    exact VF.liftR k2 (fun R H locs cells slots Q ls hI hl _ _ _ _ w => va_instNo (C := Cj) C.1 C.2.1 C.2.2.2.1 (C.2.2.2.2.1 _ hk) (C.2.2.2.2.2.2.2.1.2.2.2.2.1 _ hn) (g_recv hj C h1 H hI) hd w)
/-- a static field -/
theorem g_gets {idx : Nat} {Cn n d : String} {v : Value} (C : CX (OG P) X l cc nL own ret) (hd : decode cc pc = .ok (.getstatic idx, 3)) (hz : (Cn, n, d, v) ∈ zG P.2.2.2.2.2) (hk : Cond.fieldLink own idx Cn n d ∈ lw_all) (k : VF (OG P) X nL fr lo S0 fin E S (pc + 3) lv (v :: st)) : VF (OG P) X nL fr lo S0 fin E S pc lv st :=
  VF.liftR k (fun R H locs cells slots Q ls hI hl _ _ _ _ w => by
    obtain ⟨cf, kf, fi, f, a, cell, h1, h2, h3, h4, h5, h6, h7, h8⟩ := hI.2.2.2.2.2.2.2.1 _ hz _ H C.2.2.2.2.2.2.2.1.2.2.2.2.2.1 hI.2.2.2.1
    exact W.gets C.1 C.2.1 C.2.2.2.1 (C.2.2.2.2.1 _ hk) h1 h2 h3 h4 h5 (fun e => by rw [e] at h6; cases h6) h7 rfl hd w)
/-! calls in the class's world -/
def LkN (own : String) (idx : Nat) (y : MethodName) (b : ByteArray) (L : Nat) (r : Option FieldType) (n : Nat) : Prop := (∃ host, Cond.methodLinkNest own idx y host ∈ lw_tbl) ∧ Cond.initialized y.cls ∈ lw_all ∧ Cond.code y b L r ∈ lw_all ∧ y.cls ≠ "java/lang/invoke/MethodHandle" ∧ y.cls ≠ "java/lang/invoke/VarHandle" ∧ (parseMethodDescriptor y.desc).map (fun d => d.parameters.length) = some n
def LkSN (own : String) (idx : Nat) (y : MethodName) (b : ByteArray) (L : Nat) (r : Option FieldType) (n : Nat) : Prop := LkN own idx y b L r n ∧ Cond.static y ∈ lw_all
def LkVN (own : String) (idx : Nat) (y : MethodName) (b : ByteArray) (L : Nat) (r : Option FieldType) (n : Nat) : Prop := LkN own idx y b L r n ∧ Cond.instanceMethod y ∈ lw_all ∧ Cond.selects y.cls y y ∈ lw_all
def LkIN (own : String) (idx : Nat) (y : MethodName) (b : ByteArray) (L : Nat) (n : Nat) : Prop := LkN own idx y b L none n ∧ y.name = "<init>" ∧ Cond.instanceMethod y ∈ lw_all
def LkU (own : String) (idx : Nat) (Cn owner : String) (x y : MethodName) (b : ByteArray) (L : Nat) (r : Option FieldType) (n : Nat) : Prop := GoodIn lw_all (va_wsU own idx Cn owner x y (ws_ y b L r)) ∧ (y = ⟨owner, x.name, x.desc⟩ ∨ Cond.declares ⟨owner, x.name, x.desc⟩ ∈ lw_tbl) ∧ owner ≠ "java/lang/invoke/MethodHandle" ∧ owner ≠ "java/lang/invoke/VarHandle" ∧ (parseMethodDescriptor x.desc).map (fun d => d.parameters.length) = some n
def LkSU (own : String) (idx : Nat) (y : MethodName) (b : ByteArray) (L : Nat) (r : Option FieldType) (n : Nat) : Prop := GoodIn lw_all (va_wsSU own idx y (ws_ y b L r)) ∧ y.name ≠ "<init>" ∧ (parseMethodDescriptor y.desc).map (fun d => d.parameters.length) = some n
def LkF (own : String) (idx : Nat) (Cn : String) (x y : MethodName) (b : ByteArray) (L : Nat) (r : Option FieldType) (n : Nat) : Prop := GoodIn lw_all (va_wsF own idx Cn x y (ws_ y b L r)) ∧ (Cn, x, y) ∈ fwG ∧ x.cls ≠ "java/lang/invoke/MethodHandle" ∧ x.cls ≠ "java/lang/invoke/VarHandle" ∧ (parseMethodDescriptor x.desc).map (fun d => d.parameters.length) = some n
theorem v_after5 {α : Type} {fin' : α → Option Value × St} {G : α → Option ρ} {a : α} {r : ρ} {st0 : List Value} {av : Array Value} (hL : LE (OG P) S0 S) (hLE : LE (OG P) S (fin' a).2) (k : VF (OG P) X nL fr lo S0 fin (G a) (fin' a).2 (pc + 5) lv ((fin' a).1.toList ++ st)) (hr : G a = some r)
    (hrun : ∀ (H : Heap) (locs : List Loc) (ls : Array Slot), (OG P).1 S H → lv_has ls nL lv → ((OG P).2.1 S).1 - ((OG P).2.1 S0).1 + (((OG P).2.1 (fin' a).2).1 - ((OG P).2.1 S).1) ≤ (rmOf (OG P) fr lo S0 (fin r).2).cells ∧ ((OG P).2.1 S).2 - ((OG P).2.1 S0).2 + (((OG P).2.1 (fin' a).2).2 - ((OG P).2.1 S).2) ≤ (rmOf (OG P) fr lo S0 (fin r).2).slots → va_Run5 X.1 X.2.1 X.2.2.1 (headSpec [] (rmOf (OG P) fr lo S0 (fin r).2)).room X.2.2.2.1 X.2.2.2.2.1 X.2.2.2.2.2.1 X.2.2.2.2.2.2.1 X.2.2.2.2.2.2.2.1 X.2.2.2.2.2.2.2.2.1 H locs (((OG P).2.1 S).1 - ((OG P).2.1 S0).1) (((OG P).2.1 S).2 - ((OG P).2.1 S0).2) (((OG P).2.1 (fin' a).2).1 - ((OG P).2.1 S).1) (((OG P).2.1 (fin' a).2).2 - ((OG P).2.1 S).2) (F0 X.2.2.2.2.1 pc ls st0) st (Qo (OG P) S (fin' a) av) ((OG P).2.2.1 S)) :
    LE (OG P) S (fin r).2 ∧ V (OG P) X nL fr lo S0 (fin r) S pc lv st0 := by
  obtain ⟨h1, h2⟩ := k r hr (hL.tr hLE)
  refine ⟨hLE.tr h1, fun H locs ls hI hS hl T hT Y => ?_⟩
  obtain ⟨e1, e2⟩ := LE.sub hL hLE
  obtain ⟨v, st₀, t, T', L, h0, Y', hL', t1, t2, ⟨hv, hI', hz, hk⟩, go⟩ := hrun H locs ls hI hl (by
    rw [e1, e2]
    exact ⟨Nat.sub_le_sub_right h1.1 _, Nat.sub_le_sub_right h1.2.1 _⟩) T hT Y
  cases hv
  rw [h0] at hz hk
  rw [e1, e2] at Y'
  have hS' : va_S ((OG P).2.2.1 S0) X.2.2.2.1.heap T'.heap (locs ++ L) := ⟨Nat.le_trans hS.1 (by rw [t1]; exact hz), fun q q1 q2 => by rw [t1, hk q (Nat.lt_of_lt_of_le q1 hS.1) (fun z => q2 (hL.2.2 q z))]; exact hS.2.1 q q1 q2, fun q hq => by
    rcases List.mem_append.mp hq with h | h
    · exact hS.2.2 q h
    · exact hL.2.2 _ (hL' q h)⟩
  obtain ⟨t3, a1, b1⟩ := h2 T'.heap (locs ++ L) ls (by rw [t1]; exact hI') hS' hl T' rfl Y'
  exact ⟨t3, go t3 a1, b1⟩
theorem g_callV {idx : Nat} {y : MethodName} {b : ByteArray} {L n fr' lo' : Nat} {r' : Option FieldType} {o : Nat} {ci N : Nat} {Cn : String} {T : u_T} {As : List Value} {α : Type} {F : Option α} {fin' : α → Option Value × St} {G : α → Option ρ} (C : CX (OG P) X l cc nL own ret) (lk : LkV own idx y b L r' n) (hd : decode cc pc = .ok (.invokevirtual idx, 3)) (hn : As.length = n) (hfr : fr' + 1 ≤ fr) (hlo : 8 + (L + 11) + lo' ≤ lo) (hst : (st.map fun v => v.category).sum ≤ 8) (hc : clG[ci]? = some (Cn, T, N)) (hcn : Cn = y.cls) (hrc : ∀ a, F = some a → ∃ fs, gO S ci o = some fs) (hM : ∀ a, F = some a → FM l (OG P) y (ws_ y b L r') fr' lo' (.ref o :: As) S (fin' a)) (k : ∀ a, F = some a → VF (OG P) X nL fr lo S0 fin (G a) (fin' a).2 (pc + 3) lv ((fin' a).1.toList ++ st)) : VF (OG P) X nL fr lo S0 fin (F >>= G) S pc lv (As.reverse ++ .ref o :: st) := by
  intro r hr hL
  cases hF : F with
  | none => rw [hF] at hr; cases hr
  | some a =>
    rw [hF] at hr
    obtain ⟨hLE, hM⟩ := hM a hF
    refine v_after (av := (Value.ref o :: As).toArray) hL hLE (k a hF) hr fun H locs ls hI hl hf => ?_
    rw [show l = X.2.1 from C.2.2.2.2.2.2.2.2.1.symm] at hM
    have hp := FM.pre (l' := l) (As := (.ref o :: As)) C hI
    have hts := C.2.2.2.2.1
    obtain ⟨fs, hfs⟩ := hrc a hF
    exact va_runV (n := n) (C := y.cls) ⟨C.1, C.2.1, C.2.2.1, C.2.2.2.1, hts⟩ hM (cwV n hts lk.1 rfl rfl rfl ⟨rfl, lk.2⟩ ⟨hfr, hlo⟩) ⟨hp.1, hcn ▸ g_recv hc C hfs H hI, hp.2⟩ rfl hn hl.1 rfl (lv_room hst) hd hf
theorem g_callSN {idx : Nat} {y : MethodName} {b : ByteArray} {L n fr' lo' : Nat} {r' : Option FieldType} {As : List Value} {α : Type} {F : Option α} {fin' : α → Option Value × St} {G : α → Option ρ} (C : CX (OG P) X l cc nL own ret) (lk : LkSN own idx y b L r' n) (hd : decode cc pc = .ok (.invokestatic idx, 3)) (hn : As.length = n) (hfr : fr' + 1 ≤ fr) (hlo : 8 + (L + 11) + lo' ≤ lo) (hst : (st.map fun v => v.category).sum ≤ 8) (hM : ∀ a, F = some a → FM l (OG P) y (ws_ y b L r') fr' lo' As S (fin' a)) (k : ∀ a, F = some a → VF (OG P) X nL fr lo S0 fin (G a) (fin' a).2 (pc + 3) lv ((fin' a).1.toList ++ st)) : VF (OG P) X nL fr lo S0 fin (F >>= G) S pc lv (As.reverse ++ st) := by
  intro r hr hL
  cases hF : F with
  | none => rw [hF] at hr; cases hr
  | some a =>
    rw [hF] at hr
    obtain ⟨hLE, hM⟩ := hM a hF
    refine v_after (av := As.toArray) hL hLE (k a hF) hr fun H locs ls hI hl hf => ?_
    rw [show l = X.2.1 from C.2.2.2.2.2.2.2.2.1.symm] at hM
    have hp := FM.pre (l' := l) (As := As) C hI
    have hts := C.2.2.2.2.1
    obtain ⟨⟨⟨host, l1⟩, l2, l3, l4⟩, l5⟩ := lk
    exact va_runSN (n := n) (host := host) ⟨C.1, C.2.1, C.2.2.1, C.2.2.2.1, hts⟩ hM ⟨va_cnB n hts (lw_meth l3) rfl rfl rfl (C.2.2.2.2.2.2.2.1.2.1 _ l1 rfl) (hts _ l2) l4 ⟨hfr, hlo⟩, hts _ l5, trivial⟩ hp rfl hn hl.1 rfl (lv_room hst) hd hf
theorem g_callVN {idx : Nat} {y : MethodName} {b : ByteArray} {L n fr' lo' : Nat} {r' : Option FieldType} {o : Nat} {ci N : Nat} {Cn : String} {T : u_T} {As : List Value} {α : Type} {F : Option α} {fin' : α → Option Value × St} {G : α → Option ρ} (C : CX (OG P) X l cc nL own ret) (lk : LkVN own idx y b L r' n) (hd : decode cc pc = .ok (.invokevirtual idx, 3)) (hn : As.length = n) (hfr : fr' + 1 ≤ fr) (hlo : 8 + (L + 11) + lo' ≤ lo) (hst : (st.map fun v => v.category).sum ≤ 8) (hc : clG[ci]? = some (Cn, T, N)) (hcn : Cn = y.cls) (hrc : ∀ a, F = some a → ∃ fs, gO S ci o = some fs) (hM : ∀ a, F = some a → FM l (OG P) y (ws_ y b L r') fr' lo' (.ref o :: As) S (fin' a)) (k : ∀ a, F = some a → VF (OG P) X nL fr lo S0 fin (G a) (fin' a).2 (pc + 3) lv ((fin' a).1.toList ++ st)) : VF (OG P) X nL fr lo S0 fin (F >>= G) S pc lv (As.reverse ++ .ref o :: st) := by
  intro r hr hL
  cases hF : F with
  | none => rw [hF] at hr; cases hr
  | some a =>
    rw [hF] at hr
    obtain ⟨hLE, hM⟩ := hM a hF
    refine v_after (av := (Value.ref o :: As).toArray) hL hLE (k a hF) hr fun H locs ls hI hl hf => ?_
    rw [show l = X.2.1 from C.2.2.2.2.2.2.2.2.1.symm] at hM
    have hp := FM.pre (l' := l) (As := (.ref o :: As)) C hI
    have hts := C.2.2.2.2.1
    obtain ⟨fs, hfs⟩ := hrc a hF
    obtain ⟨⟨⟨host, l1⟩, l2, l3, l4⟩, l5, l6⟩ := lk
    exact va_runVN (n := n) (C := y.cls) (host := host) ⟨C.1, C.2.1, C.2.2.1, C.2.2.2.1, hts⟩ hM ⟨va_cnB n hts (lw_meth l3) rfl rfl rfl (C.2.2.2.2.2.2.2.1.2.1 _ l1 rfl) (hts _ l2) l4 ⟨hfr, hlo⟩, hts _ l5, hts _ l6⟩ ⟨hp.1, hcn ▸ g_recv hc C hfs H hI, hp.2⟩ rfl hn hl.1 rfl (lv_room hst) hd hf
theorem g_callIN {idx : Nat} {y : MethodName} {b : ByteArray} {L n fr' lo' : Nat}  {o : Nat} {As : List Value} {α : Type} {F : Option α} {fin' : α → Option Value × St} {G : α → Option ρ} (C : CX (OG P) X l cc nL own ret) (lk : LkIN own idx y b L n) (hd : decode cc pc = .ok (.invokespecial idx, 3)) (hn : As.length = n) (hfr : fr' + 1 ≤ fr) (hlo : 8 + (L + 11) + lo' ≤ lo) (hst : (st.map fun v => v.category).sum ≤ 8) (hM : ∀ a, F = some a → FM l (OG P) y (ws_ y b L none) fr' lo' (.ref o :: As) S (fin' a)) (k : ∀ a, F = some a → VF (OG P) X nL fr lo S0 fin (G a) (fin' a).2 (pc + 3) lv ((fin' a).1.toList ++ st)) : VF (OG P) X nL fr lo S0 fin (F >>= G) S pc lv (As.reverse ++ .ref o :: st) := by
  intro r hr hL
  cases hF : F with
  | none => rw [hF] at hr; cases hr
  | some a =>
    rw [hF] at hr
    obtain ⟨hLE, hM⟩ := hM a hF
    refine v_after (av := (Value.ref o :: As).toArray) hL hLE (k a hF) hr fun H locs ls hI hl hf => ?_
    rw [show l = X.2.1 from C.2.2.2.2.2.2.2.2.1.symm] at hM
    have hp := FM.pre (l' := l) (As := (.ref o :: As)) C hI
    have hts := C.2.2.2.2.1
    obtain ⟨⟨⟨host, l1⟩, l2, l3, l4⟩, l5, l6⟩ := lk
    exact va_runIN (n := n) (host := host) ⟨C.1, C.2.1, C.2.2.1, C.2.2.2.1, hts⟩ hM ⟨va_cnB n hts (lw_meth l3) rfl rfl rfl (C.2.2.2.2.2.2.2.1.2.1 _ l1 rfl) (hts _ l2) l4 ⟨hfr, hlo⟩, l5, hts _ l6⟩ hp rfl hn hl.1 rfl (lv_room hst) hd hf
theorem g_callU {idx : Nat} {owner : String} {x : MethodName} {y : MethodName} {b : ByteArray} {L n fr' lo' : Nat} {r' : Option FieldType} {o : Nat} {ci N : Nat} {Cn : String} {T : u_T} {As : List Value} {α : Type} {F : Option α} {fin' : α → Option Value × St} {G : α → Option ρ} (C : CX (OG P) X l cc nL own ret) (lk : LkU own idx Cn owner x y b L r' n) (hd : decode cc pc = .ok (.invokevirtual idx, 3)) (hn : As.length = n) (hfr : fr' + 1 ≤ fr) (hlo : 8 + (L + 11) + lo' ≤ lo) (hst : (st.map fun v => v.category).sum ≤ 8) (hc : clG[ci]? = some (Cn, T, N)) (hrc : ∀ a, F = some a → ∃ fs, gO S ci o = some fs) (hM : ∀ a, F = some a → FM l (OG P) y (ws_ y b L r') fr' lo' (.ref o :: As) S (fin' a)) (k : ∀ a, F = some a → VF (OG P) X nL fr lo S0 fin (G a) (fin' a).2 (pc + 3) lv ((fin' a).1.toList ++ st)) : VF (OG P) X nL fr lo S0 fin (F >>= G) S pc lv (As.reverse ++ .ref o :: st) := by
  intro r hr hL
  cases hF : F with
  | none => rw [hF] at hr; cases hr
  | some a =>
    rw [hF] at hr
    obtain ⟨hLE, hM⟩ := hM a hF
    refine v_after (av := (Value.ref o :: As).toArray) hL hLE (k a hF) hr fun H locs ls hI hl hf => ?_
    rw [show l = X.2.1 from C.2.2.2.2.2.2.2.2.1.symm] at hM
    have hp := FM.pre (l' := l) (As := (.ref o :: As)) C hI
    have hts := C.2.2.2.2.1
    obtain ⟨fs, hfs⟩ := hrc a hF
    obtain ⟨l1, l2, l3⟩ := lk
    rcases l2 with l2 | l2
    · exact va_runU (n := n) (C := Cn) ⟨C.1, C.2.1, C.2.2.1, C.2.2.2.1, hts⟩ hM (va_cwU n hts l1 rfl rfl rfl l2 l3 ⟨hfr, hlo⟩) ⟨hp.1, g_recv hc C hfs H hI, hp.2⟩ rfl hn hl.1 rfl (lv_room hst) hd hf
    · exact va_runU (n := n) (C := Cn) ⟨C.1, C.2.1, C.2.2.1, C.2.2.2.1, hts⟩ hM (va_cwA n hts l1 rfl rfl rfl (C.2.2.2.2.2.2.2.1.2.1 _ l2 rfl) l3 ⟨hfr, hlo⟩) ⟨hp.1, g_recv hc C hfs H hI, hp.2⟩ rfl hn hl.1 rfl (lv_room hst) hd hf
theorem g_callSU {idx : Nat} {y : MethodName} {b : ByteArray} {L n fr' lo' : Nat} {r' : Option FieldType} {o : Nat} {ci N : Nat} {Cn : String} {T : u_T} {As : List Value} {α : Type} {F : Option α} {fin' : α → Option Value × St} {G : α → Option ρ} (C : CX (OG P) X l cc nL own ret) (lk : LkSU own idx y b L r' n) (hd : decode cc pc = .ok (.invokespecial idx, 3)) (hn : As.length = n) (hfr : fr' + 1 ≤ fr) (hlo : 8 + (L + 11) + lo' ≤ lo) (hst : (st.map fun v => v.category).sum ≤ 8) (hc : clG[ci]? = some (Cn, T, N)) (hrc : ∀ a, F = some a → ∃ fs, gO S ci o = some fs) (hM : ∀ a, F = some a → FM l (OG P) y (ws_ y b L r') fr' lo' (.ref o :: As) S (fin' a)) (k : ∀ a, F = some a → VF (OG P) X nL fr lo S0 fin (G a) (fin' a).2 (pc + 3) lv ((fin' a).1.toList ++ st)) : VF (OG P) X nL fr lo S0 fin (F >>= G) S pc lv (As.reverse ++ .ref o :: st) := by
  intro r hr hL
  cases hF : F with
  | none => rw [hF] at hr; cases hr
  | some a =>
    rw [hF] at hr
    obtain ⟨hLE, hM⟩ := hM a hF
    refine v_after (av := (Value.ref o :: As).toArray) hL hLE (k a hF) hr fun H locs ls hI hl hf => ?_
    rw [show l = X.2.1 from C.2.2.2.2.2.2.2.2.1.symm] at hM
    have hp := FM.pre (l' := l) (As := (.ref o :: As)) C hI
    have hts := C.2.2.2.2.1
    obtain ⟨fs, hfs⟩ := hrc a hF
    obtain ⟨l1, l2⟩ := lk
    exact va_runSU (n := n) (C := Cn) (C.2.2.2.2.2.2.2.1.1.1 ci _ hc).2 ⟨C.1, C.2.1, C.2.2.1, C.2.2.2.1, hts⟩ hM (va_cwSU n hts l1 rfl rfl rfl l2 ⟨hfr, hlo⟩) ⟨hp.1, g_recv hc C hfs H hI, hp.2⟩ rfl hn hl.1 rfl (lv_room hst) hd hf
theorem g_callF {idx : Nat} {count : Nat} {x : MethodName} {y : MethodName} {b : ByteArray} {L n fr' lo' : Nat} {r' : Option FieldType} {o : Nat} {ci N : Nat} {Cn : String} {T : u_T} {As : List Value} {α : Type} {F : Option α} {fin' : α → Option Value × St} {G : α → Option ρ} (C : CX (OG P) X l cc nL own ret) (lk : LkF own idx Cn x y b L r' n) (hd : decode cc pc = .ok (.invokeinterface idx count, 5)) (hn : As.length = n) (hfr : fr' + 1 ≤ fr) (hlo : 8 + (L + 11) + lo' ≤ lo) (hst : (st.map fun v => v.category).sum ≤ 8) (hc : clG[ci]? = some (Cn, T, N)) (hrc : ∀ a, F = some a → ∃ fs, gO S ci o = some fs) (hM : ∀ a, F = some a → FM l (OG P) y (ws_ y b L r') fr' lo' (.ref o :: As) S (fin' a)) (k : ∀ a, F = some a → VF (OG P) X nL fr lo S0 fin (G a) (fin' a).2 (pc + 5) lv ((fin' a).1.toList ++ st)) : VF (OG P) X nL fr lo S0 fin (F >>= G) S pc lv (As.reverse ++ .ref o :: st) := by
  intro r hr hL
  cases hF : F with
  | none => rw [hF] at hr; cases hr
  | some a =>
    rw [hF] at hr
    obtain ⟨hLE, hM⟩ := hM a hF
    refine v_after5 (av := (Value.ref o :: As).toArray) hL hLE (k a hF) hr fun H locs ls hI hl hf => ?_
    rw [show l = X.2.1 from C.2.2.2.2.2.2.2.2.1.symm] at hM
    have hp := FM.pre (l' := l) (As := (.ref o :: As)) C hI
    have hts := C.2.2.2.2.1
    obtain ⟨fs, hfs⟩ := hrc a hF
    obtain ⟨l1, l2, l3⟩ := lk
    exact va_runF (n := n) (C := Cn) (C.2.2.2.2.2.2.2.1.1.1 ci _ hc).2 ⟨C.1, C.2.1, C.2.2.1, C.2.2.2.1, hts⟩ hM (va_cwF n hts l1 rfl rfl rfl (C.2.2.2.2.2.2.2.1.2.2.2.1 _ l2) l3 ⟨hfr, hlo⟩) ⟨hp.1, g_recv hc C hfs H hI, hp.2⟩ rfl hn hl.1 rfl (lv_room hst) hd hf
theorem g_callV_ri {idx : Nat} {y : MethodName} {b : ByteArray} {L n fr' lo' : Nat} {r' : Option FieldType} {o : Nat} {ci N : Nat} {Cn : String} {T : u_T} {As : List Value} {F : Option (Int32)} {G : (Int32) → Option ρ} (C : CX (OG P) X l cc nL own ret) (lk : LkV own idx y b L r' n) (hd : decode cc pc = .ok (.invokevirtual idx, 3)) (hn : As.length = n) (hfr : fr' + 1 ≤ fr) (hlo : 8 + (L + 11) + lo' ≤ lo) (hst : (st.map fun v => v.category).sum ≤ 8) (hc : clG[ci]? = some (Cn, T, N)) (hcn : Cn = y.cls) (hrc : ∀ a, F = some a → ∃ fs, gO S ci o = some fs) (hM : ∀ a, F = some a → FM l (OG P) y (ws_ y b L r') fr' lo' (.ref o :: As) S ((f_ri S) a)) (k : ∀ r : Int32, F = some r → VF (OG P) X nL fr lo S0 fin (G r) S (pc + 3) lv (.int r :: st)) : VF (OG P) X nL fr lo S0 fin (F >>= G) S pc lv (As.reverse ++ .ref o :: st) := g_callV (fin' := (f_ri S)) C lk hd hn hfr hlo hst hc hcn hrc hM k
theorem g_callSN_ri {idx : Nat} {y : MethodName} {b : ByteArray} {L n fr' lo' : Nat} {r' : Option FieldType} {As : List Value} {F : Option (Int32)} {G : (Int32) → Option ρ} (C : CX (OG P) X l cc nL own ret) (lk : LkSN own idx y b L r' n) (hd : decode cc pc = .ok (.invokestatic idx, 3)) (hn : As.length = n) (hfr : fr' + 1 ≤ fr) (hlo : 8 + (L + 11) + lo' ≤ lo) (hst : (st.map fun v => v.category).sum ≤ 8) (hM : ∀ a, F = some a → FM l (OG P) y (ws_ y b L r') fr' lo' As S ((f_ri S) a)) (k : ∀ r : Int32, F = some r → VF (OG P) X nL fr lo S0 fin (G r) S (pc + 3) lv (.int r :: st)) : VF (OG P) X nL fr lo S0 fin (F >>= G) S pc lv (As.reverse ++ st) := g_callSN (fin' := (f_ri S)) C lk hd hn hfr hlo hst hM k
theorem g_callU_ri {idx : Nat} {owner : String} {x : MethodName} {y : MethodName} {b : ByteArray} {L n fr' lo' : Nat} {r' : Option FieldType} {o : Nat} {ci N : Nat} {Cn : String} {T : u_T} {As : List Value} {F : Option (Int32)} {G : (Int32) → Option ρ} (C : CX (OG P) X l cc nL own ret) (lk : LkU own idx Cn owner x y b L r' n) (hd : decode cc pc = .ok (.invokevirtual idx, 3)) (hn : As.length = n) (hfr : fr' + 1 ≤ fr) (hlo : 8 + (L + 11) + lo' ≤ lo) (hst : (st.map fun v => v.category).sum ≤ 8) (hc : clG[ci]? = some (Cn, T, N)) (hrc : ∀ a, F = some a → ∃ fs, gO S ci o = some fs) (hM : ∀ a, F = some a → FM l (OG P) y (ws_ y b L r') fr' lo' (.ref o :: As) S ((f_ri S) a)) (k : ∀ r : Int32, F = some r → VF (OG P) X nL fr lo S0 fin (G r) S (pc + 3) lv (.int r :: st)) : VF (OG P) X nL fr lo S0 fin (F >>= G) S pc lv (As.reverse ++ .ref o :: st) := g_callU (fin' := (f_ri S)) C lk hd hn hfr hlo hst hc hrc hM k
theorem g_callSU_ri {idx : Nat} {y : MethodName} {b : ByteArray} {L n fr' lo' : Nat} {r' : Option FieldType} {o : Nat} {ci N : Nat} {Cn : String} {T : u_T} {As : List Value} {F : Option (Int32)} {G : (Int32) → Option ρ} (C : CX (OG P) X l cc nL own ret) (lk : LkSU own idx y b L r' n) (hd : decode cc pc = .ok (.invokespecial idx, 3)) (hn : As.length = n) (hfr : fr' + 1 ≤ fr) (hlo : 8 + (L + 11) + lo' ≤ lo) (hst : (st.map fun v => v.category).sum ≤ 8) (hc : clG[ci]? = some (Cn, T, N)) (hrc : ∀ a, F = some a → ∃ fs, gO S ci o = some fs) (hM : ∀ a, F = some a → FM l (OG P) y (ws_ y b L r') fr' lo' (.ref o :: As) S ((f_ri S) a)) (k : ∀ r : Int32, F = some r → VF (OG P) X nL fr lo S0 fin (G r) S (pc + 3) lv (.int r :: st)) : VF (OG P) X nL fr lo S0 fin (F >>= G) S pc lv (As.reverse ++ .ref o :: st) := g_callSU (fin' := (f_ri S)) C lk hd hn hfr hlo hst hc hrc hM k
theorem g_callF_ri {idx : Nat} {count : Nat} {x : MethodName} {y : MethodName} {b : ByteArray} {L n fr' lo' : Nat} {r' : Option FieldType} {o : Nat} {ci N : Nat} {Cn : String} {T : u_T} {As : List Value} {F : Option (Int32)} {G : (Int32) → Option ρ} (C : CX (OG P) X l cc nL own ret) (lk : LkF own idx Cn x y b L r' n) (hd : decode cc pc = .ok (.invokeinterface idx count, 5)) (hn : As.length = n) (hfr : fr' + 1 ≤ fr) (hlo : 8 + (L + 11) + lo' ≤ lo) (hst : (st.map fun v => v.category).sum ≤ 8) (hc : clG[ci]? = some (Cn, T, N)) (hrc : ∀ a, F = some a → ∃ fs, gO S ci o = some fs) (hM : ∀ a, F = some a → FM l (OG P) y (ws_ y b L r') fr' lo' (.ref o :: As) S ((f_ri S) a)) (k : ∀ r : Int32, F = some r → VF (OG P) X nL fr lo S0 fin (G r) S (pc + 5) lv (.int r :: st)) : VF (OG P) X nL fr lo S0 fin (F >>= G) S pc lv (As.reverse ++ .ref o :: st) := g_callF (fin' := (f_ri S)) C lk hd hn hfr hlo hst hc hrc hM k
theorem g_callV_rl {idx : Nat} {y : MethodName} {b : ByteArray} {L n fr' lo' : Nat} {r' : Option FieldType} {o : Nat} {ci N : Nat} {Cn : String} {T : u_T} {As : List Value} {F : Option (Int64)} {G : (Int64) → Option ρ} (C : CX (OG P) X l cc nL own ret) (lk : LkV own idx y b L r' n) (hd : decode cc pc = .ok (.invokevirtual idx, 3)) (hn : As.length = n) (hfr : fr' + 1 ≤ fr) (hlo : 8 + (L + 11) + lo' ≤ lo) (hst : (st.map fun v => v.category).sum ≤ 8) (hc : clG[ci]? = some (Cn, T, N)) (hcn : Cn = y.cls) (hrc : ∀ a, F = some a → ∃ fs, gO S ci o = some fs) (hM : ∀ a, F = some a → FM l (OG P) y (ws_ y b L r') fr' lo' (.ref o :: As) S ((f_rl S) a)) (k : ∀ r : Int64, F = some r → VF (OG P) X nL fr lo S0 fin (G r) S (pc + 3) lv (.long r :: st)) : VF (OG P) X nL fr lo S0 fin (F >>= G) S pc lv (As.reverse ++ .ref o :: st) := g_callV (fin' := (f_rl S)) C lk hd hn hfr hlo hst hc hcn hrc hM k
theorem g_callSN_rl {idx : Nat} {y : MethodName} {b : ByteArray} {L n fr' lo' : Nat} {r' : Option FieldType} {As : List Value} {F : Option (Int64)} {G : (Int64) → Option ρ} (C : CX (OG P) X l cc nL own ret) (lk : LkSN own idx y b L r' n) (hd : decode cc pc = .ok (.invokestatic idx, 3)) (hn : As.length = n) (hfr : fr' + 1 ≤ fr) (hlo : 8 + (L + 11) + lo' ≤ lo) (hst : (st.map fun v => v.category).sum ≤ 8) (hM : ∀ a, F = some a → FM l (OG P) y (ws_ y b L r') fr' lo' As S ((f_rl S) a)) (k : ∀ r : Int64, F = some r → VF (OG P) X nL fr lo S0 fin (G r) S (pc + 3) lv (.long r :: st)) : VF (OG P) X nL fr lo S0 fin (F >>= G) S pc lv (As.reverse ++ st) := g_callSN (fin' := (f_rl S)) C lk hd hn hfr hlo hst hM k
theorem g_callVN_rl {idx : Nat} {y : MethodName} {b : ByteArray} {L n fr' lo' : Nat} {r' : Option FieldType} {o : Nat} {ci N : Nat} {Cn : String} {T : u_T} {As : List Value} {F : Option (Int64)} {G : (Int64) → Option ρ} (C : CX (OG P) X l cc nL own ret) (lk : LkVN own idx y b L r' n) (hd : decode cc pc = .ok (.invokevirtual idx, 3)) (hn : As.length = n) (hfr : fr' + 1 ≤ fr) (hlo : 8 + (L + 11) + lo' ≤ lo) (hst : (st.map fun v => v.category).sum ≤ 8) (hc : clG[ci]? = some (Cn, T, N)) (hcn : Cn = y.cls) (hrc : ∀ a, F = some a → ∃ fs, gO S ci o = some fs) (hM : ∀ a, F = some a → FM l (OG P) y (ws_ y b L r') fr' lo' (.ref o :: As) S ((f_rl S) a)) (k : ∀ r : Int64, F = some r → VF (OG P) X nL fr lo S0 fin (G r) S (pc + 3) lv (.long r :: st)) : VF (OG P) X nL fr lo S0 fin (F >>= G) S pc lv (As.reverse ++ .ref o :: st) := g_callVN (fin' := (f_rl S)) C lk hd hn hfr hlo hst hc hcn hrc hM k
theorem g_callV_ra {idx : Nat} {y : MethodName} {b : ByteArray} {L n fr' lo' : Nat} {r' : Option FieldType} {o : Nat} {ci N : Nat} {Cn : String} {T : u_T} {As : List Value} {F : Option (Nat)} {G : (Nat) → Option ρ} (C : CX (OG P) X l cc nL own ret) (lk : LkV own idx y b L r' n) (hd : decode cc pc = .ok (.invokevirtual idx, 3)) (hn : As.length = n) (hfr : fr' + 1 ≤ fr) (hlo : 8 + (L + 11) + lo' ≤ lo) (hst : (st.map fun v => v.category).sum ≤ 8) (hc : clG[ci]? = some (Cn, T, N)) (hcn : Cn = y.cls) (hrc : ∀ a, F = some a → ∃ fs, gO S ci o = some fs) (hM : ∀ a, F = some a → FM l (OG P) y (ws_ y b L r') fr' lo' (.ref o :: As) S ((f_ra S) a)) (k : ∀ r : Nat, F = some r → VF (OG P) X nL fr lo S0 fin (G r) S (pc + 3) lv (.ref r :: st)) : VF (OG P) X nL fr lo S0 fin (F >>= G) S pc lv (As.reverse ++ .ref o :: st) := g_callV (fin' := (f_ra S)) C lk hd hn hfr hlo hst hc hcn hrc hM k
theorem g_callU_ra {idx : Nat} {owner : String} {x : MethodName} {y : MethodName} {b : ByteArray} {L n fr' lo' : Nat} {r' : Option FieldType} {o : Nat} {ci N : Nat} {Cn : String} {T : u_T} {As : List Value} {F : Option (Nat)} {G : (Nat) → Option ρ} (C : CX (OG P) X l cc nL own ret) (lk : LkU own idx Cn owner x y b L r' n) (hd : decode cc pc = .ok (.invokevirtual idx, 3)) (hn : As.length = n) (hfr : fr' + 1 ≤ fr) (hlo : 8 + (L + 11) + lo' ≤ lo) (hst : (st.map fun v => v.category).sum ≤ 8) (hc : clG[ci]? = some (Cn, T, N)) (hrc : ∀ a, F = some a → ∃ fs, gO S ci o = some fs) (hM : ∀ a, F = some a → FM l (OG P) y (ws_ y b L r') fr' lo' (.ref o :: As) S ((f_ra S) a)) (k : ∀ r : Nat, F = some r → VF (OG P) X nL fr lo S0 fin (G r) S (pc + 3) lv (.ref r :: st)) : VF (OG P) X nL fr lo S0 fin (F >>= G) S pc lv (As.reverse ++ .ref o :: st) := g_callU (fin' := (f_ra S)) C lk hd hn hfr hlo hst hc hrc hM k
theorem g_callSU_ra {idx : Nat} {y : MethodName} {b : ByteArray} {L n fr' lo' : Nat} {r' : Option FieldType} {o : Nat} {ci N : Nat} {Cn : String} {T : u_T} {As : List Value} {F : Option (Nat)} {G : (Nat) → Option ρ} (C : CX (OG P) X l cc nL own ret) (lk : LkSU own idx y b L r' n) (hd : decode cc pc = .ok (.invokespecial idx, 3)) (hn : As.length = n) (hfr : fr' + 1 ≤ fr) (hlo : 8 + (L + 11) + lo' ≤ lo) (hst : (st.map fun v => v.category).sum ≤ 8) (hc : clG[ci]? = some (Cn, T, N)) (hrc : ∀ a, F = some a → ∃ fs, gO S ci o = some fs) (hM : ∀ a, F = some a → FM l (OG P) y (ws_ y b L r') fr' lo' (.ref o :: As) S ((f_ra S) a)) (k : ∀ r : Nat, F = some r → VF (OG P) X nL fr lo S0 fin (G r) S (pc + 3) lv (.ref r :: st)) : VF (OG P) X nL fr lo S0 fin (F >>= G) S pc lv (As.reverse ++ .ref o :: st) := g_callSU (fin' := (f_ra S)) C lk hd hn hfr hlo hst hc hrc hM k
theorem g_callF_ra {idx : Nat} {count : Nat} {x : MethodName} {y : MethodName} {b : ByteArray} {L n fr' lo' : Nat} {r' : Option FieldType} {o : Nat} {ci N : Nat} {Cn : String} {T : u_T} {As : List Value} {F : Option (Nat)} {G : (Nat) → Option ρ} (C : CX (OG P) X l cc nL own ret) (lk : LkF own idx Cn x y b L r' n) (hd : decode cc pc = .ok (.invokeinterface idx count, 5)) (hn : As.length = n) (hfr : fr' + 1 ≤ fr) (hlo : 8 + (L + 11) + lo' ≤ lo) (hst : (st.map fun v => v.category).sum ≤ 8) (hc : clG[ci]? = some (Cn, T, N)) (hrc : ∀ a, F = some a → ∃ fs, gO S ci o = some fs) (hM : ∀ a, F = some a → FM l (OG P) y (ws_ y b L r') fr' lo' (.ref o :: As) S ((f_ra S) a)) (k : ∀ r : Nat, F = some r → VF (OG P) X nL fr lo S0 fin (G r) S (pc + 5) lv (.ref r :: st)) : VF (OG P) X nL fr lo S0 fin (F >>= G) S pc lv (As.reverse ++ .ref o :: st) := g_callF (fin' := (f_ra S)) C lk hd hn hfr hlo hst hc hrc hM k
theorem g_callV_rq {idx : Nat} {y : MethodName} {b : ByteArray} {L n fr' lo' : Nat} {r' : Option FieldType} {o : Nat} {ci N : Nat} {Cn : String} {T : u_T} {As : List Value} {F : Option (Option Nat)} {G : (Option Nat) → Option ρ} (C : CX (OG P) X l cc nL own ret) (lk : LkV own idx y b L r' n) (hd : decode cc pc = .ok (.invokevirtual idx, 3)) (hn : As.length = n) (hfr : fr' + 1 ≤ fr) (hlo : 8 + (L + 11) + lo' ≤ lo) (hst : (st.map fun v => v.category).sum ≤ 8) (hc : clG[ci]? = some (Cn, T, N)) (hcn : Cn = y.cls) (hrc : ∀ a, F = some a → ∃ fs, gO S ci o = some fs) (hM : ∀ a, F = some a → FM l (OG P) y (ws_ y b L r') fr' lo' (.ref o :: As) S ((f_rq S) a)) (k : ∀ r : Option Nat, F = some r → VF (OG P) X nL fr lo S0 fin (G r) S (pc + 3) lv (va_rf r :: st)) : VF (OG P) X nL fr lo S0 fin (F >>= G) S pc lv (As.reverse ++ .ref o :: st) := g_callV (fin' := (f_rq S)) C lk hd hn hfr hlo hst hc hcn hrc hM k
theorem g_callU_rq {idx : Nat} {owner : String} {x : MethodName} {y : MethodName} {b : ByteArray} {L n fr' lo' : Nat} {r' : Option FieldType} {o : Nat} {ci N : Nat} {Cn : String} {T : u_T} {As : List Value} {F : Option (Option Nat)} {G : (Option Nat) → Option ρ} (C : CX (OG P) X l cc nL own ret) (lk : LkU own idx Cn owner x y b L r' n) (hd : decode cc pc = .ok (.invokevirtual idx, 3)) (hn : As.length = n) (hfr : fr' + 1 ≤ fr) (hlo : 8 + (L + 11) + lo' ≤ lo) (hst : (st.map fun v => v.category).sum ≤ 8) (hc : clG[ci]? = some (Cn, T, N)) (hrc : ∀ a, F = some a → ∃ fs, gO S ci o = some fs) (hM : ∀ a, F = some a → FM l (OG P) y (ws_ y b L r') fr' lo' (.ref o :: As) S ((f_rq S) a)) (k : ∀ r : Option Nat, F = some r → VF (OG P) X nL fr lo S0 fin (G r) S (pc + 3) lv (va_rf r :: st)) : VF (OG P) X nL fr lo S0 fin (F >>= G) S pc lv (As.reverse ++ .ref o :: st) := g_callU (fin' := (f_rq S)) C lk hd hn hfr hlo hst hc hrc hM k
theorem g_callSU_rq {idx : Nat} {y : MethodName} {b : ByteArray} {L n fr' lo' : Nat} {r' : Option FieldType} {o : Nat} {ci N : Nat} {Cn : String} {T : u_T} {As : List Value} {F : Option (Option Nat)} {G : (Option Nat) → Option ρ} (C : CX (OG P) X l cc nL own ret) (lk : LkSU own idx y b L r' n) (hd : decode cc pc = .ok (.invokespecial idx, 3)) (hn : As.length = n) (hfr : fr' + 1 ≤ fr) (hlo : 8 + (L + 11) + lo' ≤ lo) (hst : (st.map fun v => v.category).sum ≤ 8) (hc : clG[ci]? = some (Cn, T, N)) (hrc : ∀ a, F = some a → ∃ fs, gO S ci o = some fs) (hM : ∀ a, F = some a → FM l (OG P) y (ws_ y b L r') fr' lo' (.ref o :: As) S ((f_rq S) a)) (k : ∀ r : Option Nat, F = some r → VF (OG P) X nL fr lo S0 fin (G r) S (pc + 3) lv (va_rf r :: st)) : VF (OG P) X nL fr lo S0 fin (F >>= G) S pc lv (As.reverse ++ .ref o :: st) := g_callSU (fin' := (f_rq S)) C lk hd hn hfr hlo hst hc hrc hM k
theorem g_callF_rq {idx : Nat} {count : Nat} {x : MethodName} {y : MethodName} {b : ByteArray} {L n fr' lo' : Nat} {r' : Option FieldType} {o : Nat} {ci N : Nat} {Cn : String} {T : u_T} {As : List Value} {F : Option (Option Nat)} {G : (Option Nat) → Option ρ} (C : CX (OG P) X l cc nL own ret) (lk : LkF own idx Cn x y b L r' n) (hd : decode cc pc = .ok (.invokeinterface idx count, 5)) (hn : As.length = n) (hfr : fr' + 1 ≤ fr) (hlo : 8 + (L + 11) + lo' ≤ lo) (hst : (st.map fun v => v.category).sum ≤ 8) (hc : clG[ci]? = some (Cn, T, N)) (hrc : ∀ a, F = some a → ∃ fs, gO S ci o = some fs) (hM : ∀ a, F = some a → FM l (OG P) y (ws_ y b L r') fr' lo' (.ref o :: As) S ((f_rq S) a)) (k : ∀ r : Option Nat, F = some r → VF (OG P) X nL fr lo S0 fin (G r) S (pc + 5) lv (va_rf r :: st)) : VF (OG P) X nL fr lo S0 fin (F >>= G) S pc lv (As.reverse ++ .ref o :: st) := g_callF (fin' := (f_rq S)) C lk hd hn hfr hlo hst hc hrc hM k
theorem g_callV_rv {idx : Nat} {y : MethodName} {b : ByteArray} {L n fr' lo' : Nat} {r' : Option FieldType} {o : Nat} {ci N : Nat} {Cn : String} {T : u_T} {As : List Value} {F : Option (Unit)} {G : (Unit) → Option ρ} (C : CX (OG P) X l cc nL own ret) (lk : LkV own idx y b L r' n) (hd : decode cc pc = .ok (.invokevirtual idx, 3)) (hn : As.length = n) (hfr : fr' + 1 ≤ fr) (hlo : 8 + (L + 11) + lo' ≤ lo) (hst : (st.map fun v => v.category).sum ≤ 8) (hc : clG[ci]? = some (Cn, T, N)) (hcn : Cn = y.cls) (hrc : ∀ a, F = some a → ∃ fs, gO S ci o = some fs) (hM : ∀ a, F = some a → FM l (OG P) y (ws_ y b L r') fr' lo' (.ref o :: As) S ((f_rv S) a)) (k : ∀ r : Unit, F = some r → VF (OG P) X nL fr lo S0 fin (G r) S (pc + 3) lv (st)) : VF (OG P) X nL fr lo S0 fin (F >>= G) S pc lv (As.reverse ++ .ref o :: st) := g_callV (fin' := (f_rv S)) C lk hd hn hfr hlo hst hc hcn hrc hM k
theorem g_callIN_rv {idx : Nat} {y : MethodName} {b : ByteArray} {L n fr' lo' : Nat}  {o : Nat} {As : List Value} {F : Option (Unit)} {G : (Unit) → Option ρ} (C : CX (OG P) X l cc nL own ret) (lk : LkIN own idx y b L n) (hd : decode cc pc = .ok (.invokespecial idx, 3)) (hn : As.length = n) (hfr : fr' + 1 ≤ fr) (hlo : 8 + (L + 11) + lo' ≤ lo) (hst : (st.map fun v => v.category).sum ≤ 8) (hM : ∀ a, F = some a → FM l (OG P) y (ws_ y b L none) fr' lo' (.ref o :: As) S ((f_rv S) a)) (k : ∀ r : Unit, F = some r → VF (OG P) X nL fr lo S0 fin (G r) S (pc + 3) lv (st)) : VF (OG P) X nL fr lo S0 fin (F >>= G) S pc lv (As.reverse ++ .ref o :: st) := g_callIN (fin' := (f_rv S)) C lk hd hn hfr hlo hst hM k
theorem g_callV_mi {idx : Nat} {y : MethodName} {b : ByteArray} {L n fr' lo' : Nat} {r' : Option FieldType} {o : Nat} {ci N : Nat} {Cn : String} {T : u_T} {As : List Value} {F : Option (Int32 × St)} {G : (Int32 × St) → Option ρ} (C : CX (OG P) X l cc nL own ret) (lk : LkV own idx y b L r' n) (hd : decode cc pc = .ok (.invokevirtual idx, 3)) (hn : As.length = n) (hfr : fr' + 1 ≤ fr) (hlo : 8 + (L + 11) + lo' ≤ lo) (hst : (st.map fun v => v.category).sum ≤ 8) (hc : clG[ci]? = some (Cn, T, N)) (hcn : Cn = y.cls) (hrc : ∀ a, F = some a → ∃ fs, gO S ci o = some fs) (hM : ∀ a, F = some a → FM l (OG P) y (ws_ y b L r') fr' lo' (.ref o :: As) S (f_mi a)) (k : ∀ r : Int32 × St, F = some r → VF (OG P) X nL fr lo S0 fin (G r) r.2 (pc + 3) lv (.int r.1 :: st)) : VF (OG P) X nL fr lo S0 fin (F >>= G) S pc lv (As.reverse ++ .ref o :: st) := g_callV (fin' := f_mi) C lk hd hn hfr hlo hst hc hcn hrc hM k
theorem g_callSN_mi {idx : Nat} {y : MethodName} {b : ByteArray} {L n fr' lo' : Nat} {r' : Option FieldType} {As : List Value} {F : Option (Int32 × St)} {G : (Int32 × St) → Option ρ} (C : CX (OG P) X l cc nL own ret) (lk : LkSN own idx y b L r' n) (hd : decode cc pc = .ok (.invokestatic idx, 3)) (hn : As.length = n) (hfr : fr' + 1 ≤ fr) (hlo : 8 + (L + 11) + lo' ≤ lo) (hst : (st.map fun v => v.category).sum ≤ 8) (hM : ∀ a, F = some a → FM l (OG P) y (ws_ y b L r') fr' lo' As S (f_mi a)) (k : ∀ r : Int32 × St, F = some r → VF (OG P) X nL fr lo S0 fin (G r) r.2 (pc + 3) lv (.int r.1 :: st)) : VF (OG P) X nL fr lo S0 fin (F >>= G) S pc lv (As.reverse ++ st) := g_callSN (fin' := f_mi) C lk hd hn hfr hlo hst hM k
theorem g_callU_mi {idx : Nat} {owner : String} {x : MethodName} {y : MethodName} {b : ByteArray} {L n fr' lo' : Nat} {r' : Option FieldType} {o : Nat} {ci N : Nat} {Cn : String} {T : u_T} {As : List Value} {F : Option (Int32 × St)} {G : (Int32 × St) → Option ρ} (C : CX (OG P) X l cc nL own ret) (lk : LkU own idx Cn owner x y b L r' n) (hd : decode cc pc = .ok (.invokevirtual idx, 3)) (hn : As.length = n) (hfr : fr' + 1 ≤ fr) (hlo : 8 + (L + 11) + lo' ≤ lo) (hst : (st.map fun v => v.category).sum ≤ 8) (hc : clG[ci]? = some (Cn, T, N)) (hrc : ∀ a, F = some a → ∃ fs, gO S ci o = some fs) (hM : ∀ a, F = some a → FM l (OG P) y (ws_ y b L r') fr' lo' (.ref o :: As) S (f_mi a)) (k : ∀ r : Int32 × St, F = some r → VF (OG P) X nL fr lo S0 fin (G r) r.2 (pc + 3) lv (.int r.1 :: st)) : VF (OG P) X nL fr lo S0 fin (F >>= G) S pc lv (As.reverse ++ .ref o :: st) := g_callU (fin' := f_mi) C lk hd hn hfr hlo hst hc hrc hM k
theorem g_callSU_mi {idx : Nat} {y : MethodName} {b : ByteArray} {L n fr' lo' : Nat} {r' : Option FieldType} {o : Nat} {ci N : Nat} {Cn : String} {T : u_T} {As : List Value} {F : Option (Int32 × St)} {G : (Int32 × St) → Option ρ} (C : CX (OG P) X l cc nL own ret) (lk : LkSU own idx y b L r' n) (hd : decode cc pc = .ok (.invokespecial idx, 3)) (hn : As.length = n) (hfr : fr' + 1 ≤ fr) (hlo : 8 + (L + 11) + lo' ≤ lo) (hst : (st.map fun v => v.category).sum ≤ 8) (hc : clG[ci]? = some (Cn, T, N)) (hrc : ∀ a, F = some a → ∃ fs, gO S ci o = some fs) (hM : ∀ a, F = some a → FM l (OG P) y (ws_ y b L r') fr' lo' (.ref o :: As) S (f_mi a)) (k : ∀ r : Int32 × St, F = some r → VF (OG P) X nL fr lo S0 fin (G r) r.2 (pc + 3) lv (.int r.1 :: st)) : VF (OG P) X nL fr lo S0 fin (F >>= G) S pc lv (As.reverse ++ .ref o :: st) := g_callSU (fin' := f_mi) C lk hd hn hfr hlo hst hc hrc hM k
theorem g_callF_mi {idx : Nat} {count : Nat} {x : MethodName} {y : MethodName} {b : ByteArray} {L n fr' lo' : Nat} {r' : Option FieldType} {o : Nat} {ci N : Nat} {Cn : String} {T : u_T} {As : List Value} {F : Option (Int32 × St)} {G : (Int32 × St) → Option ρ} (C : CX (OG P) X l cc nL own ret) (lk : LkF own idx Cn x y b L r' n) (hd : decode cc pc = .ok (.invokeinterface idx count, 5)) (hn : As.length = n) (hfr : fr' + 1 ≤ fr) (hlo : 8 + (L + 11) + lo' ≤ lo) (hst : (st.map fun v => v.category).sum ≤ 8) (hc : clG[ci]? = some (Cn, T, N)) (hrc : ∀ a, F = some a → ∃ fs, gO S ci o = some fs) (hM : ∀ a, F = some a → FM l (OG P) y (ws_ y b L r') fr' lo' (.ref o :: As) S (f_mi a)) (k : ∀ r : Int32 × St, F = some r → VF (OG P) X nL fr lo S0 fin (G r) r.2 (pc + 5) lv (.int r.1 :: st)) : VF (OG P) X nL fr lo S0 fin (F >>= G) S pc lv (As.reverse ++ .ref o :: st) := g_callF (fin' := f_mi) C lk hd hn hfr hlo hst hc hrc hM k
theorem g_callV_ml {idx : Nat} {y : MethodName} {b : ByteArray} {L n fr' lo' : Nat} {r' : Option FieldType} {o : Nat} {ci N : Nat} {Cn : String} {T : u_T} {As : List Value} {F : Option (Int64 × St)} {G : (Int64 × St) → Option ρ} (C : CX (OG P) X l cc nL own ret) (lk : LkV own idx y b L r' n) (hd : decode cc pc = .ok (.invokevirtual idx, 3)) (hn : As.length = n) (hfr : fr' + 1 ≤ fr) (hlo : 8 + (L + 11) + lo' ≤ lo) (hst : (st.map fun v => v.category).sum ≤ 8) (hc : clG[ci]? = some (Cn, T, N)) (hcn : Cn = y.cls) (hrc : ∀ a, F = some a → ∃ fs, gO S ci o = some fs) (hM : ∀ a, F = some a → FM l (OG P) y (ws_ y b L r') fr' lo' (.ref o :: As) S (f_ml a)) (k : ∀ r : Int64 × St, F = some r → VF (OG P) X nL fr lo S0 fin (G r) r.2 (pc + 3) lv (.long r.1 :: st)) : VF (OG P) X nL fr lo S0 fin (F >>= G) S pc lv (As.reverse ++ .ref o :: st) := g_callV (fin' := f_ml) C lk hd hn hfr hlo hst hc hcn hrc hM k
theorem g_callSN_ml {idx : Nat} {y : MethodName} {b : ByteArray} {L n fr' lo' : Nat} {r' : Option FieldType} {As : List Value} {F : Option (Int64 × St)} {G : (Int64 × St) → Option ρ} (C : CX (OG P) X l cc nL own ret) (lk : LkSN own idx y b L r' n) (hd : decode cc pc = .ok (.invokestatic idx, 3)) (hn : As.length = n) (hfr : fr' + 1 ≤ fr) (hlo : 8 + (L + 11) + lo' ≤ lo) (hst : (st.map fun v => v.category).sum ≤ 8) (hM : ∀ a, F = some a → FM l (OG P) y (ws_ y b L r') fr' lo' As S (f_ml a)) (k : ∀ r : Int64 × St, F = some r → VF (OG P) X nL fr lo S0 fin (G r) r.2 (pc + 3) lv (.long r.1 :: st)) : VF (OG P) X nL fr lo S0 fin (F >>= G) S pc lv (As.reverse ++ st) := g_callSN (fin' := f_ml) C lk hd hn hfr hlo hst hM k
theorem g_callVN_ml {idx : Nat} {y : MethodName} {b : ByteArray} {L n fr' lo' : Nat} {r' : Option FieldType} {o : Nat} {ci N : Nat} {Cn : String} {T : u_T} {As : List Value} {F : Option (Int64 × St)} {G : (Int64 × St) → Option ρ} (C : CX (OG P) X l cc nL own ret) (lk : LkVN own idx y b L r' n) (hd : decode cc pc = .ok (.invokevirtual idx, 3)) (hn : As.length = n) (hfr : fr' + 1 ≤ fr) (hlo : 8 + (L + 11) + lo' ≤ lo) (hst : (st.map fun v => v.category).sum ≤ 8) (hc : clG[ci]? = some (Cn, T, N)) (hcn : Cn = y.cls) (hrc : ∀ a, F = some a → ∃ fs, gO S ci o = some fs) (hM : ∀ a, F = some a → FM l (OG P) y (ws_ y b L r') fr' lo' (.ref o :: As) S (f_ml a)) (k : ∀ r : Int64 × St, F = some r → VF (OG P) X nL fr lo S0 fin (G r) r.2 (pc + 3) lv (.long r.1 :: st)) : VF (OG P) X nL fr lo S0 fin (F >>= G) S pc lv (As.reverse ++ .ref o :: st) := g_callVN (fin' := f_ml) C lk hd hn hfr hlo hst hc hcn hrc hM k
theorem g_callV_ma {idx : Nat} {y : MethodName} {b : ByteArray} {L n fr' lo' : Nat} {r' : Option FieldType} {o : Nat} {ci N : Nat} {Cn : String} {T : u_T} {As : List Value} {F : Option (Nat × St)} {G : (Nat × St) → Option ρ} (C : CX (OG P) X l cc nL own ret) (lk : LkV own idx y b L r' n) (hd : decode cc pc = .ok (.invokevirtual idx, 3)) (hn : As.length = n) (hfr : fr' + 1 ≤ fr) (hlo : 8 + (L + 11) + lo' ≤ lo) (hst : (st.map fun v => v.category).sum ≤ 8) (hc : clG[ci]? = some (Cn, T, N)) (hcn : Cn = y.cls) (hrc : ∀ a, F = some a → ∃ fs, gO S ci o = some fs) (hM : ∀ a, F = some a → FM l (OG P) y (ws_ y b L r') fr' lo' (.ref o :: As) S (f_ma a)) (k : ∀ r : Nat × St, F = some r → VF (OG P) X nL fr lo S0 fin (G r) r.2 (pc + 3) lv (.ref r.1 :: st)) : VF (OG P) X nL fr lo S0 fin (F >>= G) S pc lv (As.reverse ++ .ref o :: st) := g_callV (fin' := f_ma) C lk hd hn hfr hlo hst hc hcn hrc hM k
theorem g_callU_ma {idx : Nat} {owner : String} {x : MethodName} {y : MethodName} {b : ByteArray} {L n fr' lo' : Nat} {r' : Option FieldType} {o : Nat} {ci N : Nat} {Cn : String} {T : u_T} {As : List Value} {F : Option (Nat × St)} {G : (Nat × St) → Option ρ} (C : CX (OG P) X l cc nL own ret) (lk : LkU own idx Cn owner x y b L r' n) (hd : decode cc pc = .ok (.invokevirtual idx, 3)) (hn : As.length = n) (hfr : fr' + 1 ≤ fr) (hlo : 8 + (L + 11) + lo' ≤ lo) (hst : (st.map fun v => v.category).sum ≤ 8) (hc : clG[ci]? = some (Cn, T, N)) (hrc : ∀ a, F = some a → ∃ fs, gO S ci o = some fs) (hM : ∀ a, F = some a → FM l (OG P) y (ws_ y b L r') fr' lo' (.ref o :: As) S (f_ma a)) (k : ∀ r : Nat × St, F = some r → VF (OG P) X nL fr lo S0 fin (G r) r.2 (pc + 3) lv (.ref r.1 :: st)) : VF (OG P) X nL fr lo S0 fin (F >>= G) S pc lv (As.reverse ++ .ref o :: st) := g_callU (fin' := f_ma) C lk hd hn hfr hlo hst hc hrc hM k
theorem g_callSU_ma {idx : Nat} {y : MethodName} {b : ByteArray} {L n fr' lo' : Nat} {r' : Option FieldType} {o : Nat} {ci N : Nat} {Cn : String} {T : u_T} {As : List Value} {F : Option (Nat × St)} {G : (Nat × St) → Option ρ} (C : CX (OG P) X l cc nL own ret) (lk : LkSU own idx y b L r' n) (hd : decode cc pc = .ok (.invokespecial idx, 3)) (hn : As.length = n) (hfr : fr' + 1 ≤ fr) (hlo : 8 + (L + 11) + lo' ≤ lo) (hst : (st.map fun v => v.category).sum ≤ 8) (hc : clG[ci]? = some (Cn, T, N)) (hrc : ∀ a, F = some a → ∃ fs, gO S ci o = some fs) (hM : ∀ a, F = some a → FM l (OG P) y (ws_ y b L r') fr' lo' (.ref o :: As) S (f_ma a)) (k : ∀ r : Nat × St, F = some r → VF (OG P) X nL fr lo S0 fin (G r) r.2 (pc + 3) lv (.ref r.1 :: st)) : VF (OG P) X nL fr lo S0 fin (F >>= G) S pc lv (As.reverse ++ .ref o :: st) := g_callSU (fin' := f_ma) C lk hd hn hfr hlo hst hc hrc hM k
theorem g_callF_ma {idx : Nat} {count : Nat} {x : MethodName} {y : MethodName} {b : ByteArray} {L n fr' lo' : Nat} {r' : Option FieldType} {o : Nat} {ci N : Nat} {Cn : String} {T : u_T} {As : List Value} {F : Option (Nat × St)} {G : (Nat × St) → Option ρ} (C : CX (OG P) X l cc nL own ret) (lk : LkF own idx Cn x y b L r' n) (hd : decode cc pc = .ok (.invokeinterface idx count, 5)) (hn : As.length = n) (hfr : fr' + 1 ≤ fr) (hlo : 8 + (L + 11) + lo' ≤ lo) (hst : (st.map fun v => v.category).sum ≤ 8) (hc : clG[ci]? = some (Cn, T, N)) (hrc : ∀ a, F = some a → ∃ fs, gO S ci o = some fs) (hM : ∀ a, F = some a → FM l (OG P) y (ws_ y b L r') fr' lo' (.ref o :: As) S (f_ma a)) (k : ∀ r : Nat × St, F = some r → VF (OG P) X nL fr lo S0 fin (G r) r.2 (pc + 5) lv (.ref r.1 :: st)) : VF (OG P) X nL fr lo S0 fin (F >>= G) S pc lv (As.reverse ++ .ref o :: st) := g_callF (fin' := f_ma) C lk hd hn hfr hlo hst hc hrc hM k
theorem g_callV_mq {idx : Nat} {y : MethodName} {b : ByteArray} {L n fr' lo' : Nat} {r' : Option FieldType} {o : Nat} {ci N : Nat} {Cn : String} {T : u_T} {As : List Value} {F : Option (Option Nat × St)} {G : (Option Nat × St) → Option ρ} (C : CX (OG P) X l cc nL own ret) (lk : LkV own idx y b L r' n) (hd : decode cc pc = .ok (.invokevirtual idx, 3)) (hn : As.length = n) (hfr : fr' + 1 ≤ fr) (hlo : 8 + (L + 11) + lo' ≤ lo) (hst : (st.map fun v => v.category).sum ≤ 8) (hc : clG[ci]? = some (Cn, T, N)) (hcn : Cn = y.cls) (hrc : ∀ a, F = some a → ∃ fs, gO S ci o = some fs) (hM : ∀ a, F = some a → FM l (OG P) y (ws_ y b L r') fr' lo' (.ref o :: As) S (f_mq a)) (k : ∀ r : Option Nat × St, F = some r → VF (OG P) X nL fr lo S0 fin (G r) r.2 (pc + 3) lv (va_rf r.1 :: st)) : VF (OG P) X nL fr lo S0 fin (F >>= G) S pc lv (As.reverse ++ .ref o :: st) := g_callV (fin' := f_mq) C lk hd hn hfr hlo hst hc hcn hrc hM k
theorem g_callU_mq {idx : Nat} {owner : String} {x : MethodName} {y : MethodName} {b : ByteArray} {L n fr' lo' : Nat} {r' : Option FieldType} {o : Nat} {ci N : Nat} {Cn : String} {T : u_T} {As : List Value} {F : Option (Option Nat × St)} {G : (Option Nat × St) → Option ρ} (C : CX (OG P) X l cc nL own ret) (lk : LkU own idx Cn owner x y b L r' n) (hd : decode cc pc = .ok (.invokevirtual idx, 3)) (hn : As.length = n) (hfr : fr' + 1 ≤ fr) (hlo : 8 + (L + 11) + lo' ≤ lo) (hst : (st.map fun v => v.category).sum ≤ 8) (hc : clG[ci]? = some (Cn, T, N)) (hrc : ∀ a, F = some a → ∃ fs, gO S ci o = some fs) (hM : ∀ a, F = some a → FM l (OG P) y (ws_ y b L r') fr' lo' (.ref o :: As) S (f_mq a)) (k : ∀ r : Option Nat × St, F = some r → VF (OG P) X nL fr lo S0 fin (G r) r.2 (pc + 3) lv (va_rf r.1 :: st)) : VF (OG P) X nL fr lo S0 fin (F >>= G) S pc lv (As.reverse ++ .ref o :: st) := g_callU (fin' := f_mq) C lk hd hn hfr hlo hst hc hrc hM k
theorem g_callSU_mq {idx : Nat} {y : MethodName} {b : ByteArray} {L n fr' lo' : Nat} {r' : Option FieldType} {o : Nat} {ci N : Nat} {Cn : String} {T : u_T} {As : List Value} {F : Option (Option Nat × St)} {G : (Option Nat × St) → Option ρ} (C : CX (OG P) X l cc nL own ret) (lk : LkSU own idx y b L r' n) (hd : decode cc pc = .ok (.invokespecial idx, 3)) (hn : As.length = n) (hfr : fr' + 1 ≤ fr) (hlo : 8 + (L + 11) + lo' ≤ lo) (hst : (st.map fun v => v.category).sum ≤ 8) (hc : clG[ci]? = some (Cn, T, N)) (hrc : ∀ a, F = some a → ∃ fs, gO S ci o = some fs) (hM : ∀ a, F = some a → FM l (OG P) y (ws_ y b L r') fr' lo' (.ref o :: As) S (f_mq a)) (k : ∀ r : Option Nat × St, F = some r → VF (OG P) X nL fr lo S0 fin (G r) r.2 (pc + 3) lv (va_rf r.1 :: st)) : VF (OG P) X nL fr lo S0 fin (F >>= G) S pc lv (As.reverse ++ .ref o :: st) := g_callSU (fin' := f_mq) C lk hd hn hfr hlo hst hc hrc hM k
theorem g_callF_mq {idx : Nat} {count : Nat} {x : MethodName} {y : MethodName} {b : ByteArray} {L n fr' lo' : Nat} {r' : Option FieldType} {o : Nat} {ci N : Nat} {Cn : String} {T : u_T} {As : List Value} {F : Option (Option Nat × St)} {G : (Option Nat × St) → Option ρ} (C : CX (OG P) X l cc nL own ret) (lk : LkF own idx Cn x y b L r' n) (hd : decode cc pc = .ok (.invokeinterface idx count, 5)) (hn : As.length = n) (hfr : fr' + 1 ≤ fr) (hlo : 8 + (L + 11) + lo' ≤ lo) (hst : (st.map fun v => v.category).sum ≤ 8) (hc : clG[ci]? = some (Cn, T, N)) (hrc : ∀ a, F = some a → ∃ fs, gO S ci o = some fs) (hM : ∀ a, F = some a → FM l (OG P) y (ws_ y b L r') fr' lo' (.ref o :: As) S (f_mq a)) (k : ∀ r : Option Nat × St, F = some r → VF (OG P) X nL fr lo S0 fin (G r) r.2 (pc + 5) lv (va_rf r.1 :: st)) : VF (OG P) X nL fr lo S0 fin (F >>= G) S pc lv (As.reverse ++ .ref o :: st) := g_callF (fin' := f_mq) C lk hd hn hfr hlo hst hc hrc hM k
theorem g_callV_mv {idx : Nat} {y : MethodName} {b : ByteArray} {L n fr' lo' : Nat} {r' : Option FieldType} {o : Nat} {ci N : Nat} {Cn : String} {T : u_T} {As : List Value} {F : Option (St)} {G : (St) → Option ρ} (C : CX (OG P) X l cc nL own ret) (lk : LkV own idx y b L r' n) (hd : decode cc pc = .ok (.invokevirtual idx, 3)) (hn : As.length = n) (hfr : fr' + 1 ≤ fr) (hlo : 8 + (L + 11) + lo' ≤ lo) (hst : (st.map fun v => v.category).sum ≤ 8) (hc : clG[ci]? = some (Cn, T, N)) (hcn : Cn = y.cls) (hrc : ∀ a, F = some a → ∃ fs, gO S ci o = some fs) (hM : ∀ a, F = some a → FM l (OG P) y (ws_ y b L r') fr' lo' (.ref o :: As) S (f_mv a)) (k : ∀ r : St, F = some r → VF (OG P) X nL fr lo S0 fin (G r) r (pc + 3) lv (st)) : VF (OG P) X nL fr lo S0 fin (F >>= G) S pc lv (As.reverse ++ .ref o :: st) := g_callV (fin' := f_mv) C lk hd hn hfr hlo hst hc hcn hrc hM k
theorem g_callIN_mv {idx : Nat} {y : MethodName} {b : ByteArray} {L n fr' lo' : Nat}  {o : Nat} {As : List Value} {F : Option (St)} {G : (St) → Option ρ} (C : CX (OG P) X l cc nL own ret) (lk : LkIN own idx y b L n) (hd : decode cc pc = .ok (.invokespecial idx, 3)) (hn : As.length = n) (hfr : fr' + 1 ≤ fr) (hlo : 8 + (L + 11) + lo' ≤ lo) (hst : (st.map fun v => v.category).sum ≤ 8) (hM : ∀ a, F = some a → FM l (OG P) y (ws_ y b L none) fr' lo' (.ref o :: As) S (f_mv a)) (k : ∀ r : St, F = some r → VF (OG P) X nL fr lo S0 fin (G r) r (pc + 3) lv (st)) : VF (OG P) X nL fr lo S0 fin (F >>= G) S pc lv (As.reverse ++ .ref o :: st) := g_callIN (fin' := f_mv) C lk hd hn hfr hlo hst hM k
theorem g_callU_mv {idx : Nat} {owner : String} {x : MethodName} {y : MethodName} {b : ByteArray} {L n fr' lo' : Nat} {r' : Option FieldType} {o : Nat} {ci N : Nat} {Cn : String} {T : u_T} {As : List Value} {F : Option (St)} {G : (St) → Option ρ} (C : CX (OG P) X l cc nL own ret) (lk : LkU own idx Cn owner x y b L r' n) (hd : decode cc pc = .ok (.invokevirtual idx, 3)) (hn : As.length = n) (hfr : fr' + 1 ≤ fr) (hlo : 8 + (L + 11) + lo' ≤ lo) (hst : (st.map fun v => v.category).sum ≤ 8) (hc : clG[ci]? = some (Cn, T, N)) (hrc : ∀ a, F = some a → ∃ fs, gO S ci o = some fs) (hM : ∀ a, F = some a → FM l (OG P) y (ws_ y b L r') fr' lo' (.ref o :: As) S (f_mv a)) (k : ∀ r : St, F = some r → VF (OG P) X nL fr lo S0 fin (G r) r (pc + 3) lv (st)) : VF (OG P) X nL fr lo S0 fin (F >>= G) S pc lv (As.reverse ++ .ref o :: st) := g_callU (fin' := f_mv) C lk hd hn hfr hlo hst hc hrc hM k
theorem g_callSU_mv {idx : Nat} {y : MethodName} {b : ByteArray} {L n fr' lo' : Nat} {r' : Option FieldType} {o : Nat} {ci N : Nat} {Cn : String} {T : u_T} {As : List Value} {F : Option (St)} {G : (St) → Option ρ} (C : CX (OG P) X l cc nL own ret) (lk : LkSU own idx y b L r' n) (hd : decode cc pc = .ok (.invokespecial idx, 3)) (hn : As.length = n) (hfr : fr' + 1 ≤ fr) (hlo : 8 + (L + 11) + lo' ≤ lo) (hst : (st.map fun v => v.category).sum ≤ 8) (hc : clG[ci]? = some (Cn, T, N)) (hrc : ∀ a, F = some a → ∃ fs, gO S ci o = some fs) (hM : ∀ a, F = some a → FM l (OG P) y (ws_ y b L r') fr' lo' (.ref o :: As) S (f_mv a)) (k : ∀ r : St, F = some r → VF (OG P) X nL fr lo S0 fin (G r) r (pc + 3) lv (st)) : VF (OG P) X nL fr lo S0 fin (F >>= G) S pc lv (As.reverse ++ .ref o :: st) := g_callSU (fin' := f_mv) C lk hd hn hfr hlo hst hc hrc hM k
theorem g_callF_mv {idx : Nat} {count : Nat} {x : MethodName} {y : MethodName} {b : ByteArray} {L n fr' lo' : Nat} {r' : Option FieldType} {o : Nat} {ci N : Nat} {Cn : String} {T : u_T} {As : List Value} {F : Option (St)} {G : (St) → Option ρ} (C : CX (OG P) X l cc nL own ret) (lk : LkF own idx Cn x y b L r' n) (hd : decode cc pc = .ok (.invokeinterface idx count, 5)) (hn : As.length = n) (hfr : fr' + 1 ≤ fr) (hlo : 8 + (L + 11) + lo' ≤ lo) (hst : (st.map fun v => v.category).sum ≤ 8) (hc : clG[ci]? = some (Cn, T, N)) (hrc : ∀ a, F = some a → ∃ fs, gO S ci o = some fs) (hM : ∀ a, F = some a → FM l (OG P) y (ws_ y b L r') fr' lo' (.ref o :: As) S (f_mv a)) (k : ∀ r : St, F = some r → VF (OG P) X nL fr lo S0 fin (G r) r (pc + 5) lv (st)) : VF (OG P) X nL fr lo S0 fin (F >>= G) S pc lv (As.reverse ++ .ref o :: st) := g_callF (fin' := f_mv) C lk hd hn hfr hlo hst hc hrc hM k
/-- the contract of a constructor out of its walk -/
theorem FM.ofI {r : ρ} {y : MethodName} {args : List Value} (hO : okG P) (hy : plainName y.cls = true) (hc : y.cls = own) (hnm : y.name = "<init>") (hn : (lg_sl args).length ≤ nL) (hlv : lv_args 0 args = lv) (hE : E = some r) (hLE : LE (OG P) S (fin r).2)
    (body : ∀ X : Ctx, CX (OG P) X l cc nL own ret → X.2.2.2.2.2.2.2.2.2 = none → X.2.2.2.2.2.2.2.1.name = "<init>" → VF (OG P) X nL fr lo S fin E S 0 lv []) : FM l (OG P) y (ws_ y cc nL ret) fr lo args S (fin r) := by
  refine ⟨hLE, Met.ofW (cc := cc) (maxL := nL) (ret := ret) hy rfl ?_⟩
  intro p e s m args' below meth c s₁ B hml hv
  obtain ⟨rfl, hI, hT⟩ := hv
  have hts := atoms_spec (ws := ws_ y cc nL ret) B.pre
  have hl := lv_entry args (n := nL) hn
  rw [hlv] at hl
  rw [lg_entry_eq]
  have hown : s.vm.findClass own = some m.cls := by rw [← hc]; exact findClass_of_methodNamed B.named
  have hin : meth.name = "<init>" := ((name_of_methodNamed B.named B.method).1).trans hnm
  have hX := body (p, l, e, s, m, args.toArray, below, meth, c, none) ⟨B.exec, B.bytes, hml, hown, fun w h => hts w (List.mem_cons_of_mem _ h), B.returns, B.notSynchronized, hT, rfl, OG_ok P hO⟩ rfl hin r hE LE.rf
  have h0 := hX.2 s.heap [] _ hI va_S.rf hl
  rw [Nat.sub_self, Nat.sub_self] at h0
  exact h0
/-- a private method of a superclass -/
def LkUP (own : String) (idx : Nat) (Cn : String) (y : MethodName) (b : ByteArray) (L : Nat) (r : Option FieldType) (n : Nat) : Prop := GoodIn (exW ++ lw_all) (va_wsU own idx Cn y.cls y y (ws_ y b L r)) ∧ y.cls ≠ "java/lang/invoke/MethodHandle" ∧ y.cls ≠ "java/lang/invoke/VarHandle" ∧ (parseMethodDescriptor y.desc).map (fun d => d.parameters.length) = some n
theorem LkUP.of {own : String} {idx : Nat} {Cn : String} {y : MethodName} {b : ByteArray} {L : Nat} {r : Option FieldType} {n : Nat} (h1 : Cond.methodLink own idx y ∈ lw_all) (h2 : Cond.sameMethod y.cls y.cls y.name y.desc ∈ lw_all) (h3 : Cond.selects Cn y y ∈ exW) (h4 : Cond.instanceMethod y ∈ lw_all) (h5 : Cond.initialized y.cls ∈ lw_all) (h6 : Cond.code y b L r ∈ lw_all) (h7 : y.cls ≠ "java/lang/invoke/MethodHandle" ∧ y.cls ≠ "java/lang/invoke/VarHandle" ∧ (parseMethodDescriptor y.desc).map (fun d => d.parameters.length) = some n) : LkUP own idx Cn y b L r n := by
  refine ⟨?_, h7⟩
  have up : ∀ w ∈ lw_all, w ∈ exW ++ lw_all ∧ ((w.onTables && w.keeps) = true ∨ ∃ ty, w = .arrayClass ty) := fun w hw => ⟨List.mem_append_right _ hw, (lw_self w hw).2⟩
  intro w hw
  rcases List.mem_append.mp hw with e | e
  · simp only [List.mem_cons, List.not_mem_nil, or_false] at e
    rcases e with e | e | e | e | e
    · rw [e]; exact up _ h1
    · rw [e]; exact up _ h2
    · rw [e]; exact ⟨List.mem_append_left _ h3, Or.inl (exW_good _ h3)⟩
    · rw [e]; exact up _ h4
    · rw [e]; exact up _ h5
  · have := lw_meth h6 w e
    exact ⟨List.mem_append_right _ this.1, this.2⟩
theorem g_callUP {idx : Nat} {y : MethodName} {b : ByteArray} {L n fr' lo' : Nat} {r' : Option FieldType} {o : Nat} {ci N : Nat} {Cn : String} {T : u_T} {As : List Value} {α : Type} {F : Option α} {fin' : α → Option Value × St} {G : α → Option ρ} (C : CX (OG P) X l cc nL own ret) (lk : LkUP own idx Cn y b L r' n) (hd : decode cc pc = .ok (.invokevirtual idx, 3)) (hn : As.length = n) (hfr : fr' + 1 ≤ fr) (hlo : 8 + (L + 11) + lo' ≤ lo) (hst : (st.map fun v => v.category).sum ≤ 8) (hc : clG[ci]? = some (Cn, T, N)) (hrc : ∀ a, F = some a → ∃ fs, gO S ci o = some fs) (hM : ∀ a, F = some a → FM l (OG P) y (ws_ y b L r') fr' lo' (.ref o :: As) S (fin' a)) (k : ∀ a, F = some a → VF (OG P) X nL fr lo S0 fin (G a) (fin' a).2 (pc + 3) lv ((fin' a).1.toList ++ st)) : VF (OG P) X nL fr lo S0 fin (F >>= G) S pc lv (As.reverse ++ .ref o :: st) := by
  intro r hr hL
  cases hF : F with
  | none => rw [hF] at hr; cases hr
  | some a =>
    rw [hF] at hr
    obtain ⟨hLE, hM⟩ := hM a hF
    refine v_after (av := (Value.ref o :: As).toArray) hL hLE (k a hF) hr fun H locs ls hI hl hf => ?_
    rw [show l = X.2.1 from C.2.2.2.2.2.2.2.2.1.symm] at hM
    have hp := FM.pre (l' := l) (As := (.ref o :: As)) C hI
    have hts : ∀ w ∈ exW ++ lw_all, w.before X.2.2.2.2.2.1 X.2.2.2.1 = true := fun w hw => by
      rcases List.mem_append.mp hw with e | e
      · exact va_Nw.use (by have := exW_good w e; simp only [Bool.and_eq_true] at this; exact this.1) (C.2.2.2.2.2.2.2.1.2.2.2.2.2.2 w e)
      · exact C.2.2.2.2.1 w e
    obtain ⟨fs, hfs⟩ := hrc a hF
    exact va_runU (n := n) (C := Cn) ⟨C.1, C.2.1, C.2.2.1, C.2.2.2.1, hts⟩ hM (va_cwU n hts lk.1 rfl rfl rfl rfl lk.2 ⟨hfr, hlo⟩) ⟨hp.1, g_recv hc C hfs H hI, hp.2⟩ rfl hn hl.1 rfl (lv_room hst) hd hf
theorem g_callUP_mv {idx : Nat} {y : MethodName} {b : ByteArray} {L n fr' lo' : Nat} {r' : Option FieldType} {o : Nat} {ci N : Nat} {Cn : String} {T : u_T} {As : List Value} {F : Option (St)} {G : (St) → Option ρ} (C : CX (OG P) X l cc nL own ret) (lk : LkUP own idx Cn y b L r' n) (hd : decode cc pc = .ok (.invokevirtual idx, 3)) (hn : As.length = n) (hfr : fr' + 1 ≤ fr) (hlo : 8 + (L + 11) + lo' ≤ lo) (hst : (st.map fun v => v.category).sum ≤ 8) (hc : clG[ci]? = some (Cn, T, N)) (hrc : ∀ a, F = some a → ∃ fs, gO S ci o = some fs) (hM : ∀ a, F = some a → FM l (OG P) y (ws_ y b L r') fr' lo' (.ref o :: As) S (f_mv a)) (k : ∀ r : St, F = some r → VF (OG P) X nL fr lo S0 fin (G r) r (pc + 3) lv (st)) : VF (OG P) X nL fr lo S0 fin (F >>= G) S pc lv (As.reverse ++ .ref o :: st) := g_callUP (fin' := f_mv) C lk hd hn hfr hlo hst hc hrc hM k
theorem g_callUP_mi {idx : Nat} {y : MethodName} {b : ByteArray} {L n fr' lo' : Nat} {r' : Option FieldType} {o : Nat} {ci N : Nat} {Cn : String} {T : u_T} {As : List Value} {F : Option (Int32 × St)} {G : (Int32 × St) → Option ρ} (C : CX (OG P) X l cc nL own ret) (lk : LkUP own idx Cn y b L r' n) (hd : decode cc pc = .ok (.invokevirtual idx, 3)) (hn : As.length = n) (hfr : fr' + 1 ≤ fr) (hlo : 8 + (L + 11) + lo' ≤ lo) (hst : (st.map fun v => v.category).sum ≤ 8) (hc : clG[ci]? = some (Cn, T, N)) (hrc : ∀ a, F = some a → ∃ fs, gO S ci o = some fs) (hM : ∀ a, F = some a → FM l (OG P) y (ws_ y b L r') fr' lo' (.ref o :: As) S (f_mi a)) (k : ∀ r : Int32 × St, F = some r → VF (OG P) X nL fr lo S0 fin (G r) r.2 (pc + 3) lv (.int r.1 :: st)) : VF (OG P) X nL fr lo S0 fin (F >>= G) S pc lv (As.reverse ++ .ref o :: st) := g_callUP (fin' := f_mi) C lk hd hn hfr hlo hst hc hrc hM k
theorem g_callUP_ri {idx : Nat} {y : MethodName} {b : ByteArray} {L n fr' lo' : Nat} {r' : Option FieldType} {o : Nat} {ci N : Nat} {Cn : String} {T : u_T} {As : List Value} {F : Option (Int32)} {G : (Int32) → Option ρ} (C : CX (OG P) X l cc nL own ret) (lk : LkUP own idx Cn y b L r' n) (hd : decode cc pc = .ok (.invokevirtual idx, 3)) (hn : As.length = n) (hfr : fr' + 1 ≤ fr) (hlo : 8 + (L + 11) + lo' ≤ lo) (hst : (st.map fun v => v.category).sum ≤ 8) (hc : clG[ci]? = some (Cn, T, N)) (hrc : ∀ a, F = some a → ∃ fs, gO S ci o = some fs) (hM : ∀ a, F = some a → FM l (OG P) y (ws_ y b L r') fr' lo' (.ref o :: As) S ((f_ri S) a)) (k : ∀ r : Int32, F = some r → VF (OG P) X nL fr lo S0 fin (G r) S (pc + 3) lv (.int r :: st)) : VF (OG P) X nL fr lo S0 fin (F >>= G) S pc lv (As.reverse ++ .ref o :: st) := g_callUP (fin' := (f_ri S)) C lk hd hn hfr hlo hst hc hrc hM k
/-- two ways at one place; switches -/
theorem VF.ite {c : Prop} {ic : Decidable c} {Ea Eb : Option ρ} (ka : c → VF (OG P) X nL fr lo S0 fin Ea S pc lv st) (kb : ¬ c → VF (OG P) X nL fr lo S0 fin Eb S pc lv st) : VF (OG P) X nL fr lo S0 fin (@ite _ c ic Ea Eb) S pc lv st := VF.lift2 ka kb (fun _ _ _ _ _ _ _ wa wb => by
  by_cases h : c
  · exact wa h
  · exact wb h)
theorem g_tabI {dflt lw hi : Int} {offs : Array Int} {len tgt : Nat} {x : Int32} {k off : Int} (C : CX (OG P) X l cc nL own ret) (hd : decode cc pc = .ok (.tableswitch dflt lw hi offs, len)) (hx : x.toInt = k) (h1 : ¬ k < lw) (h2 : ¬ hi < k) (ho : offs[(k - lw).toNat]? = some off) (ht : (pc : Int) + off = (tgt : Int)) (kk : VF (OG P) X nL fr lo S0 fin E S tgt lv st) : VF (OG P) X nL fr lo S0 fin E S pc lv (.int x :: st) := VF.lift kk (fun _ _ _ _ _ _ _ _ w => lv_tableIn C.1 C.2.1 hd (by rw [hx]; exact h1) (by rw [hx]; exact h2) (by rw [hx]; exact ho) ht w)
theorem g_tabO {dflt lw hi : Int} {offs : Array Int} {len tgt : Nat} {x : Int32} (C : CX (OG P) X l cc nL own ret) (hd : decode cc pc = .ok (.tableswitch dflt lw hi offs, len)) (h : x.toInt < lw ∨ hi < x.toInt) (ht : (pc : Int) + dflt = (tgt : Int)) (kk : VF (OG P) X nL fr lo S0 fin E S tgt lv st) : VF (OG P) X nL fr lo S0 fin E S pc lv (.int x :: st) := VF.lift kk (fun _ _ _ _ _ _ _ _ w => lv_tableOut C.1 C.2.1 hd h ht w)
theorem i_ne {x : Int32} {k : Int32} (h : ¬ x = k) : x.toInt ≠ k.toInt := fun z => h (Int32.toInt_inj.mp z)
/-- clone of an int array -/
def gcl (S : St) (a : Nat) : Option (Nat × St) := (aI S 0 a) >>= fun x => some (nC S (.inl (0, x.1, .inl x.2)) x.1)
def LkCl (own : String) (idx : Nat) : Prop := Cond.methodLink own idx ⟨"[I", "clone", "()Ljava/lang/Object;"⟩ ∈ lw_all ∧ Cond.sameMethod "[I" "java/lang/Object" "clone" "()Ljava/lang/Object;" ∈ lw_all ∧ Cond.native ⟨"java/lang/Object", "clone", "()Ljava/lang/Object;"⟩ ∈ lw_all ∧ Cond.instanceMethod ⟨"java/lang/Object", "clone", "()Ljava/lang/Object;"⟩ ∈ lw_all ∧ Cond.selects "[I" ⟨"[I", "clone", "()Ljava/lang/Object;"⟩ ⟨"java/lang/Object", "clone", "()Ljava/lang/Object;"⟩ ∈ lw_all ∧ Cond.castable "[I" "java/lang/Cloneable" ∈ lw_tbl
theorem g_clone {a idx : Nat} {G : (Nat × St) → Option ρ} (C : CX (OG P) X l cc nL own ret) (hd : decode cc pc = .ok (.invokevirtual idx, 3)) (hk : LkCl own idx) (hfr : 1 ≤ fr) (hlo : (st.map fun v => v.category).sum + 14 ≤ lo) (kk : ∀ y, gcl S a = some y → VF (OG P) X nL fr lo S0 fin (G y) y.2 (pc + 3) lv (.ref y.1 :: st)) : VF (OG P) X nL fr lo S0 fin (gcl S a >>= G) S pc lv (.ref a :: st) := by
  refine VF.bind (fun y hy => ?_)
  have k2 := kk y hy
  obtain ⟨z, h1, hy⟩ := ob hy
  cases hy
  obtain ⟨n, f⟩ := z
  refine VF.new (e := .inl (0, n, .inl f)) (n := n) k2 (fun R H locs cells slots Q ls hI hl hc1 hc2 w hR hR2 T hT Y => ?_)
  have hK := C.2.2.2.2.2.2.2.1.1
  have hts := C.2.2.2.2.1
  have hnm : X.2.2.2.1.vm.findClass "[I" = some (P.2.1 0) := (hK.2 0 _ rfl).2
  have hsz : (vp_cell (P.2.1 0) (n, .inl f)).slots.size = n := arrV_size _ _ _
  obtain ⟨c0, t0', f1, f2, f3⟩ := Cond.castable_spec (va_Nw.use (A := X.2.2.2.2.2.1) rfl (C.2.2.2.2.2.2.2.1.2.1 _ hk.2.2.2.2.2 rfl))
  cases hnm.symm.trans f1
  have hcellT : T.heap[a]? = some (vp_cell (P.2.1 0) (n, .inl f)) := by rw [hT]; exact (hI.2.2.1 a _ (aI_at h1)).2
  obtain ⟨-, kA, hkA, comp, hkind⟩ := State.isArrayOf_alike Y.warmed.alike ((hK.2 0 _ rfl).1 0 (fun _ => .null))
  obtain ⟨-, kS, hkS, compS, hkindS⟩ := (hK.2 0 _ rfl).1 0 (fun _ => .null)
  obtain ⟨vm', Y', step⟩ := Y.cloneArray C.1 C.2.2.2.1 (hts _ hk.1) (hts _ hk.2.1) (hts _ hk.2.2.1) (hts _ hk.2.2.2.1) (hts _ hk.2.2.2.2.1) (a := a) (cell := vp_cell (P.2.1 0) (n, .inl f)) hcellT (fun k h => by cases h) (fun h => by cases h) hnm f2 f3
    (fun i v hv => by
      have hk' : T.vm.classes[P.2.1 0]? = some kA := hkA
      have hfit : fits .int v = true := by
        have hv' : (arrV (P.2.1 0) n (fun j => .int (f j))).slots[i]? = some v := hv
        by_cases hi : i < n
        · rw [arrV_read _ _ hi] at hv'; cases hv'; rfl
        · have : (arrV (P.2.1 0) n (fun j => .int (f j))).slots.size ≤ i := by rw [arrV_size]; omega
          rw [Array.getElem?_eq_none this] at hv'; cases hv'
      show State.fitsSlot T (P.2.1 0) _ i v = true
      simpa [State.fitsSlot, State.slotType?, hk', hkind] using hfit)
    (g := F0 X.2.2.2.2.1 pc ls (.ref a :: st)) rfl (hl.1.trans C.2.2.1.symm) rfl (by rw [C.2.1]; exact hd) (by rw [hR]; exact hfr) (by rw [hR2]; show 2 * 0 + _ + 14 ≤ _; omega) hc1 (by rw [hsz]; exact hc2) (hloader := Vm.clonesLoader_of_array hkS hkindS)
  rw [show ({ cls := (vp_cell (P.2.1 0) (n, .inl f)).cls, slots := (vp_cell (P.2.1 0) (n, .inl f)).slots } : Cell) = vp_cell (P.2.1 0) (n, .inl f) from rfl, hsz] at Y'
  have hHs := hI.1
  obtain ⟨t, a1, b1⟩ := w (H.push (vp_cell (P.2.1 0) (n, .inl f))) (by
    show (H.push _)[S.2.1]? = some (vp_cell _ _)
    rw [← hHs, Array.getElem?_push_size]) (by rw [Array.size_push, hHs]) (fun q hq => by rw [Array.getElem?_push, if_neg (by omega)]) ((T.setVm vm').pushCell (vp_cell (P.2.1 0) (n, .inl f))) (by rw [← hT]; rfl) Y'
  refine ⟨t, step t ?_, b1⟩
  rw [show ({ cls := (vp_cell (P.2.1 0) (n, .inl f)).cls, slots := (vp_cell (P.2.1 0) (n, .inl f)).slots } : Cell) = vp_cell (P.2.1 0) (n, .inl f) from rfl, hT, hHs]
  exact a1
end GX
