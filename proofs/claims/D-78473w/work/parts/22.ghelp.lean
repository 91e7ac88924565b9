/-! monotone steps, and small rows -/
def MF {ρ : Type} (sf : ρ → St) (E : Option ρ) (S : St) : Prop := ∀ r, E = some r → leG S (sf r)
abbrev mf_s : St → St := fun s => s
abbrev mf_p {α : Type} : α × St → St := fun r => r.2
section MFS
variable {ρ : Type} {sf : ρ → St} {S : St}
theorem mf_step {α : Type} {F : Option α} {G : α → Option ρ} (g : α → St) (h : ∀ a, F = some a → leG S (g a)) (k : ∀ a, F = some a → MF sf (G a) (g a)) : MF sf (F >>= G) S := by
  intro r hr
  obtain ⟨a, h1, h2⟩ := ob hr
  exact (h a h1).tr (k a h1 r h2)
theorem mf_bind {α : Type} {F : Option α} {G : α → Option ρ} (k : ∀ a, F = some a → MF sf (G a) S) : MF sf (F >>= G) S := mf_step (fun _ => S) (fun _ _ => leG.rf) k
theorem mf_none : MF sf (Option.none : Option ρ) S := fun r hr => by cases hr
theorem mf_ret {a : ρ} (h : leG S (sf a)) : MF sf (some a) S := fun r hr => by cases hr; exact h
theorem mf_ite {c : Prop} {ic : Decidable c} {A B : Option ρ} (ha : MF sf A S) (hb : MF sf B S) : MF sf (@ite _ c ic A B) S := by
  intro r hr
  by_cases hc : c
  · rw [if_pos hc] at hr; exact ha r hr
  · rw [if_neg hc] at hr; exact hb r hr
theorem gP_le {ci a k : Nat} {v : Value} {S1 : St} (h : gP S ci a k v = some S1) : leG S S1 := by
  obtain ⟨fs, h1, h2⟩ := ob h
  by_cases hl : k < fs.length
  · rw [if_pos hl] at h2; cases h2; exact leG.put (gO_at h1)
  · rw [if_neg hl] at h2; cases h2
theorem tI_le {kd a : Nat} {i x : Int32} {S1 : St} (h : tI S kd a i x = some S1) : leG S S1 := by
  obtain ⟨y, h1, h2⟩ := ob h
  split at h2
  · cases h2
  · cases h2; exact leG.put (aI_at h1)
theorem tJ_le {kd a : Nat} {i : Int32} {x : Int64} {S1 : St} (h : tJ S kd a i x = some S1) : leG S S1 := by
  obtain ⟨y, h1, h2⟩ := ob h
  split at h2
  · cases h2
  · cases h2; exact leG.put (aJ_at h1)
theorem tQ_le {kd a : Nat} {i : Int32} {x : Option Nat} {S1 : St} (h : tQ S kd a i x = some S1) : leG S S1 := by
  obtain ⟨y, h1, h2⟩ := ob h
  split at h2
  · cases h2
  · cases h2; exact leG.put (aQ_at h1)
theorem tA_le {kd a ci x : Nat} {i : Int32} {S1 : St} (h : tA S kd a i ci x = some S1) : leG S S1 := by
  obtain ⟨y, h1, h2⟩ := ob h
  exact tQ_le h2
theorem nI_le_ {kd : Nat} {n : Int32} {y : Nat × St} (h : nI_ S kd n = some y) : leG S y.2 := by
  unfold nI_ at h
  split at h
  · cases h
  · cases h; exact leG.new
theorem nJ_le_ {kd : Nat} {n : Int32} {y : Nat × St} (h : nJ_ S kd n = some y) : leG S y.2 := by
  unfold nJ_ at h
  split at h
  · cases h
  · cases h; exact leG.new
theorem nQ_le_ {kd : Nat} {n : Int32} {y : Nat × St} (h : nQ_ S kd n = some y) : leG S y.2 := by
  unfold nQ_ at h
  split at h
  · cases h
  · cases h; exact leG.new
theorem gcl_le {a : Nat} {y : Nat × St} (h : gcl S a = some y) : leG S y.2 := by
  obtain ⟨x, h1, h2⟩ := ob h
  cases h2; exact leG.new
theorem cI_le {kd a b : Nat} {sp dp n : Int32} {S1 : St} (h : cI_ S kd a b sp dp n = some S1) : leG S S1 := by
  obtain ⟨x, h1, h⟩ := ob h
  obtain ⟨y, h2, h⟩ := ob h
  split at h
  · cases h
  · cases h; exact leG.put (aI_at h2)
theorem cJ_le {kd a b : Nat} {sp dp n : Int32} {S1 : St} (h : cJ_ S kd a b sp dp n = some S1) : leG S S1 := by
  obtain ⟨x, h1, h⟩ := ob h
  obtain ⟨y, h2, h⟩ := ob h
  split at h
  · cases h
  · cases h; exact leG.put (aJ_at h2)
theorem cB_le {a b : Nat} {sp dp n : Int32} {S1 : St} (h : cB_ S a b sp dp n = some S1) : leG S S1 := by
  obtain ⟨x, h1, h⟩ := ob h
  split at h
  · exact cI_le h
  · cases h
theorem cQ_le {kd ci a b : Nat} {sp dp n : Int32} {S1 : St} (h : cQ_ S kd ci a b sp dp n = some S1) : leG S S1 := by
  obtain ⟨x, h1, h⟩ := ob h
  obtain ⟨y, h2, h⟩ := ob h
  split at h
  · cases h
  · split at h
    · cases h; exact leG.put (aQ_at h2)
    · cases h
theorem mf_put {ci a k : Nat} {v : Value} {G : St → Option ρ} (kk : ∀ S1, gP S ci a k v = some S1 → MF sf (G S1) S1) : MF sf (gP S ci a k v >>= G) S := mf_step (fun s => s) (fun _ h => gP_le h) kk
theorem mf_tI {kd a : Nat} {i x : Int32} {G : St → Option ρ} (kk : ∀ S1, tI S kd a i x = some S1 → MF sf (G S1) S1) : MF sf (tI S kd a i x >>= G) S := mf_step (fun s => s) (fun _ h => tI_le h) kk
theorem mf_tJ {kd a : Nat} {i : Int32} {x : Int64} {G : St → Option ρ} (kk : ∀ S1, tJ S kd a i x = some S1 → MF sf (G S1) S1) : MF sf (tJ S kd a i x >>= G) S := mf_step (fun s => s) (fun _ h => tJ_le h) kk
theorem mf_tQ {kd a : Nat} {i : Int32} {x : Option Nat} {G : St → Option ρ} (kk : ∀ S1, tQ S kd a i x = some S1 → MF sf (G S1) S1) : MF sf (tQ S kd a i x >>= G) S := mf_step (fun s => s) (fun _ h => tQ_le h) kk
theorem mf_tA {kd a ci x : Nat} {i : Int32} {G : St → Option ρ} (kk : ∀ S1, tA S kd a i ci x = some S1 → MF sf (G S1) S1) : MF sf (tA S kd a i ci x >>= G) S := mf_step (fun s => s) (fun _ h => tA_le h) kk
theorem mf_new {ci n : Nat} {fs : List Value} {G : (Nat × St) → Option ρ} (kk : ∀ y, some (nO S ci fs n) = some y → MF sf (G y) y.2) : MF sf (some (nO S ci fs n) >>= G) S := mf_step (fun y => y.2) (fun _ h => by cases h; exact leG.new) kk
theorem mf_nI_ {kd : Nat} {n : Int32} {G : (Nat × St) → Option ρ} (kk : ∀ y, nI_ S kd n = some y → MF sf (G y) y.2) : MF sf (nI_ S kd n >>= G) S := mf_step (fun y => y.2) (fun _ h => nI_le_ h) kk
theorem mf_nJ_ {kd : Nat} {n : Int32} {G : (Nat × St) → Option ρ} (kk : ∀ y, nJ_ S kd n = some y → MF sf (G y) y.2) : MF sf (nJ_ S kd n >>= G) S := mf_step (fun y => y.2) (fun _ h => nJ_le_ h) kk
theorem mf_nQ_ {kd : Nat} {n : Int32} {G : (Nat × St) → Option ρ} (kk : ∀ y, nQ_ S kd n = some y → MF sf (G y) y.2) : MF sf (nQ_ S kd n >>= G) S := mf_step (fun y => y.2) (fun _ h => nQ_le_ h) kk
theorem mf_gcl {a : Nat} {G : (Nat × St) → Option ρ} (kk : ∀ y, gcl S a = some y → MF sf (G y) y.2) : MF sf (gcl S a >>= G) S := mf_step (fun y => y.2) (fun _ h => gcl_le h) kk
theorem mf_cI {kd a b : Nat} {sp dp n : Int32} {G : St → Option ρ} (kk : ∀ S1, cI_ S kd a b sp dp n = some S1 → MF sf (G S1) S1) : MF sf (cI_ S kd a b sp dp n >>= G) S := mf_step (fun s => s) (fun _ h => cI_le h) kk
theorem mf_cJ {kd a b : Nat} {sp dp n : Int32} {G : St → Option ρ} (kk : ∀ S1, cJ_ S kd a b sp dp n = some S1 → MF sf (G S1) S1) : MF sf (cJ_ S kd a b sp dp n >>= G) S := mf_step (fun s => s) (fun _ h => cJ_le h) kk
theorem mf_cB {a b : Nat} {sp dp n : Int32} {G : St → Option ρ} (kk : ∀ S1, cB_ S a b sp dp n = some S1 → MF sf (G S1) S1) : MF sf (cB_ S a b sp dp n >>= G) S := mf_step (fun s => s) (fun _ h => cB_le h) kk
theorem mf_cQ {kd ci a b : Nat} {sp dp n : Int32} {G : St → Option ρ} (kk : ∀ S1, cQ_ S kd ci a b sp dp n = some S1 → MF sf (G S1) S1) : MF sf (cQ_ S kd ci a b sp dp n >>= G) S := mf_step (fun s => s) (fun _ h => cQ_le h) kk
theorem mf_call {α : Type} {F : Option (α × St)} {G : (α × St) → Option ρ} (h : ∀ a, F = some a → leG S a.2) (kk : ∀ a, F = some a → MF sf (G a) a.2) : MF sf (F >>= G) S := mf_step (fun y => y.2) h kk
theorem mf_callv {F : Option St} {G : St → Option ρ} (h : ∀ a, F = some a → leG S a) (kk : ∀ a, F = some a → MF sf (G a) a) : MF sf (F >>= G) S := mf_step (fun s => s) h kk
end MFS
section GH
variable {ρ : Type} {P : GP} {X : Ctx} {l : Launch} {cc : ByteArray} {nL fr lo : Nat} {own : String} {ret : Option FieldType} {S0 S : St} {fin : ρ → Option Value × St} {E : Option ρ} {pc : Nat} {lv : List (Nat × Value)} {st : List Value}
theorem g_ifA {x : Nat} {off : Int} (C : CX (OG P) X l cc nL own ret) (hd : decode cc pc = .ok (.ifnull off, 3)) (k : VF (OG P) X nL fr lo S0 fin E S (pc + 3) lv st) : VF (OG P) X nL fr lo S0 fin E S pc lv (.ref x :: st) := VF.lift k (fun _ _ _ _ _ _ _ _ w => lv_ifnull C.1 C.2.1 hd w)
theorem g_ifnA {x : Nat} {off : Int} {tgt : Nat} (C : CX (OG P) X l cc nL own ret) (hd : decode cc pc = .ok (.ifnonnull off, 3)) (ht : (pc : Int) + off = (tgt : Int)) (k : VF (OG P) X nL fr lo S0 fin E S tgt lv st) : VF (OG P) X nL fr lo S0 fin E S pc lv (.ref x :: st) := VF.lift k (fun _ _ _ _ _ _ _ _ w => lv_ifnonnull C.1 C.2.1 hd ht w)
/-- a char's answer -/
def zc (v : Int32) : Option Int32 := if narrow .char (.int v) = .int v then some v else none
theorem v_zc {v : Int32} {G : Int32 → Option ρ} (k : ∀ b : Int32, (narrow .char (.int b) = .int b) → VF (OG P) X nL fr lo S0 fin (G b) S pc lv (.int b :: st)) : VF (OG P) X nL fr lo S0 fin (zc v >>= G) S pc lv (.int v :: st) := by
  intro r hr hL
  by_cases h0 : narrow .char (.int v) = .int v
  · rw [show zc v = some v from if_pos h0] at hr; exact k v h0 r hr hL
  · rw [show zc v = none from if_neg h0] at hr; cases hr
theorem v_creturn (C : CX (OG P) X l cc nL own (some .char)) (hm : X.2.2.2.2.2.2.2.2.2 = none) {a : ρ} {v : Int32} (hd : decode cc pc = .ok (.ireturn, 1)) (hv : narrow .char (.int v) = .int v) (hf : fin a = (some (.int v), S)) : VF (OG P) X nL fr lo S0 fin (some a) S pc lv [.int v] := by
  intro r hr hL
  cases hr
  rw [hf]
  refine ⟨LE.rf, fun H locs ls hI hS hl => ?_⟩
  show W _ _ _ _ _ _ _ _ _ _ _ _ _ _ (Qz (OG P) X S0 _) _
  unfold Qz
  rw [hm]
  exact W.zret C.1 C.2.1 C.2.2.2.2.2.1 hv (fun t ht hW => ⟨rfl, by rw [ht]; exact hI, hS.F ht⟩) hS.2.2 hd C.2.2.2.2.2.2.1
end GH
theorem cls_0 : cls 0 RX4 TX4 27 tyX4 := ⟨rfl, in_X4, tyX4_ok, nmX4⟩
def df_0 : List Value := [.null, .null, .null, .int 0, .int 0, .null, .int 0, .null, .null, .int 0, .null, .null, .int 0, .long 0, .long 0, .long 0, .null, .null, .null, .null, .null, .long 0, .long 0, .int 0, .int 0, .int 0, .long 0]
theorem dfok_0 : ∀ j, j < 27 → defaultValue (tyX4 j) = vp_V df_0 j := by
  intro j hj
  match j, hj with
  | 0, _ => rfl
  | 1, _ => rfl
  | 2, _ => rfl
  | 3, _ => rfl
  | 4, _ => rfl
  | 5, _ => rfl
  | 6, _ => rfl
  | 7, _ => rfl
  | 8, _ => rfl
  | 9, _ => rfl
  | 10, _ => rfl
  | 11, _ => rfl
  | 12, _ => rfl
  | 13, _ => rfl
  | 14, _ => rfl
  | 15, _ => rfl
  | 16, _ => rfl
  | 17, _ => rfl
  | 18, _ => rfl
  | 19, _ => rfl
  | 20, _ => rfl
  | 21, _ => rfl
  | 22, _ => rfl
  | 23, _ => rfl
  | 24, _ => rfl
  | 25, _ => rfl
  | 26, _ => rfl
  | n + 27, h => exact absurd h (by omega)
theorem cls_1 : cls 1 RX1 TX1 5 tyX1 := ⟨rfl, in_X1, tyX1_ok, nmX1⟩
def df_1 : List Value := [.null, .null, .null, .null, .long 0]
theorem dfok_1 : ∀ j, j < 5 → defaultValue (tyX1 j) = vp_V df_1 j := by
  intro j hj
  match j, hj with
  | 0, _ => rfl
  | 1, _ => rfl
  | 2, _ => rfl
  | 3, _ => rfl
  | 4, _ => rfl
  | n + 5, h => exact absurd h (by omega)
theorem cls_2 : cls 2 RX2 TX2 4 tyX2 := ⟨rfl, in_X2, tyX2_ok, nmX2⟩
def df_2 : List Value := [.null, .null, .null, .null]
theorem dfok_2 : ∀ j, j < 4 → defaultValue (tyX2 j) = vp_V df_2 j := by
  intro j hj
  match j, hj with
  | 0, _ => rfl
  | 1, _ => rfl
  | 2, _ => rfl
  | 3, _ => rfl
  | n + 4, h => exact absurd h (by omega)
theorem cls_3 : cls 3 RX3 TX3 7 tyX3 := ⟨rfl, in_X3, tyX3_ok, nmX3⟩
def df_3 : List Value := [.null, .int 0, .null, .null, .null, .null, .null]
theorem dfok_3 : ∀ j, j < 7 → defaultValue (tyX3 j) = vp_V df_3 j := by
  intro j hj
  match j, hj with
  | 0, _ => rfl
  | 1, _ => rfl
  | 2, _ => rfl
  | 3, _ => rfl
  | 4, _ => rfl
  | 5, _ => rfl
  | 6, _ => rfl
  | n + 7, h => exact absurd h (by omega)
theorem cls_4 : cls 4 RX5 TX5 3 tyX5 := ⟨rfl, in_X5, tyX5_ok, nmX5⟩
def df_4 : List Value := [.int 0, .int 0, .int 0]
theorem dfok_4 : ∀ j, j < 3 → defaultValue (tyX5 j) = vp_V df_4 j := by
  intro j hj
  match j, hj with
  | 0, _ => rfl
  | 1, _ => rfl
  | 2, _ => rfl
  | n + 3, h => exact absurd h (by omega)
theorem cls_5 : cls 5 RX6 TX6 3 tyX6 := ⟨rfl, in_X6, tyX6_ok, nmX6⟩
def df_5 : List Value := [.int 0, .int 0, .int 0]
theorem dfok_5 : ∀ j, j < 3 → defaultValue (tyX6 j) = vp_V df_5 j := by
  intro j hj
  match j, hj with
  | 0, _ => rfl
  | 1, _ => rfl
  | 2, _ => rfl
  | n + 3, h => exact absurd h (by omega)
theorem cls_6 : cls 6 RX7 TX7 5 tyX7 := ⟨rfl, in_X7, tyX7_ok, nmX7⟩
def df_6 : List Value := [.null, .null, .null, .int 0, .int 0]
theorem dfok_6 : ∀ j, j < 5 → defaultValue (tyX7 j) = vp_V df_6 j := by
  intro j hj
  match j, hj with
  | 0, _ => rfl
  | 1, _ => rfl
  | 2, _ => rfl
  | 3, _ => rfl
  | 4, _ => rfl
  | n + 5, h => exact absurd h (by omega)
theorem cls_7 : cls 7 RX8 TX8 2 tyX8 := ⟨rfl, in_X8, tyX8_ok, nmX8⟩
def df_7 : List Value := [.int 0, .int 0]
theorem dfok_7 : ∀ j, j < 2 → defaultValue (tyX8 j) = vp_V df_7 j := by
  intro j hj
  match j, hj with
  | 0, _ => rfl
  | 1, _ => rfl
  | n + 2, h => exact absurd h (by omega)
theorem cls_8 : cls 8 RX9 TX9 2 tyX9 := ⟨rfl, in_X9, tyX9_ok, nmX9⟩
def df_8 : List Value := [.int 0, .int 0]
theorem dfok_8 : ∀ j, j < 2 → defaultValue (tyX9 j) = vp_V df_8 j := by
  intro j hj
  match j, hj with
  | 0, _ => rfl
  | 1, _ => rfl
  | n + 2, h => exact absurd h (by omega)
theorem cls_9 : cls 9 RX10 TX10 4 tyX10 := ⟨rfl, in_X10, tyX10_ok, nmX10⟩
def df_9 : List Value := [.null, .null, .null, .int 0]
theorem dfok_9 : ∀ j, j < 4 → defaultValue (tyX10 j) = vp_V df_9 j := by
  intro j hj
  match j, hj with
  | 0, _ => rfl
  | 1, _ => rfl
  | 2, _ => rfl
  | 3, _ => rfl
  | n + 4, h => exact absurd h (by omega)
theorem cls_10 : cls 10 RX11 TX11 7 tyX11 := ⟨rfl, in_X11, tyX11_ok, nmX11⟩
def df_10 : List Value := [.null, .null, .null, .null, .null, .int 0, .int 0]
theorem dfok_10 : ∀ j, j < 7 → defaultValue (tyX11 j) = vp_V df_10 j := by
  intro j hj
  match j, hj with
  | 0, _ => rfl
  | 1, _ => rfl
  | 2, _ => rfl
  | 3, _ => rfl
  | 4, _ => rfl
  | 5, _ => rfl
  | 6, _ => rfl
  | n + 7, h => exact absurd h (by omega)
theorem cls_11 : cls 11 RJ2 TJ2 3 tyJ2 := ⟨rfl, in_J2, tyJ2_ok, nmJ2⟩
def df_11 : List Value := [.null, .int 0, .int 0]
theorem dfok_11 : ∀ j, j < 3 → defaultValue (tyJ2 j) = vp_V df_11 j := by
  intro j hj
  match j, hj with
  | 0, _ => rfl
  | 1, _ => rfl
  | 2, _ => rfl
  | n + 3, h => exact absurd h (by omega)
theorem cls_12 : cls 12 RJ4 TJ4 4 tyJ4 := ⟨rfl, in_J4, tyJ4_ok, nmJ4⟩
def df_12 : List Value := [.null, .int 0, .int 0, .int 0]
theorem dfok_12 : ∀ j, j < 4 → defaultValue (tyJ4 j) = vp_V df_12 j := by
  intro j hj
  match j, hj with
  | 0, _ => rfl
  | 1, _ => rfl
  | 2, _ => rfl
  | 3, _ => rfl
  | n + 4, h => exact absurd h (by omega)
theorem cls_13 : cls 13 RJ17 TJ17 4 tyJ17 := ⟨rfl, in_J17, tyJ17_ok, nmJ17⟩
def df_13 : List Value := [.int 0, .int 0, .null, .null]
theorem dfok_13 : ∀ j, j < 4 → defaultValue (tyJ17 j) = vp_V df_13 j := by
  intro j hj
  match j, hj with
  | 0, _ => rfl
  | 1, _ => rfl
  | 2, _ => rfl
  | 3, _ => rfl
  | n + 4, h => exact absurd h (by omega)
theorem cls_14 : cls 14 RJ18 TJ18 3 tyJ18 := ⟨rfl, in_J18, tyJ18_ok, nmJ18⟩
def df_14 : List Value := [.null, .null, .null]
theorem dfok_14 : ∀ j, j < 3 → defaultValue (tyJ18 j) = vp_V df_14 j := by
  intro j hj
  match j, hj with
  | 0, _ => rfl
  | 1, _ => rfl
  | 2, _ => rfl
  | n + 3, h => exact absurd h (by omega)
theorem cls_15 : cls 15 RJ24 TJ24 5 tyJ24 := ⟨rfl, in_J24, tyJ24_ok, nmJ24⟩
def df_15 : List Value := [.null, .null, .int 0, .int 0, .null]
theorem dfok_15 : ∀ j, j < 5 → defaultValue (tyJ24 j) = vp_V df_15 j := by
  intro j hj
  match j, hj with
  | 0, _ => rfl
  | 1, _ => rfl
  | 2, _ => rfl
  | 3, _ => rfl
  | 4, _ => rfl
  | n + 5, h => exact absurd h (by omega)
theorem cls_16 : cls 16 RJ27 TJ27 3 tyJ27 := ⟨rfl, in_J27, tyJ27_ok, nmJ27⟩
def df_16 : List Value := [.null, .int 0, .int 0]
theorem dfok_16 : ∀ j, j < 3 → defaultValue (tyJ27 j) = vp_V df_16 j := by
  intro j hj
  match j, hj with
  | 0, _ => rfl
  | 1, _ => rfl
  | 2, _ => rfl
  | n + 3, h => exact absurd h (by omega)
theorem zG_0 (P : GP) : ("java/lang/String", "COMPACT_STRINGS", "Z", .int 1) ∈ zG P.2.2.2.2.2 := List.mem_of_getElem? (i := 0) rfl
theorem zG_1 (P : GP) : ("java/util/BitSet", "$assertionsDisabled", "Z", .int 1) ∈ zG P.2.2.2.2.2 := List.mem_of_getElem? (i := 1) rfl
theorem zG_2 (P : GP) : ("NetworkCenters$Kind", "EDGE", "LNetworkCenters$Kind;", .ref (P.2.2.2.2.2 0)) ∈ zG P.2.2.2.2.2 := List.mem_of_getElem? (i := 2) rfl
theorem zG_3 (P : GP) : ("NetworkCenters$Kind", "WEIGHTED", "LNetworkCenters$Kind;", .ref (P.2.2.2.2.2 1)) ∈ zG P.2.2.2.2.2 := List.mem_of_getElem? (i := 3) rfl
theorem zG_4 (P : GP) : ("NetworkCenters$Kind", "CHANGING", "LNetworkCenters$Kind;", .ref (P.2.2.2.2.2 2)) ∈ zG P.2.2.2.2.2 := List.mem_of_getElem? (i := 4) rfl
theorem zG_5 (P : GP) : ("NetworkCenters$Kind", "FORBIDDEN", "LNetworkCenters$Kind;", .ref (P.2.2.2.2.2 3)) ∈ zG P.2.2.2.2.2 := List.mem_of_getElem? (i := 5) rfl
theorem zG_6 (P : GP) : ("jdk/internal/util/Preconditions", "SIOOBE_FORMATTER", "Ljava/util/function/BiFunction;", .ref (P.2.2.2.2.2 4)) ∈ zG P.2.2.2.2.2 := List.mem_of_getElem? (i := 6) rfl
theorem zG_7 (P : GP) : ("java/lang/Throwable", "UNASSIGNED_STACK", "[Ljava/lang/StackTraceElement;", .ref (P.2.2.2.2.2 5)) ∈ zG P.2.2.2.2.2 := List.mem_of_getElem? (i := 7) rfl
theorem zG_8 (P : GP) : ("java/lang/Throwable", "SUPPRESSED_SENTINEL", "Ljava/util/List;", .ref (P.2.2.2.2.2 6)) ∈ zG P.2.2.2.2.2 := List.mem_of_getElem? (i := 8) rfl
theorem pl_J1 : plainName RJ1 = true := by decide
theorem ne_J1 : RJ1 ≠ "java/lang/invoke/MethodHandle" ∧ RJ1 ≠ "java/lang/invoke/VarHandle" := by decide +kernel
theorem pl_J10 : plainName RJ10 = true := by decide
theorem ne_J10 : RJ10 ≠ "java/lang/invoke/MethodHandle" ∧ RJ10 ≠ "java/lang/invoke/VarHandle" := by decide +kernel
theorem pl_J11 : plainName RJ11 = true := by decide
theorem ne_J11 : RJ11 ≠ "java/lang/invoke/MethodHandle" ∧ RJ11 ≠ "java/lang/invoke/VarHandle" := by decide +kernel
theorem pl_J12 : plainName RJ12 = true := by decide
theorem ne_J12 : RJ12 ≠ "java/lang/invoke/MethodHandle" ∧ RJ12 ≠ "java/lang/invoke/VarHandle" := by decide +kernel
theorem pl_J13 : plainName RJ13 = true := by decide
theorem ne_J13 : RJ13 ≠ "java/lang/invoke/MethodHandle" ∧ RJ13 ≠ "java/lang/invoke/VarHandle" := by decide +kernel
theorem pl_J14 : plainName RJ14 = true := by decide
theorem ne_J14 : RJ14 ≠ "java/lang/invoke/MethodHandle" ∧ RJ14 ≠ "java/lang/invoke/VarHandle" := by decide +kernel
theorem pl_J15 : plainName RJ15 = true := by decide
theorem ne_J15 : RJ15 ≠ "java/lang/invoke/MethodHandle" ∧ RJ15 ≠ "java/lang/invoke/VarHandle" := by decide +kernel
theorem pl_J16 : plainName RJ16 = true := by decide
theorem ne_J16 : RJ16 ≠ "java/lang/invoke/MethodHandle" ∧ RJ16 ≠ "java/lang/invoke/VarHandle" := by decide +kernel
theorem pl_J17 : plainName RJ17 = true := by decide
theorem ne_J17 : RJ17 ≠ "java/lang/invoke/MethodHandle" ∧ RJ17 ≠ "java/lang/invoke/VarHandle" := by decide +kernel
theorem pl_J18 : plainName RJ18 = true := by decide
theorem ne_J18 : RJ18 ≠ "java/lang/invoke/MethodHandle" ∧ RJ18 ≠ "java/lang/invoke/VarHandle" := by decide +kernel
theorem pl_J19 : plainName RJ19 = true := by decide
theorem ne_J19 : RJ19 ≠ "java/lang/invoke/MethodHandle" ∧ RJ19 ≠ "java/lang/invoke/VarHandle" := by decide +kernel
theorem pl_J2 : plainName RJ2 = true := by decide
theorem ne_J2 : RJ2 ≠ "java/lang/invoke/MethodHandle" ∧ RJ2 ≠ "java/lang/invoke/VarHandle" := by decide +kernel
theorem pl_J20 : plainName RJ20 = true := by decide
theorem ne_J20 : RJ20 ≠ "java/lang/invoke/MethodHandle" ∧ RJ20 ≠ "java/lang/invoke/VarHandle" := by decide +kernel
theorem pl_J21 : plainName RJ21 = true := by decide
theorem ne_J21 : RJ21 ≠ "java/lang/invoke/MethodHandle" ∧ RJ21 ≠ "java/lang/invoke/VarHandle" := by decide +kernel
theorem pl_J22 : plainName RJ22 = true := by decide
theorem ne_J22 : RJ22 ≠ "java/lang/invoke/MethodHandle" ∧ RJ22 ≠ "java/lang/invoke/VarHandle" := by decide +kernel
theorem pl_J23 : plainName RJ23 = true := by decide
theorem ne_J23 : RJ23 ≠ "java/lang/invoke/MethodHandle" ∧ RJ23 ≠ "java/lang/invoke/VarHandle" := by decide +kernel
theorem pl_J24 : plainName RJ24 = true := by decide
theorem ne_J24 : RJ24 ≠ "java/lang/invoke/MethodHandle" ∧ RJ24 ≠ "java/lang/invoke/VarHandle" := by decide +kernel
theorem pl_J25 : plainName RJ25 = true := by decide
theorem ne_J25 : RJ25 ≠ "java/lang/invoke/MethodHandle" ∧ RJ25 ≠ "java/lang/invoke/VarHandle" := by decide +kernel
theorem pl_J26 : plainName RJ26 = true := by decide
theorem ne_J26 : RJ26 ≠ "java/lang/invoke/MethodHandle" ∧ RJ26 ≠ "java/lang/invoke/VarHandle" := by decide +kernel
theorem pl_J27 : plainName RJ27 = true := by decide
theorem ne_J27 : RJ27 ≠ "java/lang/invoke/MethodHandle" ∧ RJ27 ≠ "java/lang/invoke/VarHandle" := by decide +kernel
theorem pl_J28 : plainName RJ28 = true := by decide
theorem ne_J28 : RJ28 ≠ "java/lang/invoke/MethodHandle" ∧ RJ28 ≠ "java/lang/invoke/VarHandle" := by decide +kernel
theorem pl_J29 : plainName RJ29 = true := by decide
theorem ne_J29 : RJ29 ≠ "java/lang/invoke/MethodHandle" ∧ RJ29 ≠ "java/lang/invoke/VarHandle" := by decide +kernel
theorem pl_J3 : plainName RJ3 = true := by decide
theorem ne_J3 : RJ3 ≠ "java/lang/invoke/MethodHandle" ∧ RJ3 ≠ "java/lang/invoke/VarHandle" := by decide +kernel
theorem pl_J4 : plainName RJ4 = true := by decide
theorem ne_J4 : RJ4 ≠ "java/lang/invoke/MethodHandle" ∧ RJ4 ≠ "java/lang/invoke/VarHandle" := by decide +kernel
theorem pl_J5 : plainName RJ5 = true := by decide
theorem ne_J5 : RJ5 ≠ "java/lang/invoke/MethodHandle" ∧ RJ5 ≠ "java/lang/invoke/VarHandle" := by decide +kernel
theorem pl_J6 : plainName RJ6 = true := by decide
theorem ne_J6 : RJ6 ≠ "java/lang/invoke/MethodHandle" ∧ RJ6 ≠ "java/lang/invoke/VarHandle" := by decide +kernel
theorem pl_J7 : plainName RJ7 = true := by decide
theorem ne_J7 : RJ7 ≠ "java/lang/invoke/MethodHandle" ∧ RJ7 ≠ "java/lang/invoke/VarHandle" := by decide +kernel
theorem pl_J8 : plainName RJ8 = true := by decide
theorem ne_J8 : RJ8 ≠ "java/lang/invoke/MethodHandle" ∧ RJ8 ≠ "java/lang/invoke/VarHandle" := by decide +kernel
theorem pl_J9 : plainName RJ9 = true := by decide
theorem ne_J9 : RJ9 ≠ "java/lang/invoke/MethodHandle" ∧ RJ9 ≠ "java/lang/invoke/VarHandle" := by decide +kernel
theorem pl_X0 : plainName RX0 = true := by decide
theorem ne_X0 : RX0 ≠ "java/lang/invoke/MethodHandle" ∧ RX0 ≠ "java/lang/invoke/VarHandle" := by decide +kernel
theorem pl_X1 : plainName RX1 = true := by decide
theorem ne_X1 : RX1 ≠ "java/lang/invoke/MethodHandle" ∧ RX1 ≠ "java/lang/invoke/VarHandle" := by decide +kernel
theorem pl_X10 : plainName RX10 = true := by decide
theorem ne_X10 : RX10 ≠ "java/lang/invoke/MethodHandle" ∧ RX10 ≠ "java/lang/invoke/VarHandle" := by decide +kernel
theorem pl_X11 : plainName RX11 = true := by decide
theorem ne_X11 : RX11 ≠ "java/lang/invoke/MethodHandle" ∧ RX11 ≠ "java/lang/invoke/VarHandle" := by decide +kernel
theorem pl_X12 : plainName RX12 = true := by decide
theorem ne_X12 : RX12 ≠ "java/lang/invoke/MethodHandle" ∧ RX12 ≠ "java/lang/invoke/VarHandle" := by decide +kernel
theorem pl_X13 : plainName RX13 = true := by decide
theorem ne_X13 : RX13 ≠ "java/lang/invoke/MethodHandle" ∧ RX13 ≠ "java/lang/invoke/VarHandle" := by decide +kernel
theorem pl_X14 : plainName RX14 = true := by decide
theorem ne_X14 : RX14 ≠ "java/lang/invoke/MethodHandle" ∧ RX14 ≠ "java/lang/invoke/VarHandle" := by decide +kernel
theorem pl_X15 : plainName RX15 = true := by decide
theorem ne_X15 : RX15 ≠ "java/lang/invoke/MethodHandle" ∧ RX15 ≠ "java/lang/invoke/VarHandle" := by decide +kernel
theorem pl_X2 : plainName RX2 = true := by decide
theorem ne_X2 : RX2 ≠ "java/lang/invoke/MethodHandle" ∧ RX2 ≠ "java/lang/invoke/VarHandle" := by decide +kernel
theorem pl_X3 : plainName RX3 = true := by decide
theorem ne_X3 : RX3 ≠ "java/lang/invoke/MethodHandle" ∧ RX3 ≠ "java/lang/invoke/VarHandle" := by decide +kernel
theorem pl_X5 : plainName RX5 = true := by decide
theorem ne_X5 : RX5 ≠ "java/lang/invoke/MethodHandle" ∧ RX5 ≠ "java/lang/invoke/VarHandle" := by decide +kernel
theorem pl_X6 : plainName RX6 = true := by decide
theorem ne_X6 : RX6 ≠ "java/lang/invoke/MethodHandle" ∧ RX6 ≠ "java/lang/invoke/VarHandle" := by decide +kernel
theorem pl_X7 : plainName RX7 = true := by decide
theorem ne_X7 : RX7 ≠ "java/lang/invoke/MethodHandle" ∧ RX7 ≠ "java/lang/invoke/VarHandle" := by decide +kernel
theorem pl_X8 : plainName RX8 = true := by decide
theorem ne_X8 : RX8 ≠ "java/lang/invoke/MethodHandle" ∧ RX8 ≠ "java/lang/invoke/VarHandle" := by decide +kernel
theorem pl_X9 : plainName RX9 = true := by decide
theorem ne_X9 : RX9 ≠ "java/lang/invoke/MethodHandle" ∧ RX9 ≠ "java/lang/invoke/VarHandle" := by decide +kernel
