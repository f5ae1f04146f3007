/-! the component, walked (printed by tool/gen_c.py) -/
set_option maxRecDepth 100000
def C_X4_begins (σ : CM) (v0 : Nat) (v1 : Nat) : Option (CM) :=
  (cget σ 5 v1 1).bind fun x1 =>
  (cst σ 3 v0 0 x1).bind fun σ2 =>
  (cget σ2 5 v1 2).bind fun x3 =>
  (csz σ2 3 v0 1 x3).bind fun σ4 =>
  (cst σ4 3 v0 2 (-1 : Int32)).bind fun σ5 =>
  (csz σ5 3 v0 3 (0 : Int32)).bind fun σ6 =>
  (cst σ6 3 v0 4 (0 : Int32)).bind fun σ7 =>
  (csz σ7 3 v0 5 (0 : Int32)).bind fun σ8 =>
  some σ8
theorem hdC_X4_begins : yX4_begins.cls = RX4 ∧ yX4_begins.cls ≠ "java/lang/invoke/MethodHandle" ∧ yX4_begins.cls ≠ "java/lang/invoke/VarHandle" ∧ (parseMethodDescriptor yX4_begins.desc).map (fun d => d.parameters.length) = some 1 := by decide +kernel
set_option maxHeartbeats 4000000 in
theorem metC_X4_begins (l : Launch) (σ : CM) (v0 : Nat) (v1 : Nat) (res : CM) (h : C_X4_begins σ v0 v1 = some res) : MetC l yX4_begins (ws_ yX4_begins cX4_begins 2 none) 1 0 false false false false false true (fun G => [.ref (gA G 3 v0), .ref (G.2.2.2 5 v1)]) σ (fun _ => none) res := by
  refine met_wC (own := RX4) (by decide +kernel) rfl (by simp [cRt]) (fun _ => Nat.le_of_ble_eq_true rfl) (fun G p e s m args below meth c Q hr1 hr2 C hE ls hl hJ => ?_)
  have hx := C.1.1
  have hb := C.1.2.1
  have hown := C.1.2.2.2.1
  have hts := C.1.2.2.2.2
  have hl : lv_has ls 2 [(0, .ref (gA G 3 v0)), (1, .ref (G.2.2.2 5 v1))] := hl
  have hJ := CJ.s2 (hr2 rfl) hJ
  unfold C_X4_begins at h
  refine lv_aload_n hx hb dX4_begins_0 rfl (lv_at hl 0 rfl) ?_
  refine lv_aload_n hx hb dX4_begins_1 rfl (lv_at hl 1 rfl) ?_
  obtain ⟨x1, hx1, h⟩ := ob h
  refine cj_gi C hJ 5 v1 1 (ad_d rfl) (Nat.le_of_ble_eq_true rfl) (Nat.le_of_ble_eq_true rfl) rfl rfl rfl (fl_X4_9_5 C) hx1 dX4_begins_2 ?_
  obtain ⟨σ2, hσ2, h⟩ := ob h
  refine cj_pi C hJ 3 v0 0 (ad_s rfl) (Nat.le_of_ble_eq_true rfl) (Nat.le_of_ble_eq_true rfl) rfl rfl rfl rfl rfl rfl (fl_X4_15_3 C) hσ2 dX4_begins_5 (fun H locs hJ => ?_)
  refine lv_aload_n hx hb dX4_begins_8 rfl (lv_at hl 0 rfl) ?_
  refine lv_aload_n hx hb dX4_begins_9 rfl (lv_at hl 1 rfl) ?_
  obtain ⟨x3, hx3, h⟩ := ob h
  refine cj_gi C hJ 5 v1 2 (ad_d rfl) (Nat.le_of_ble_eq_true rfl) (Nat.le_of_ble_eq_true rfl) rfl rfl rfl (fl_X4_18_5 C) hx3 dX4_begins_10 ?_
  obtain ⟨σ4, hσ4, h⟩ := ob h
  refine cj_pz C hJ 3 v0 1 (ad_s rfl) (Nat.le_of_ble_eq_true rfl) (Nat.le_of_ble_eq_true rfl) rfl rfl rfl rfl rfl rfl (fl_X4_22_3 C) hσ4 dX4_begins_13 (fun H locs hJ => ?_)
  refine lv_aload_n hx hb dX4_begins_16 rfl (lv_at hl 0 rfl) ?_
  refine lv_iconst hx hb dX4_begins_17 kc_m1 ?_
  obtain ⟨σ5, hσ5, h⟩ := ob h
  refine cj_pi C hJ 3 v0 2 (ad_s rfl) (Nat.le_of_ble_eq_true rfl) (Nat.le_of_ble_eq_true rfl) rfl rfl rfl rfl rfl rfl (fl_X4_23_3 C) hσ5 dX4_begins_18 (fun H locs hJ => ?_)
  refine lv_aload_n hx hb dX4_begins_21 rfl (lv_at hl 0 rfl) ?_
  refine lv_iconst hx hb dX4_begins_22 kc_0 ?_
  obtain ⟨σ6, hσ6, h⟩ := ob h
  refine cj_pz C hJ 3 v0 3 (ad_s rfl) (Nat.le_of_ble_eq_true rfl) (Nat.le_of_ble_eq_true rfl) rfl rfl rfl rfl rfl rfl (fl_X4_26_3 C) hσ6 dX4_begins_23 (fun H locs hJ => ?_)
  refine lv_aload_n hx hb dX4_begins_26 rfl (lv_at hl 0 rfl) ?_
  refine lv_iconst hx hb dX4_begins_27 kc_0 ?_
  obtain ⟨σ7, hσ7, h⟩ := ob h
  refine cj_pi C hJ 3 v0 4 (ad_s rfl) (Nat.le_of_ble_eq_true rfl) (Nat.le_of_ble_eq_true rfl) rfl rfl rfl rfl rfl rfl (fl_X4_29_3 C) hσ7 dX4_begins_28 (fun H locs hJ => ?_)
  refine lv_aload_n hx hb dX4_begins_31 rfl (lv_at hl 0 rfl) ?_
  refine lv_iconst hx hb dX4_begins_32 kc_0 ?_
  obtain ⟨σ8, hσ8, h⟩ := ob h
  refine cj_pz C hJ 3 v0 5 (ad_s rfl) (Nat.le_of_ble_eq_true rfl) (Nat.le_of_ble_eq_true rfl) rfl rfl rfl rfl rfl rfl (fl_X4_32_3 C) hσ8 dX4_begins_33 (fun H locs hJ => ?_)
  have h := Option.some.inj h
  subst h
  exact hE _ _ _ _ _ _ _ _ _ _ _ _ none hJ (fun h => by cases h) (fun h => by cases h) rfl rfl dX4_begins_36
def C_X4_copies (σ : CM) (v0 : Nat) (v1 : Nat) : Option (CM) :=
  (cget σ 3 v1 0).bind fun x1 =>
  (cst σ 3 v0 0 x1).bind fun σ2 =>
  (cget σ2 3 v1 1).bind fun x3 =>
  (csz σ2 3 v0 1 x3).bind fun σ4 =>
  (cget σ4 3 v1 2).bind fun x5 =>
  (cst σ4 3 v0 2 x5).bind fun σ6 =>
  (cget σ6 3 v1 3).bind fun x7 =>
  (csz σ6 3 v0 3 x7).bind fun σ8 =>
  (cget σ8 3 v1 4).bind fun x9 =>
  (cst σ8 3 v0 4 x9).bind fun σ10 =>
  (cget σ10 3 v1 5).bind fun x11 =>
  (csz σ10 3 v0 5 x11).bind fun σ12 =>
  some σ12
theorem hdC_X4_copies : yX4_copies.cls = RX4 ∧ yX4_copies.cls ≠ "java/lang/invoke/MethodHandle" ∧ yX4_copies.cls ≠ "java/lang/invoke/VarHandle" ∧ (parseMethodDescriptor yX4_copies.desc).map (fun d => d.parameters.length) = some 1 := by decide +kernel
set_option maxHeartbeats 4000000 in
theorem metC_X4_copies (l : Launch) (σ : CM) (v0 : Nat) (v1 : Nat) (res : CM) (h : C_X4_copies σ v0 v1 = some res) : MetC l yX4_copies (ws_ yX4_copies cX4_copies 2 none) 1 0 false false false false false false (fun G => [.ref (gA G 3 v0), .ref (gA G 3 v1)]) σ (fun _ => none) res := by
  refine met_wC (own := RX4) (by decide +kernel) rfl (by simp [cRt]) (fun _ => Nat.le_of_ble_eq_true rfl) (fun G p e s m args below meth c Q hr1 hr2 C hE ls hl hJ => ?_)
  have hx := C.1.1
  have hb := C.1.2.1
  have hown := C.1.2.2.2.1
  have hts := C.1.2.2.2.2
  have hl : lv_has ls 2 [(0, .ref (gA G 3 v0)), (1, .ref (gA G 3 v1))] := hl
  unfold C_X4_copies at h
  refine lv_aload_n hx hb dX4_copies_0 rfl (lv_at hl 0 rfl) ?_
  refine lv_aload_n hx hb dX4_copies_1 rfl (lv_at hl 1 rfl) ?_
  obtain ⟨x1, hx1, h⟩ := ob h
  refine cj_gi C hJ 3 v1 0 (ad_s rfl) (Nat.le_of_ble_eq_true rfl) (Nat.le_of_ble_eq_true rfl) rfl rfl rfl (fl_X4_15_3 C) hx1 dX4_copies_2 ?_
  obtain ⟨σ2, hσ2, h⟩ := ob h
  refine cj_pi C hJ 3 v0 0 (ad_s rfl) (Nat.le_of_ble_eq_true rfl) (Nat.le_of_ble_eq_true rfl) rfl rfl rfl rfl rfl rfl (fl_X4_15_3 C) hσ2 dX4_copies_5 (fun H locs hJ => ?_)
  refine lv_aload_n hx hb dX4_copies_8 rfl (lv_at hl 0 rfl) ?_
  refine lv_aload_n hx hb dX4_copies_9 rfl (lv_at hl 1 rfl) ?_
  obtain ⟨x3, hx3, h⟩ := ob h
  refine cj_gi C hJ 3 v1 1 (ad_s rfl) (Nat.le_of_ble_eq_true rfl) (Nat.le_of_ble_eq_true rfl) rfl rfl rfl (fl_X4_22_3 C) hx3 dX4_copies_10 ?_
  obtain ⟨σ4, hσ4, h⟩ := ob h
  refine cj_pz C hJ 3 v0 1 (ad_s rfl) (Nat.le_of_ble_eq_true rfl) (Nat.le_of_ble_eq_true rfl) rfl rfl rfl rfl rfl rfl (fl_X4_22_3 C) hσ4 dX4_copies_13 (fun H locs hJ => ?_)
  refine lv_aload_n hx hb dX4_copies_16 rfl (lv_at hl 0 rfl) ?_
  refine lv_aload_n hx hb dX4_copies_17 rfl (lv_at hl 1 rfl) ?_
  obtain ⟨x5, hx5, h⟩ := ob h
  refine cj_gi C hJ 3 v1 2 (ad_s rfl) (Nat.le_of_ble_eq_true rfl) (Nat.le_of_ble_eq_true rfl) rfl rfl rfl (fl_X4_23_3 C) hx5 dX4_copies_18 ?_
  obtain ⟨σ6, hσ6, h⟩ := ob h
  refine cj_pi C hJ 3 v0 2 (ad_s rfl) (Nat.le_of_ble_eq_true rfl) (Nat.le_of_ble_eq_true rfl) rfl rfl rfl rfl rfl rfl (fl_X4_23_3 C) hσ6 dX4_copies_21 (fun H locs hJ => ?_)
  refine lv_aload_n hx hb dX4_copies_24 rfl (lv_at hl 0 rfl) ?_
  refine lv_aload_n hx hb dX4_copies_25 rfl (lv_at hl 1 rfl) ?_
  obtain ⟨x7, hx7, h⟩ := ob h
  refine cj_gi C hJ 3 v1 3 (ad_s rfl) (Nat.le_of_ble_eq_true rfl) (Nat.le_of_ble_eq_true rfl) rfl rfl rfl (fl_X4_26_3 C) hx7 dX4_copies_26 ?_
  obtain ⟨σ8, hσ8, h⟩ := ob h
  refine cj_pz C hJ 3 v0 3 (ad_s rfl) (Nat.le_of_ble_eq_true rfl) (Nat.le_of_ble_eq_true rfl) rfl rfl rfl rfl rfl rfl (fl_X4_26_3 C) hσ8 dX4_copies_29 (fun H locs hJ => ?_)
  refine lv_aload_n hx hb dX4_copies_32 rfl (lv_at hl 0 rfl) ?_
  refine lv_aload_n hx hb dX4_copies_33 rfl (lv_at hl 1 rfl) ?_
  obtain ⟨x9, hx9, h⟩ := ob h
  refine cj_gi C hJ 3 v1 4 (ad_s rfl) (Nat.le_of_ble_eq_true rfl) (Nat.le_of_ble_eq_true rfl) rfl rfl rfl (fl_X4_29_3 C) hx9 dX4_copies_34 ?_
  obtain ⟨σ10, hσ10, h⟩ := ob h
  refine cj_pi C hJ 3 v0 4 (ad_s rfl) (Nat.le_of_ble_eq_true rfl) (Nat.le_of_ble_eq_true rfl) rfl rfl rfl rfl rfl rfl (fl_X4_29_3 C) hσ10 dX4_copies_37 (fun H locs hJ => ?_)
  refine lv_aload_n hx hb dX4_copies_40 rfl (lv_at hl 0 rfl) ?_
  refine lv_aload_n hx hb dX4_copies_41 rfl (lv_at hl 1 rfl) ?_
  obtain ⟨x11, hx11, h⟩ := ob h
  refine cj_gi C hJ 3 v1 5 (ad_s rfl) (Nat.le_of_ble_eq_true rfl) (Nat.le_of_ble_eq_true rfl) rfl rfl rfl (fl_X4_32_3 C) hx11 dX4_copies_42 ?_
  obtain ⟨σ12, hσ12, h⟩ := ob h
  refine cj_pz C hJ 3 v0 5 (ad_s rfl) (Nat.le_of_ble_eq_true rfl) (Nat.le_of_ble_eq_true rfl) rfl rfl rfl rfl rfl rfl (fl_X4_32_3 C) hσ12 dX4_copies_45 (fun H locs hJ => ?_)
  have h := Option.some.inj h
  subst h
  exact hE _ _ _ _ _ _ _ _ _ _ _ _ none hJ (fun h => by cases h) (fun h => by cases h) rfl rfl dX4_copies_48
def C_X4_by (σ : CM) (v0 : Nat) (v1 : Int32) : Option (Int32) :=
  if v1 = 0 then
    (cget σ 3 v0 0).bind fun x1 =>
    some x1
  else
  if v1 = 1 then
    (cget σ 3 v0 1).bind fun x2 =>
    if x2 = 0 then
      some (0 : Int32)
    else
      some (1 : Int32)
  else
  if v1 = 2 then
    (cget σ 3 v0 3).bind fun x4 =>
    if x4 = 0 then
      some (0 : Int32)
    else
      some (1 : Int32)
  else
  (cget σ 3 v0 4).bind fun x6 =>
  some x6
theorem hdC_X4_by : yX4_by.cls = RX4 ∧ yX4_by.cls ≠ "java/lang/invoke/MethodHandle" ∧ yX4_by.cls ≠ "java/lang/invoke/VarHandle" ∧ (parseMethodDescriptor yX4_by.desc).map (fun d => d.parameters.length) = some 1 := by decide +kernel
set_option maxHeartbeats 4000000 in
theorem metC_X4_by (l : Launch) (σ : CM) (v0 : Nat) (v1 : Int32) (res : Int32) (h : C_X4_by σ v0 v1 = some res) : MetC l yX4_by (ws_ yX4_by cX4_by 2 (some .int)) 1 0 false false false false false false (fun G => [.ref (gA G 3 v0), .int v1]) σ (fun _ => (some (.int res))) σ := by
  refine met_wC (own := RX4) (by decide +kernel) rfl (by simp [cRt]) (fun _ => Nat.le_of_ble_eq_true rfl) (fun G p e s m args below meth c Q hr1 hr2 C hE ls hl hJ => ?_)
  have hx := C.1.1
  have hb := C.1.2.1
  have hown := C.1.2.2.2.1
  have hts := C.1.2.2.2.2
  have hl : lv_has ls 2 [(0, .ref (gA G 3 v0)), (1, .int v1)] := hl
  unfold C_X4_by at h
  refine lv_iload_n hx hb dX4_by_0 rfl (lv_at hl 1 rfl) ?_
  by_cases hc7_0 : v1 = 0
  · have h := ip h hc7_0
    refine lv_tableIn (tgt := 28) (off := 27) hx hb dX4_by_1 (by rw [hc7_0]; decide) (by rw [hc7_0]; decide) (by rw [hc7_0]; rfl) (by decide) ?_
    refine lv_aload_n hx hb dX4_by_28 rfl (lv_at hl 0 rfl) ?_
    obtain ⟨x1, hx1, h⟩ := ob h
    refine cj_gi C hJ 3 v0 0 (ad_s rfl) (Nat.le_of_ble_eq_true rfl) (Nat.le_of_ble_eq_true rfl) rfl rfl rfl (fl_X4_15_3 C) hx1 dX4_by_29 ?_
    have h := Option.some.inj h
    subst h
    exact hE _ _ _ _ _ _ _ _ _ _ _ _ (some (.int (x1))) hJ (fun h => by cases h) (fun h => by cases h) ⟨_, rfl⟩ rfl dX4_by_32
  have h := im h hc7_0
  by_cases hc7_1 : v1 = 1
  · have h := ip h hc7_1
    refine lv_tableIn (tgt := 33) (off := 32) hx hb dX4_by_1 (by rw [hc7_1]; decide) (by rw [hc7_1]; decide) (by rw [hc7_1]; rfl) (by decide) ?_
    refine lv_aload_n hx hb dX4_by_33 rfl (lv_at hl 0 rfl) ?_
    obtain ⟨x2, hx2, h⟩ := ob h
    refine cj_gi C hJ 3 v0 1 (ad_s rfl) (Nat.le_of_ble_eq_true rfl) (Nat.le_of_ble_eq_true rfl) rfl rfl rfl (fl_X4_22_3 C) hx2 dX4_by_34 ?_
    refine lv_if_eq (tgt := 44) hx hb dX4_by_37 (by decide) (fun hc3 => ?_) (fun hc3 => ?_)
    · have h := ip h hc3
      refine lv_iconst hx hb dX4_by_44 kc_0 ?_
      have h := Option.some.inj h
      subst h
      exact hE _ _ _ _ _ _ _ _ _ _ _ _ (some (.int ((0 : Int32)))) hJ (fun h => by cases h) (fun h => by cases h) ⟨_, rfl⟩ rfl dX4_by_45
    · have h := im h hc3
      refine lv_iconst hx hb dX4_by_40 kc_1 ?_
      refine lv_goto (tgt := 45) hx hb dX4_by_41 (by decide) ?_
      have h := Option.some.inj h
      subst h
      exact hE _ _ _ _ _ _ _ _ _ _ _ _ (some (.int ((1 : Int32)))) hJ (fun h => by cases h) (fun h => by cases h) ⟨_, rfl⟩ rfl dX4_by_45
  have h := im h hc7_1
  by_cases hc7_2 : v1 = 2
  · have h := ip h hc7_2
    refine lv_tableIn (tgt := 46) (off := 45) hx hb dX4_by_1 (by rw [hc7_2]; decide) (by rw [hc7_2]; decide) (by rw [hc7_2]; rfl) (by decide) ?_
    refine lv_aload_n hx hb dX4_by_46 rfl (lv_at hl 0 rfl) ?_
    obtain ⟨x4, hx4, h⟩ := ob h
    refine cj_gi C hJ 3 v0 3 (ad_s rfl) (Nat.le_of_ble_eq_true rfl) (Nat.le_of_ble_eq_true rfl) rfl rfl rfl (fl_X4_26_3 C) hx4 dX4_by_47 ?_
    refine lv_if_eq (tgt := 57) hx hb dX4_by_50 (by decide) (fun hc5 => ?_) (fun hc5 => ?_)
    · have h := ip h hc5
      refine lv_iconst hx hb dX4_by_57 kc_0 ?_
      have h := Option.some.inj h
      subst h
      exact hE _ _ _ _ _ _ _ _ _ _ _ _ (some (.int ((0 : Int32)))) hJ (fun h => by cases h) (fun h => by cases h) ⟨_, rfl⟩ rfl dX4_by_58
    · have h := im h hc5
      refine lv_iconst hx hb dX4_by_53 kc_1 ?_
      refine lv_goto (tgt := 58) hx hb dX4_by_54 (by decide) ?_
      have h := Option.some.inj h
      subst h
      exact hE _ _ _ _ _ _ _ _ _ _ _ _ (some (.int ((1 : Int32)))) hJ (fun h => by cases h) (fun h => by cases h) ⟨_, rfl⟩ rfl dX4_by_58
  have h := im h hc7_2
  have hthc7_0 := lv_neT (a := 0) hc7_0 (by decide)
  have hthc7_1 := lv_neT (a := 1) hc7_1 (by decide)
  have hthc7_2 := lv_neT (a := 2) hc7_2 (by decide)
  refine lv_tableOut (tgt := 59) hx hb dX4_by_1 (by omega) (by decide) ?_
  refine lv_aload_n hx hb dX4_by_59 rfl (lv_at hl 0 rfl) ?_
  obtain ⟨x6, hx6, h⟩ := ob h
  refine cj_gi C hJ 3 v0 4 (ad_s rfl) (Nat.le_of_ble_eq_true rfl) (Nat.le_of_ble_eq_true rfl) rfl rfl rfl (fl_X4_29_3 C) hx6 dX4_by_60 ?_
  have h := Option.some.inj h
  subst h
  exact hE _ _ _ _ _ _ _ _ _ _ _ _ (some (.int (x6))) hJ (fun h => by cases h) (fun h => by cases h) ⟨_, rfl⟩ rfl dX4_by_63
def C_stoneAt (σ : CM) (v1 : Int32) : Option (Int32) :=
  (rdS σ).bind fun x1 =>
  (cld σ 9 0 v1).bind fun x2 =>
  some x2
theorem hdC_stoneAt : yX0_stoneAt.cls = RX0 ∧ yX0_stoneAt.cls ≠ "java/lang/invoke/MethodHandle" ∧ yX0_stoneAt.cls ≠ "java/lang/invoke/VarHandle" ∧ (parseMethodDescriptor yX0_stoneAt.desc).map (fun d => d.parameters.length) = some 1 := by decide +kernel
set_option maxHeartbeats 4000000 in
theorem metC_stoneAt (l : Launch) (σ : CM) (v1 : Int32) (res : Int32) (h : C_stoneAt σ v1 = some res) : MetC l yX0_stoneAt (ws_ yX0_stoneAt cX0_stoneAt 2 (some .int)) 16 0 true false true false false false (fun G => [.ref (gA G 0 0), .int v1]) σ (fun _ => (some (.int res))) σ := by
  refine met_wC (own := RX0) (by decide +kernel) rfl (by simp [cRt]) (fun _ => Nat.le_of_ble_eq_true rfl) (fun G p e s m args below meth c Q hr1 hr2 C hE ls hl hJ => ?_)
  have hx := C.1.1
  have hb := C.1.2.1
  have hown := C.1.2.2.2.1
  have hts := C.1.2.2.2.2
  have hl : lv_has ls 2 [(0, .ref (gA G 0 0)), (1, .int v1)] := hl
  unfold C_stoneAt at h
  refine lv_aload_n hx hb dX0_stoneAt_0 rfl (lv_at hl 0 rfl) ?_
  refine cj_gr (v := .ref (gA G 1 0)) C hJ 0 0 1 (ad_s rfl) (Nat.le_of_ble_eq_true rfl) (Nat.le_of_ble_eq_true rfl) rfl rfl (fl_X0_22_0 C) (fun _ _ => rfl) dX0_stoneAt_1 ?_
  obtain ⟨x1, hx1, h⟩ := ob h
  refine cj_readS C hJ (Or.inl rfl) q509 ⟨(Nat.le_of_ble_eq_true rfl), (Nat.le_of_ble_eq_true rfl)⟩ hl.1 (Nat.le_of_ble_eq_true rfl) hx1 dX0_stoneAt_4 (fun H locs ce sl hJ => ?_)
  refine lv_pop hx hb dX0_stoneAt_7 rfl ?_
  refine lv_aload_n hx hb dX0_stoneAt_8 rfl (lv_at hl 0 rfl) ?_
  refine cj_gr (v := .ref (gA G 1 0)) C hJ 0 0 1 (ad_s rfl) (Nat.le_of_ble_eq_true rfl) (Nat.le_of_ble_eq_true rfl) rfl rfl (fl_X0_22_0 C) (fun _ _ => rfl) dX0_stoneAt_9 ?_
  refine cj_gr (v := .ref (gA G 9 0)) C hJ 1 0 5 (ad_s rfl) (Nat.le_of_ble_eq_true rfl) (Nat.le_of_ble_eq_true rfl) rfl rfl (fl_X0_59_1 C) (fun _ _ => rfl) dX0_stoneAt_12 ?_
  refine lv_iload_n hx hb dX0_stoneAt_15 rfl (lv_at hl 1 rfl) ?_
  obtain ⟨x2, hx2, h⟩ := ob h
  refine cj_il C hJ 9 0 (ad_s rfl) rfl rfl rfl hx2 dX0_stoneAt_16 ?_
  have h := Option.some.inj h
  subst h
  exact hE _ _ _ _ _ _ _ _ _ _ _ _ (some (.int (x2))) hJ (fun _ => rfl) (fun h => by cases h) ⟨_, rfl⟩ rfl dX0_stoneAt_17
def C_members (σ : CM) : Option (Int32) :=
  (rdR σ).bind fun x1 =>
  some (σ 6 3 2)
theorem hdC_members : yX0_members.cls = RX0 ∧ yX0_members.cls ≠ "java/lang/invoke/MethodHandle" ∧ yX0_members.cls ≠ "java/lang/invoke/VarHandle" ∧ (parseMethodDescriptor yX0_members.desc).map (fun d => d.parameters.length) = some 0 := by decide +kernel
set_option maxHeartbeats 4000000 in
theorem metC_members (l : Launch) (σ : CM) (res : Int32) (h : C_members σ = some res) : MetC l yX0_members (ws_ yX0_members cX0_members 1 (some .int)) 16 0 false true false true false false (fun G => [.ref (gA G 0 0)]) σ (fun _ => (some (.int res))) σ := by
  refine met_wC (own := RX0) (by decide +kernel) rfl (by simp [cRt]) (fun _ => Nat.le_of_ble_eq_true rfl) (fun G p e s m args below meth c Q hr1 hr2 C hE ls hl hJ => ?_)
  have hx := C.1.1
  have hb := C.1.2.1
  have hown := C.1.2.2.2.1
  have hts := C.1.2.2.2.2
  have hl : lv_has ls 1 [(0, .ref (gA G 0 0))] := hl
  unfold C_members at h
  refine lv_aload_n hx hb dX0_members_0 rfl (lv_at hl 0 rfl) ?_
  refine cj_gr (v := .ref (gA G 2 0)) C hJ 0 0 2 (ad_s rfl) (Nat.le_of_ble_eq_true rfl) (Nat.le_of_ble_eq_true rfl) rfl rfl (fl_X0_26_0 C) (fun _ _ => rfl) dX0_members_1 ?_
  obtain ⟨x1, hx1, h⟩ := ob h
  refine cj_readR C hJ (Or.inl rfl) q525 ⟨(Nat.le_of_ble_eq_true rfl), (Nat.le_of_ble_eq_true rfl)⟩ hl.1 (Nat.le_of_ble_eq_true rfl) hx1 dX0_members_4 (fun D2 H locs ce sl _ hJ => ?_)
  refine lv_pop hx hb dX0_members_7 rfl ?_
  refine lv_aload_n hx hb dX0_members_8 rfl (lv_at hl 0 rfl) ?_
  refine cj_gr (v := .ref (gA G 2 0)) C hJ 0 0 2 (ad_s rfl) (Nat.le_of_ble_eq_true rfl) (Nat.le_of_ble_eq_true rfl) rfl rfl (fl_X0_26_0 C) (fun _ _ => rfl) dX0_members_9 ?_
  refine cj_gr (v := .ref (gA G 6 3)) C hJ 2 0 5 (ad_s rfl) (Nat.le_of_ble_eq_true rfl) (Nat.le_of_ble_eq_true rfl) rfl rfl (fl_X0_72_2 C) (fun _ _ => rfl) dX0_members_12 ?_
  refine cj_sizeT C hJ 3 (Nat.le_of_ble_eq_true rfl) (fun _ => rfl) q528 ⟨(Nat.le_of_ble_eq_true rfl), (Nat.le_of_ble_eq_true rfl)⟩ hl.1 (Nat.le_of_ble_eq_true rfl) dX0_members_15 (fun H locs hJ => ?_)
  have h := Option.some.inj h
  subst h
  exact hE _ _ _ _ _ _ _ _ _ _ _ _ (some (.int ((σ 6 3 2)))) hJ (fun h => by cases h) (fun _ => rfl) ⟨_, rfl⟩ rfl dX0_members_18
def C_isMember (σ : CM) (v1 : Int32) : Option (Int32) :=
  (C_members σ).bind fun c1 =>
  (C_in σ v1.toInt64 (0 : Int64) ((c1 - (1 : Int32)).toInt64)).bind fun c4 =>
  some (bz c4)
theorem hdC_isMember : yX0_isMember.cls = RX0 ∧ yX0_isMember.cls ≠ "java/lang/invoke/MethodHandle" ∧ yX0_isMember.cls ≠ "java/lang/invoke/VarHandle" ∧ (parseMethodDescriptor yX0_isMember.desc).map (fun d => d.parameters.length) = some 1 := by decide +kernel
set_option maxHeartbeats 4000000 in
theorem metC_isMember (l : Launch) (σ : CM) (v1 : Int32) (res : Int32) (h : C_isMember σ v1 = some res) : MetC l yX0_isMember (ws_ yX0_isMember cX0_isMember 2 (some .boolean)) 17 0 false true false true false false (fun G => [.ref (gA G 0 0), .int v1]) σ (fun _ => (some (.int res))) σ := by
  refine met_wC (own := RX0) (by decide +kernel) rfl (by simp [cRt]) (fun _ => Nat.le_of_ble_eq_true rfl) (fun G p e s m args below meth c Q hr1 hr2 C hE ls hl hJ => ?_)
  have hx := C.1.1
  have hb := C.1.2.1
  have hown := C.1.2.2.2.1
  have hts := C.1.2.2.2.2
  have hl : lv_has ls 2 [(0, .ref (gA G 0 0)), (1, .int v1)] := hl
  unfold C_isMember at h
  refine lv_iload_n hx hb dX0_isMember_0 rfl (lv_at hl 1 rfl) ?_
  refine lv_i2l (v := v1.toInt64) hx hb dX0_isMember_1 rfl ?_
  refine lv_lconst (v := (0 : Int64)) hx hb dX0_isMember_2 rfl ?_
  refine lv_aload_n hx hb dX0_isMember_3 rfl (lv_at hl 0 rfl) ?_
  obtain ⟨c1, hc1, h⟩ := ob h
  refine cc_V (As := []) (rest := [.long (0 : Int64), .long v1.toInt64]) C hJ (metC_members l σ c1 hc1) rfl rfl (show 0 + 0 ≤ 0 from Nat.le_of_ble_eq_true rfl) (cost_ok false true false true _ _ (fun h => by cases h) (fun _ => Or.inl rfl)) (fun h => by cases h) (fun h => by cases h) (cj_recv C hJ 0 0 (ad_s rfl) (Nat.le_of_ble_eq_true rfl) rfl rfl) (cwV 0 hts (lw_V q521 q523 qs7 q109 q524) rfl rfl rfl hdC_members ⟨(Nat.le_of_ble_eq_true rfl), (Nat.le_of_ble_eq_true rfl)⟩) rfl hl.1 rfl (lv_room (Nat.le_of_ble_eq_true rfl)) dX0_isMember_4 (fun D2 H locs _ hJ => ?_)
  refine lv_iconst hx hb dX0_isMember_7 kc_1 ?_
  refine lv_isub hx hb dX0_isMember_8 ?_
  refine lv_i2l (v := (c1 - (1 : Int32)).toInt64) hx hb dX0_isMember_9 rfl ?_
  obtain ⟨c4, hc4, h⟩ := ob h
  refine cc_St (As := [.long v1.toInt64, .long (0 : Int64), .long ((c1 - (1 : Int32)).toInt64)]) (rest := []) C hJ (metC_in l σ v1.toInt64 (0 : Int64) ((c1 - (1 : Int32)).toInt64) c4 hc4) rfl rfl (show 0 + 0 ≤ 0 from Nat.le_of_ble_eq_true rfl) (cost_ok false false false true _ _ (fun h => by cases h) (fun h => by cases h)) (fun h => by cases h) (fun h => by cases h) (va_cwS 3 hts (lw_S q145 q146 q109 q147) rfl rfl rfl hdC_in ⟨(Nat.le_of_ble_eq_true rfl), (Nat.le_of_ble_eq_true rfl)⟩) rfl hl.1 rfl (lv_room (Nat.le_of_ble_eq_true rfl)) dX0_isMember_10 (fun H locs hJ => ?_)
  have h := Option.some.inj h
  subst h
  exact hE _ _ _ _ _ _ _ _ _ _ _ _ (some (.int c4)) hJ (fun h => by cases h) (fun _ => rfl) ⟨_, rfl⟩ rfl dX0_isMember_13
def C_lifts (σ : CM) (v1 : Int32) : Option (CM) :=
  (lp (S := Int32 × CM) (T := CM) (fun w1 =>
    (C_members w1.2).bind fun c3 =>
      if c3 ≤ w1.1 then
        some (.inr w1.2)
      else
        (cix w1.2 7 20 w1.1).bind fun n6 =>
        (lget w1.2 3 w1.1).bind fun n7 =>
        (cget w1.2 5 n7 0).bind fun x8 =>
        (srolls x8.toNatClampNeg).bind fun x9 =>
        (cst w1.2 3 (8 * 20 + n6) 2 (v1 + x9)).bind fun σ10 =>
        some (.inl ((w1.1 + 1), σ10))) 2000 ((0 : Int32), σ)).bind fun q2 =>
  some q2
theorem hdC_lifts : yX0_lifts.cls = RX0 ∧ yX0_lifts.cls ≠ "java/lang/invoke/MethodHandle" ∧ yX0_lifts.cls ≠ "java/lang/invoke/VarHandle" ∧ (parseMethodDescriptor yX0_lifts.desc).map (fun d => d.parameters.length) = some 1 := by decide +kernel
set_option maxHeartbeats 4000000 in
theorem metC_lifts (l : Launch) (σ : CM) (v1 : Int32) (res : CM) (h : C_lifts σ v1 = some res) : MetC l yX0_lifts (ws_ yX0_lifts cX0_lifts 3 none) 17 0 false false false false true true (fun G => [.ref (gA G 0 0), .int v1]) σ (fun _ => none) res := by
  refine met_wC (own := RX0) (by decide +kernel) rfl (by simp [cRt]) (fun _ => Nat.le_of_ble_eq_true rfl) (fun G p e s m args below meth c Q hr1 hr2 C hE ls hl hJ => ?_)
  have hx := C.1.1
  have hb := C.1.2.1
  have hown := C.1.2.2.2.1
  have hts := C.1.2.2.2.2
  have hl : lv_has ls 3 [(0, .ref (gA G 0 0)), (1, .int v1)] := hl
  have hJ := CJ.s1 (hr1 rfl) hJ
  have hJ := CJ.s2 (hr2 rfl) hJ
  unfold C_lifts at h
  refine lv_iconst hx hb dX0_lifts_0 kc_0 ?_
  refine lv_istore_n (lv' := [(2, .int (0 : Int32)), (0, .ref (gA G 0 0)), (1, .int v1)]) hx hb dX0_lifts_1 rfl hl (Nat.le_of_ble_eq_true rfl) rfl (fun ls hl => ?_)
  obtain ⟨q2, hq2, h⟩ := ob h
  have hxq2 : ∀ (H : Heap) (locs : List Loc) (ce sl : Nat) (ls : Array Slot), CJ G s (RM 17 0 false false G) 0 false false true true G.2.2.2 q2 H locs ce sl → lv_has ls 3 [] → W p l e (RM 17 0 false false G) s m args below meth c H locs ce sl Q (F0 m 47 ls []) := by
    intro H locs ce sl ls hJ hl
    have h := Option.some.inj h
    subst h
    exact hE _ _ _ _ _ _ _ _ _ _ _ _ none hJ (fun h => by cases h) (fun h => by cases h) rfl rfl dX0_lifts_47
  refine lp_ind (P := fun (w1 : Int32 × CM) => ∀ (H : Heap) (locs : List Loc) (ce sl : Nat) (ls : Array Slot), CJ G s (RM 17 0 false false G) 0 false false true true G.2.2.2 w1.2 H locs ce sl → lv_has ls 3 [(0, .ref (gA G 0 0)), (1, .int v1), (2, .int w1.1)] → W p l e (RM 17 0 false false G) s m args below meth c H locs ce sl Q (F0 m 2 ls [])) ?_ _ _ hq2 _ _ _ _ _ hJ (lv_sub hl [1, 2, 0] rfl)
  intro nw1 w1 ihw1 zw1 hzw1 hqw1 H locs ce sl ls hJ hl
  refine lv_iload_n hx hb dX0_lifts_2 rfl (lv_at hl 2 rfl) ?_
  refine lv_aload_n hx hb dX0_lifts_3 rfl (lv_at hl 0 rfl) ?_
  obtain ⟨c3, hc3, hzw1⟩ := ob hzw1
  refine cc_Vt (As := []) (rest := [.int w1.1]) C hJ (metC_members l w1.2 c3 hc3) rfl rfl (show 0 + 0 ≤ 0 from Nat.le_of_ble_eq_true rfl) (cost_ok false true false false _ _ (fun h => by cases h) (fun _ => Or.inr rfl)) (fun h => by cases h) (fun h => by cases h) (cj_recv C hJ 0 0 (ad_s rfl) (Nat.le_of_ble_eq_true rfl) rfl rfl) (cwV 0 hts (lw_V q521 q523 qs7 q109 q524) rfl rfl rfl hdC_members ⟨(Nat.le_of_ble_eq_true rfl), (Nat.le_of_ble_eq_true rfl)⟩) rfl hl.1 rfl (lv_room (Nat.le_of_ble_eq_true rfl)) dX0_lifts_4 (fun H locs hJ => ?_)
  refine lv_icmp_ge (tgt := 47) hx hb dX0_lifts_7 (by decide) (fun hc5 => ?_) (fun hc5 => ?_)
  · have hzw1 := ip hzw1 hc5
    have hzw1 := Option.some.inj hzw1
    subst hzw1
    have hqw1 : _ = q2 := hqw1
    subst hqw1
    exact hxq2 _ _ _ _ _ hJ (lv_sub hl [] rfl)
  · have hzw1 := im hzw1 hc5
    refine lv_aload_n hx hb dX0_lifts_10 rfl (lv_at hl 0 rfl) ?_
    refine cj_gr (v := .ref (gA G 7 20)) C hJ 0 0 4 (ad_s rfl) (Nat.le_of_ble_eq_true rfl) (Nat.le_of_ble_eq_true rfl) rfl rfl (fl_X0_159_0 C) (fun _ _ => rfl) dX0_lifts_11 ?_
    refine lv_iload_n hx hb dX0_lifts_14 rfl (lv_at hl 2 rfl) ?_
    obtain ⟨n6, hn6, hzw1⟩ := ob hzw1
    refine cj_al (v := .ref (gA G 3 (8 * 20 + n6))) C hJ 7 20 (ad_s rfl) rfl rfl hn6 rfl dX0_lifts_15 ?_
    refine lv_iload_n hx hb dX0_lifts_16 rfl (lv_at hl 1 rfl) ?_
    refine lv_aload_n hx hb dX0_lifts_17 rfl (lv_at hl 0 rfl) ?_
    refine cj_gr (v := .ref (gA G 2 0)) C hJ 0 0 2 (ad_s rfl) (Nat.le_of_ble_eq_true rfl) (Nat.le_of_ble_eq_true rfl) rfl rfl (fl_X0_26_0 C) (fun _ _ => rfl) dX0_lifts_18 ?_
    refine cj_gr (v := .ref (gA G 6 3)) C hJ 2 0 5 (ad_s rfl) (Nat.le_of_ble_eq_true rfl) (Nat.le_of_ble_eq_true rfl) rfl rfl (fl_X0_72_2 C) (fun _ _ => rfl) dX0_lifts_21 ?_
    refine lv_iload_n hx hb dX0_lifts_24 rfl (lv_at hl 2 rfl) ?_
    obtain ⟨n7, hn7, hzw1⟩ := ob hzw1
    refine cj_get C hJ 3 (Nat.le_of_ble_eq_true rfl) (fun _ => rfl) q530 ⟨(Nat.le_of_ble_eq_true rfl), (Nat.le_of_ble_eq_true rfl)⟩ hl.1 (Nat.le_of_ble_eq_true rfl) hn7 dX0_lifts_25 (fun H locs hJ => ?_)
    refine cj_castM C hJ hn7 q544 dX0_lifts_28 ?_
    obtain ⟨x8, hx8, hzw1⟩ := ob hzw1
    refine cj_gsort C hJ n7 (fl_X0_192_5 C) hx8 dX0_lifts_31 ?_
    obtain ⟨x9, hx9, hzw1⟩ := ob hzw1
    refine cj_rolls C hJ q834 ⟨(Nat.le_of_ble_eq_true rfl), (Nat.le_of_ble_eq_true rfl)⟩ hl.1 (Nat.le_of_ble_eq_true rfl) hx9 dX0_lifts_34 (fun H locs hJ => ?_)
    refine lv_iadd hx hb dX0_lifts_37 ?_
    obtain ⟨σ10, hσ10, hzw1⟩ := ob hzw1
    refine cj_pi C hJ 3 (8 * 20 + n6) 2 (ad_s rfl) (Nat.le_of_ble_eq_true rfl) (Nat.le_of_ble_eq_true rfl) rfl rfl rfl rfl rfl rfl (fl_X0_201_3 C) hσ10 dX0_lifts_38 (fun H locs hJ => ?_)
    refine lv_iinc (v := (w1.1 + 1)) (lv' := [(2, .int (w1.1 + 1)), (0, .ref (gA G 0 0)), (1, .int v1)]) hx hb dX0_lifts_41 hl (k := 2) rfl rfl (Nat.le_of_ble_eq_true rfl) rfl (fun ls hl => ?_)
    refine lv_goto (tgt := 2) hx hb dX0_lifts_44 (by decide) ?_
    have hzw1 := Option.some.inj hzw1
    subst hzw1
    exact ihw1 _ hqw1 _ _ _ _ _ hJ (lv_sub hl [1, 2, 0] rfl)
def C_peppers (σ : CM) (v1 : Int32) : Option (CM) :=
  (lp (S := Int32 × CM) (T := CM) (fun w1 =>
    (C_members w1.2).bind fun c3 =>
      if c3 ≤ w1.1 then
        some (.inr w1.2)
      else
        (cix w1.2 7 20 w1.1).bind fun n6 =>
        (cget w1.2 3 (8 * 20 + n6) 1).bind fun x7 =>
        (cix w1.2 7 20 w1.1).bind fun n8 =>
        (cget w1.2 3 (8 * 20 + n8) 0).bind fun x9 =>
        (if x9 = v1 then
            some (1 : Int32)
          else
            some (0 : Int32) : Option (Int32)).bind fun q11 =>
        (csz w1.2 3 (8 * 20 + n6) 1 (x7 ^^^ q11)).bind fun σ12 =>
        some (.inl ((w1.1 + 1), σ12))) 2000 ((0 : Int32), σ)).bind fun q2 =>
  some q2
theorem hdC_peppers : yX0_peppers.cls = RX0 ∧ yX0_peppers.cls ≠ "java/lang/invoke/MethodHandle" ∧ yX0_peppers.cls ≠ "java/lang/invoke/VarHandle" ∧ (parseMethodDescriptor yX0_peppers.desc).map (fun d => d.parameters.length) = some 1 := by decide +kernel
set_option maxHeartbeats 4000000 in
theorem metC_peppers (l : Launch) (σ : CM) (v1 : Int32) (res : CM) (h : C_peppers σ v1 = some res) : MetC l yX0_peppers (ws_ yX0_peppers cX0_peppers 3 none) 17 0 false false false false true true (fun G => [.ref (gA G 0 0), .int v1]) σ (fun _ => none) res := by
  refine met_wC (own := RX0) (by decide +kernel) rfl (by simp [cRt]) (fun _ => Nat.le_of_ble_eq_true rfl) (fun G p e s m args below meth c Q hr1 hr2 C hE ls hl hJ => ?_)
  have hx := C.1.1
  have hb := C.1.2.1
  have hown := C.1.2.2.2.1
  have hts := C.1.2.2.2.2
  have hl : lv_has ls 3 [(0, .ref (gA G 0 0)), (1, .int v1)] := hl
  have hJ := CJ.s1 (hr1 rfl) hJ
  have hJ := CJ.s2 (hr2 rfl) hJ
  unfold C_peppers at h
  refine lv_iconst hx hb dX0_peppers_0 kc_0 ?_
  refine lv_istore_n (lv' := [(2, .int (0 : Int32)), (0, .ref (gA G 0 0)), (1, .int v1)]) hx hb dX0_peppers_1 rfl hl (Nat.le_of_ble_eq_true rfl) rfl (fun ls hl => ?_)
  obtain ⟨q2, hq2, h⟩ := ob h
  have hxq2 : ∀ (H : Heap) (locs : List Loc) (ce sl : Nat) (ls : Array Slot), CJ G s (RM 17 0 false false G) 0 false false true true G.2.2.2 q2 H locs ce sl → lv_has ls 3 [] → W p l e (RM 17 0 false false G) s m args below meth c H locs ce sl Q (F0 m 48 ls []) := by
    intro H locs ce sl ls hJ hl
    have h := Option.some.inj h
    subst h
    exact hE _ _ _ _ _ _ _ _ _ _ _ _ none hJ (fun h => by cases h) (fun h => by cases h) rfl rfl dX0_peppers_48
  refine lp_ind (P := fun (w1 : Int32 × CM) => ∀ (H : Heap) (locs : List Loc) (ce sl : Nat) (ls : Array Slot), CJ G s (RM 17 0 false false G) 0 false false true true G.2.2.2 w1.2 H locs ce sl → lv_has ls 3 [(0, .ref (gA G 0 0)), (1, .int v1), (2, .int w1.1)] → W p l e (RM 17 0 false false G) s m args below meth c H locs ce sl Q (F0 m 2 ls [])) ?_ _ _ hq2 _ _ _ _ _ hJ (lv_sub hl [1, 2, 0] rfl)
  intro nw1 w1 ihw1 zw1 hzw1 hqw1 H locs ce sl ls hJ hl
  refine lv_iload_n hx hb dX0_peppers_2 rfl (lv_at hl 2 rfl) ?_
  refine lv_aload_n hx hb dX0_peppers_3 rfl (lv_at hl 0 rfl) ?_
  obtain ⟨c3, hc3, hzw1⟩ := ob hzw1
  refine cc_Vt (As := []) (rest := [.int w1.1]) C hJ (metC_members l w1.2 c3 hc3) rfl rfl (show 0 + 0 ≤ 0 from Nat.le_of_ble_eq_true rfl) (cost_ok false true false false _ _ (fun h => by cases h) (fun _ => Or.inr rfl)) (fun h => by cases h) (fun h => by cases h) (cj_recv C hJ 0 0 (ad_s rfl) (Nat.le_of_ble_eq_true rfl) rfl rfl) (cwV 0 hts (lw_V q521 q523 qs7 q109 q524) rfl rfl rfl hdC_members ⟨(Nat.le_of_ble_eq_true rfl), (Nat.le_of_ble_eq_true rfl)⟩) rfl hl.1 rfl (lv_room (Nat.le_of_ble_eq_true rfl)) dX0_peppers_4 (fun H locs hJ => ?_)
  refine lv_icmp_ge (tgt := 48) hx hb dX0_peppers_7 (by decide) (fun hc5 => ?_) (fun hc5 => ?_)
  · have hzw1 := ip hzw1 hc5
    have hzw1 := Option.some.inj hzw1
    subst hzw1
    have hqw1 : _ = q2 := hqw1
    subst hqw1
    exact hxq2 _ _ _ _ _ hJ (lv_sub hl [] rfl)
  · have hzw1 := im hzw1 hc5
    refine lv_aload_n hx hb dX0_peppers_10 rfl (lv_at hl 0 rfl) ?_
    refine cj_gr (v := .ref (gA G 7 20)) C hJ 0 0 4 (ad_s rfl) (Nat.le_of_ble_eq_true rfl) (Nat.le_of_ble_eq_true rfl) rfl rfl (fl_X0_159_0 C) (fun _ _ => rfl) dX0_peppers_11 ?_
    refine lv_iload_n hx hb dX0_peppers_14 rfl (lv_at hl 2 rfl) ?_
    obtain ⟨n6, hn6, hzw1⟩ := ob hzw1
    refine cj_al (v := .ref (gA G 3 (8 * 20 + n6))) C hJ 7 20 (ad_s rfl) rfl rfl hn6 rfl dX0_peppers_15 ?_
    refine lv_dup hx hb dX0_peppers_16 rfl ?_
    obtain ⟨x7, hx7, hzw1⟩ := ob hzw1
    refine cj_gi C hJ 3 (8 * 20 + n6) 1 (ad_s rfl) (Nat.le_of_ble_eq_true rfl) (Nat.le_of_ble_eq_true rfl) rfl rfl rfl (fl_X0_204_3 C) hx7 dX0_peppers_17 ?_
    refine lv_aload_n hx hb dX0_peppers_20 rfl (lv_at hl 0 rfl) ?_
    refine cj_gr (v := .ref (gA G 7 20)) C hJ 0 0 4 (ad_s rfl) (Nat.le_of_ble_eq_true rfl) (Nat.le_of_ble_eq_true rfl) rfl rfl (fl_X0_159_0 C) (fun _ _ => rfl) dX0_peppers_21 ?_
    refine lv_iload_n hx hb dX0_peppers_24 rfl (lv_at hl 2 rfl) ?_
    obtain ⟨n8, hn8, hzw1⟩ := ob hzw1
    refine cj_al (v := .ref (gA G 3 (8 * 20 + n8))) C hJ 7 20 (ad_s rfl) rfl rfl hn8 rfl dX0_peppers_25 ?_
    obtain ⟨x9, hx9, hzw1⟩ := ob hzw1
    refine cj_gi C hJ 3 (8 * 20 + n8) 0 (ad_s rfl) (Nat.le_of_ble_eq_true rfl) (Nat.le_of_ble_eq_true rfl) rfl rfl rfl (fl_X0_208_3 C) hx9 dX0_peppers_26 ?_
    refine lv_iload_n hx hb dX0_peppers_29 rfl (lv_at hl 1 rfl) ?_
    obtain ⟨q11, hq11, hzw1⟩ := ob hzw1
    have hjq11 : ∀ (H : Heap) (locs : List Loc) (ce sl : Nat) (ls : Array Slot), CJ G s (RM 17 0 false false G) 0 false false true true G.2.2.2 w1.2 H locs ce sl → lv_has ls 3 [(0, .ref (gA G 0 0)), (1, .int v1), (2, .int w1.1)] → W p l e (RM 17 0 false false G) s m args below meth c H locs ce sl Q (F0 m 38 ls [.int q11, .int x7, .ref (gA G 3 (8 * 20 + n6))]) := by
      intro H locs ce sl ls hJ hl
      refine lv_ixor hx hb dX0_peppers_38 ?_
      obtain ⟨σ12, hσ12, hzw1⟩ := ob hzw1
      refine cj_pz C hJ 3 (8 * 20 + n6) 1 (ad_s rfl) (Nat.le_of_ble_eq_true rfl) (Nat.le_of_ble_eq_true rfl) rfl rfl rfl rfl rfl rfl (fl_X0_204_3 C) hσ12 dX0_peppers_39 (fun H locs hJ => ?_)
      refine lv_iinc (v := (w1.1 + 1)) (lv' := [(2, .int (w1.1 + 1)), (0, .ref (gA G 0 0)), (1, .int v1)]) hx hb dX0_peppers_42 hl (k := 2) rfl rfl (Nat.le_of_ble_eq_true rfl) rfl (fun ls hl => ?_)
      refine lv_goto (tgt := 2) hx hb dX0_peppers_45 (by decide) ?_
      have hzw1 := Option.some.inj hzw1
      subst hzw1
      exact ihw1 _ hqw1 _ _ _ _ _ hJ (lv_sub hl [1, 2, 0] rfl)
    refine lv_icmp_ne (tgt := 37) hx hb dX0_peppers_30 (by decide) (fun hc10 => ?_) (fun hc10 => ?_)
    · have hq11 := im hq11 hc10
      refine lv_iconst hx hb dX0_peppers_37 kc_0 ?_
      have hq11 := Option.some.inj hq11
      subst hq11
      exact hjq11 _ _ _ _ _ hJ (lv_sub hl [0, 1, 2] rfl)
    · have hq11 := ip hq11 hc10
      refine lv_iconst hx hb dX0_peppers_33 kc_1 ?_
      refine lv_goto (tgt := 38) hx hb dX0_peppers_34 (by decide) ?_
      have hq11 := Option.some.inj hq11
      subst hq11
      exact hjq11 _ _ _ _ _ hJ (lv_sub hl [0, 1, 2] rfl)
def C_happens (σ : CM) (v1 : Int32) (v2 : Int32) (v3 : Int32) : Option (CM) :=
  if v1 = 0 then
    (C_lifts σ v2).bind fun c1 =>
    some c1
  else
  if v1 = 1 then
    (C_peppers σ v3).bind fun c3 =>
    some c3
  else
  if v1 = 2 then
    (C_wets σ (-2 : Int32)).bind fun c5 =>
    some c5
  else
  (C_wets σ (3 : Int32)).bind fun c7 =>
  some c7
theorem hdC_happens : yX0_happens.cls = RX0 ∧ yX0_happens.cls ≠ "java/lang/invoke/MethodHandle" ∧ yX0_happens.cls ≠ "java/lang/invoke/VarHandle" ∧ (parseMethodDescriptor yX0_happens.desc).map (fun d => d.parameters.length) = some 3 := by decide +kernel
set_option maxHeartbeats 4000000 in
theorem metC_happens (l : Launch) (σ : CM) (v1 : Int32) (v2 : Int32) (v3 : Int32) (res : CM) (h : C_happens σ v1 v2 v3 = some res) : MetC l yX0_happens (ws_ yX0_happens cX0_happens 4 none) 18 0 false false false false true true (fun G => [.ref (gA G 0 0), .int v1, .int v2, .int v3]) σ (fun _ => none) res := by
  refine met_wC (own := RX0) (by decide +kernel) rfl (by simp [cRt]) (fun _ => Nat.le_of_ble_eq_true rfl) (fun G p e s m args below meth c Q hr1 hr2 C hE ls hl hJ => ?_)
  have hx := C.1.1
  have hb := C.1.2.1
  have hown := C.1.2.2.2.1
  have hts := C.1.2.2.2.2
  have hl : lv_has ls 4 [(0, .ref (gA G 0 0)), (1, .int v1), (2, .int v2), (3, .int v3)] := hl
  have hJ := CJ.s1 (hr1 rfl) hJ
  have hJ := CJ.s2 (hr2 rfl) hJ
  unfold C_happens at h
  refine lv_iload_n hx hb dX0_happens_0 rfl (lv_at hl 1 rfl) ?_
  by_cases hc9_0 : v1 = 0
  · have h := ip h hc9_0
    refine lv_tableIn (tgt := 28) (off := 27) hx hb dX0_happens_1 (by rw [hc9_0]; decide) (by rw [hc9_0]; decide) (by rw [hc9_0]; rfl) (by decide) ?_
    refine lv_aload_n hx hb dX0_happens_28 rfl (lv_at hl 0 rfl) ?_
    refine lv_iload_n hx hb dX0_happens_29 rfl (lv_at hl 2 rfl) ?_
    obtain ⟨c1, hc1, h⟩ := ob h
    refine cc_Vt (As := [.int v2]) (rest := []) C hJ (metC_lifts l σ v2 c1 hc1) rfl rfl (show 0 + 0 ≤ 0 from Nat.le_of_ble_eq_true rfl) (cost_ok false false false false _ _ (fun h => by cases h) (fun h => by cases h)) (fun _ => rfl) (fun _ => rfl) (cj_recv C hJ 0 0 (ad_s rfl) (Nat.le_of_ble_eq_true rfl) rfl rfl) (cwV 1 hts (lw_V q830 q832 qs13 q109 q833) rfl rfl rfl hdC_lifts ⟨(Nat.le_of_ble_eq_true rfl), (Nat.le_of_ble_eq_true rfl)⟩) rfl hl.1 rfl (lv_room (Nat.le_of_ble_eq_true rfl)) dX0_happens_30 (fun H locs hJ => ?_)
    refine lv_goto (tgt := 58) hx hb dX0_happens_33 (by decide) ?_
    have h := Option.some.inj h
    subst h
    exact hE _ _ _ _ _ _ _ _ _ _ _ _ none hJ (fun h => by cases h) (fun h => by cases h) rfl rfl dX0_happens_58
  have h := im h hc9_0
  by_cases hc9_1 : v1 = 1
  · have h := ip h hc9_1
    refine lv_tableIn (tgt := 36) (off := 35) hx hb dX0_happens_1 (by rw [hc9_1]; decide) (by rw [hc9_1]; decide) (by rw [hc9_1]; rfl) (by decide) ?_
    refine lv_aload_n hx hb dX0_happens_36 rfl (lv_at hl 0 rfl) ?_
    refine lv_iload_n hx hb dX0_happens_37 rfl (lv_at hl 3 rfl) ?_
    obtain ⟨c3, hc3, h⟩ := ob h
    refine cc_Vt (As := [.int v3]) (rest := []) C hJ (metC_peppers l σ v3 c3 hc3) rfl rfl (show 0 + 0 ≤ 0 from Nat.le_of_ble_eq_true rfl) (cost_ok false false false false _ _ (fun h => by cases h) (fun h => by cases h)) (fun _ => rfl) (fun _ => rfl) (cj_recv C hJ 0 0 (ad_s rfl) (Nat.le_of_ble_eq_true rfl) rfl rfl) (cwV 1 hts (lw_V q847 q849 qs14 q109 q850) rfl rfl rfl hdC_peppers ⟨(Nat.le_of_ble_eq_true rfl), (Nat.le_of_ble_eq_true rfl)⟩) rfl hl.1 rfl (lv_room (Nat.le_of_ble_eq_true rfl)) dX0_happens_38 (fun H locs hJ => ?_)
    refine lv_goto (tgt := 58) hx hb dX0_happens_41 (by decide) ?_
    have h := Option.some.inj h
    subst h
    exact hE _ _ _ _ _ _ _ _ _ _ _ _ none hJ (fun h => by cases h) (fun h => by cases h) rfl rfl dX0_happens_58
  have h := im h hc9_1
  by_cases hc9_2 : v1 = 2
  · have h := ip h hc9_2
    refine lv_tableIn (tgt := 44) (off := 43) hx hb dX0_happens_1 (by rw [hc9_2]; decide) (by rw [hc9_2]; decide) (by rw [hc9_2]; rfl) (by decide) ?_
    refine lv_aload_n hx hb dX0_happens_44 rfl (lv_at hl 0 rfl) ?_
    refine lv_bipush hx hb dX0_happens_45 kb_m2 ?_
    obtain ⟨c5, hc5, h⟩ := ob h
    refine cc_Vt (As := [.int (-2 : Int32)]) (rest := []) C hJ (metC_wets l σ (-2 : Int32) c5 hc5) rfl rfl (show 0 + 0 ≤ 0 from Nat.le_of_ble_eq_true rfl) (cost_ok false false false false _ _ (fun h => by cases h) (fun h => by cases h)) (fun h => by cases h) (fun h => by cases h) (cj_recv C hJ 0 0 (ad_s rfl) (Nat.le_of_ble_eq_true rfl) rfl rfl) (cwV 1 hts (lw_V q851 q853 qs15 q109 q854) rfl rfl rfl hdC_wets ⟨(Nat.le_of_ble_eq_true rfl), (Nat.le_of_ble_eq_true rfl)⟩) rfl hl.1 rfl (lv_room (Nat.le_of_ble_eq_true rfl)) dX0_happens_47 (fun H locs hJ => ?_)
    refine lv_goto (tgt := 58) hx hb dX0_happens_50 (by decide) ?_
    have h := Option.some.inj h
    subst h
    exact hE _ _ _ _ _ _ _ _ _ _ _ _ none hJ (fun h => by cases h) (fun h => by cases h) rfl rfl dX0_happens_58
  have h := im h hc9_2
  have hthc9_0 := lv_neT (a := 0) hc9_0 (by decide)
  have hthc9_1 := lv_neT (a := 1) hc9_1 (by decide)
  have hthc9_2 := lv_neT (a := 2) hc9_2 (by decide)
  refine lv_tableOut (tgt := 53) hx hb dX0_happens_1 (by omega) (by decide) ?_
  refine lv_aload_n hx hb dX0_happens_53 rfl (lv_at hl 0 rfl) ?_
  refine lv_iconst hx hb dX0_happens_54 kc_3 ?_
  obtain ⟨c7, hc7, h⟩ := ob h
  refine cc_Vt (As := [.int (3 : Int32)]) (rest := []) C hJ (metC_wets l σ (3 : Int32) c7 hc7) rfl rfl (show 0 + 0 ≤ 0 from Nat.le_of_ble_eq_true rfl) (cost_ok false false false false _ _ (fun h => by cases h) (fun h => by cases h)) (fun h => by cases h) (fun h => by cases h) (cj_recv C hJ 0 0 (ad_s rfl) (Nat.le_of_ble_eq_true rfl) rfl rfl) (cwV 1 hts (lw_V q851 q853 qs15 q109 q854) rfl rfl rfl hdC_wets ⟨(Nat.le_of_ble_eq_true rfl), (Nat.le_of_ble_eq_true rfl)⟩) rfl hl.1 rfl (lv_room (Nat.le_of_ble_eq_true rfl)) dX0_happens_55 (fun H locs hJ => ?_)
  have h := Option.some.inj h
  subst h
  exact hE _ _ _ _ _ _ _ _ _ _ _ _ none hJ (fun h => by cases h) (fun h => by cases h) rfl rfl dX0_happens_58
def C_speaks (σ : CM) (v1 : Int32) : Option (CM) :=
  (lp (S := Int32) (T := (Unit) ⊕ (CM)) (fun w1 =>
    (C_members σ).bind fun c3 =>
      if c3 ≤ w1 then
        some (.inr (.inl ()))
      else
        if w1 = v1 then
          some (.inl (w1 + 1))
        else
          (cix σ 7 20 w1).bind fun n7 =>
          (cget σ 3 (8 * 20 + n7) 3).bind fun x8 =>
          if x8 = 0 then
            (cix σ 7 20 w1).bind fun n10 =>
            (cget σ 3 (8 * 20 + n10) 0).bind fun x11 =>
            (cix σ 7 20 v1).bind fun n12 =>
            (cget σ 3 (8 * 20 + n12) 0).bind fun x13 =>
            if x11 = x13 then
              (cix σ 7 20 w1).bind fun n15 =>
              (cix σ 7 20 w1).bind fun n16 =>
              (cget σ 3 (8 * 20 + n16) 1).bind fun x17 =>
              (if x17 = 0 then
                  some (1 : Int32)
                else
                  some (0 : Int32) : Option (Int32)).bind fun q19 =>
              (csz σ 3 (8 * 20 + n15) 1 q19).bind fun σ20 =>
              (cix σ20 7 20 v1).bind fun n21 =>
              (cget σ20 3 (8 * 20 + n21) 4).bind fun x22 =>
              (cst σ20 3 (8 * 20 + n21) 4 (x22 + (1 : Int32))).bind fun σ23 =>
              some (.inr (.inr σ23))
            else
              some (.inl (w1 + 1))
          else
            some (.inl (w1 + 1))) 2000 (0 : Int32)).bind fun q2 =>
  lpo q2 (fun q2' =>
    some σ) (fun r => some r)
theorem hdC_speaks : yX0_speaks.cls = RX0 ∧ yX0_speaks.cls ≠ "java/lang/invoke/MethodHandle" ∧ yX0_speaks.cls ≠ "java/lang/invoke/VarHandle" ∧ (parseMethodDescriptor yX0_speaks.desc).map (fun d => d.parameters.length) = some 1 := by decide +kernel
set_option maxHeartbeats 4000000 in
theorem metC_speaks (l : Launch) (σ : CM) (v1 : Int32) (res : CM) (h : C_speaks σ v1 = some res) : MetC l yX0_speaks (ws_ yX0_speaks cX0_speaks 3 none) 17 0 false false false false true true (fun G => [.ref (gA G 0 0), .int v1]) σ (fun _ => none) res := by
  refine met_wC (own := RX0) (by decide +kernel) rfl (by simp [cRt]) (fun _ => Nat.le_of_ble_eq_true rfl) (fun G p e s m args below meth c Q hr1 hr2 C hE ls hl hJ => ?_)
  have hx := C.1.1
  have hb := C.1.2.1
  have hown := C.1.2.2.2.1
  have hts := C.1.2.2.2.2
  have hl : lv_has ls 3 [(0, .ref (gA G 0 0)), (1, .int v1)] := hl
  have hJ := CJ.s1 (hr1 rfl) hJ
  have hJ := CJ.s2 (hr2 rfl) hJ
  unfold C_speaks at h
  refine lv_iconst hx hb dX0_speaks_0 kc_0 ?_
  refine lv_istore_n (lv' := [(2, .int (0 : Int32)), (0, .ref (gA G 0 0)), (1, .int v1)]) hx hb dX0_speaks_1 rfl hl (Nat.le_of_ble_eq_true rfl) rfl (fun ls hl => ?_)
  obtain ⟨q2, hq2, h⟩ := ob h
  have hxq2 : ∀ q2', q2 = .inl q2' → ∀ (H : Heap) (locs : List Loc) (ce sl : Nat) (ls : Array Slot), CJ G s (RM 17 0 false false G) 0 false false true true G.2.2.2 σ H locs ce sl → lv_has ls 3 [] → W p l e (RM 17 0 false false G) s m args below meth c H locs ce sl Q (F0 m 99 ls []) := by
    intro q2' heq2
    subst heq2
    have h := lpo_l h
    intro H locs ce sl ls hJ hl
    have h := Option.some.inj h
    subst h
    exact hE _ _ _ _ _ _ _ _ _ _ _ _ none hJ (fun h => by cases h) (fun h => by cases h) rfl rfl dX0_speaks_99
  refine lp_ind (P := fun (w1 : Int32) => ∀ (H : Heap) (locs : List Loc) (ce sl : Nat) (ls : Array Slot), CJ G s (RM 17 0 false false G) 0 false false true true G.2.2.2 σ H locs ce sl → lv_has ls 3 [(0, .ref (gA G 0 0)), (1, .int v1), (2, .int w1)] → W p l e (RM 17 0 false false G) s m args below meth c H locs ce sl Q (F0 m 2 ls [])) ?_ _ _ hq2 _ _ _ _ _ hJ (lv_sub hl [1, 2, 0] rfl)
  intro nw1 w1 ihw1 zw1 hzw1 hqw1 H locs ce sl ls hJ hl
  refine lv_iload_n hx hb dX0_speaks_2 rfl (lv_at hl 2 rfl) ?_
  refine lv_aload_n hx hb dX0_speaks_3 rfl (lv_at hl 0 rfl) ?_
  obtain ⟨c3, hc3, hzw1⟩ := ob hzw1
  refine cc_Vt (As := []) (rest := [.int w1]) C hJ (metC_members l σ c3 hc3) rfl rfl (show 0 + 0 ≤ 0 from Nat.le_of_ble_eq_true rfl) (cost_ok false true false false _ _ (fun h => by cases h) (fun _ => Or.inr rfl)) (fun h => by cases h) (fun h => by cases h) (cj_recv C hJ 0 0 (ad_s rfl) (Nat.le_of_ble_eq_true rfl) rfl rfl) (cwV 0 hts (lw_V q521 q523 qs7 q109 q524) rfl rfl rfl hdC_members ⟨(Nat.le_of_ble_eq_true rfl), (Nat.le_of_ble_eq_true rfl)⟩) rfl hl.1 rfl (lv_room (Nat.le_of_ble_eq_true rfl)) dX0_speaks_4 (fun H locs hJ => ?_)
  refine lv_icmp_ge (tgt := 99) hx hb dX0_speaks_7 (by decide) (fun hc5 => ?_) (fun hc5 => ?_)
  · have hzw1 := ip hzw1 hc5
    have hzw1 := Option.some.inj hzw1
    subst hzw1
    have hqw1 : _ = q2 := hqw1
    subst hqw1
    exact hxq2 _ rfl _ _ _ _ _ hJ (lv_sub hl [] rfl)
  · have hzw1 := im hzw1 hc5
    refine lv_iload_n hx hb dX0_speaks_10 rfl (lv_at hl 2 rfl) ?_
    refine lv_iload_n hx hb dX0_speaks_11 rfl (lv_at hl 1 rfl) ?_
    refine lv_icmp_eq (tgt := 93) hx hb dX0_speaks_12 (by decide) (fun hc6 => ?_) (fun hc6 => ?_)
    · have hzw1 := ip hzw1 hc6
      refine lv_iinc (v := (w1 + 1)) (lv' := [(2, .int (w1 + 1)), (0, .ref (gA G 0 0)), (1, .int v1)]) hx hb dX0_speaks_93 hl (k := 2) rfl rfl (Nat.le_of_ble_eq_true rfl) rfl (fun ls hl => ?_)
      refine lv_goto (tgt := 2) hx hb dX0_speaks_96 (by decide) ?_
      have hzw1 := Option.some.inj hzw1
      subst hzw1
      exact ihw1 _ hqw1 _ _ _ _ _ hJ (lv_sub hl [1, 2, 0] rfl)
    · have hzw1 := im hzw1 hc6
      refine lv_aload_n hx hb dX0_speaks_15 rfl (lv_at hl 0 rfl) ?_
      refine cj_gr (v := .ref (gA G 7 20)) C hJ 0 0 4 (ad_s rfl) (Nat.le_of_ble_eq_true rfl) (Nat.le_of_ble_eq_true rfl) rfl rfl (fl_X0_159_0 C) (fun _ _ => rfl) dX0_speaks_16 ?_
      refine lv_iload_n hx hb dX0_speaks_19 rfl (lv_at hl 2 rfl) ?_
      obtain ⟨n7, hn7, hzw1⟩ := ob hzw1
      refine cj_al (v := .ref (gA G 3 (8 * 20 + n7))) C hJ 7 20 (ad_s rfl) rfl rfl hn7 rfl dX0_speaks_20 ?_
      obtain ⟨x8, hx8, hzw1⟩ := ob hzw1
      refine cj_gi C hJ 3 (8 * 20 + n7) 3 (ad_s rfl) (Nat.le_of_ble_eq_true rfl) (Nat.le_of_ble_eq_true rfl) rfl rfl rfl (fl_X0_232_3 C) hx8 dX0_speaks_21 ?_
      refine lv_if_ne (tgt := 93) hx hb dX0_speaks_24 (by decide) (fun hc9 => ?_) (fun hc9 => ?_)
      · have hzw1 := im hzw1 hc9
        refine lv_iinc (v := (w1 + 1)) (lv' := [(2, .int (w1 + 1)), (0, .ref (gA G 0 0)), (1, .int v1)]) hx hb dX0_speaks_93 hl (k := 2) rfl rfl (Nat.le_of_ble_eq_true rfl) rfl (fun ls hl => ?_)
        refine lv_goto (tgt := 2) hx hb dX0_speaks_96 (by decide) ?_
        have hzw1 := Option.some.inj hzw1
        subst hzw1
        exact ihw1 _ hqw1 _ _ _ _ _ hJ (lv_sub hl [1, 2, 0] rfl)
      · have hzw1 := ip hzw1 hc9
        refine lv_aload_n hx hb dX0_speaks_27 rfl (lv_at hl 0 rfl) ?_
        refine cj_gr (v := .ref (gA G 7 20)) C hJ 0 0 4 (ad_s rfl) (Nat.le_of_ble_eq_true rfl) (Nat.le_of_ble_eq_true rfl) rfl rfl (fl_X0_159_0 C) (fun _ _ => rfl) dX0_speaks_28 ?_
        refine lv_iload_n hx hb dX0_speaks_31 rfl (lv_at hl 2 rfl) ?_
        obtain ⟨n10, hn10, hzw1⟩ := ob hzw1
        refine cj_al (v := .ref (gA G 3 (8 * 20 + n10))) C hJ 7 20 (ad_s rfl) rfl rfl hn10 rfl dX0_speaks_32 ?_
        obtain ⟨x11, hx11, hzw1⟩ := ob hzw1
        refine cj_gi C hJ 3 (8 * 20 + n10) 0 (ad_s rfl) (Nat.le_of_ble_eq_true rfl) (Nat.le_of_ble_eq_true rfl) rfl rfl rfl (fl_X0_208_3 C) hx11 dX0_speaks_33 ?_
        refine lv_aload_n hx hb dX0_speaks_36 rfl (lv_at hl 0 rfl) ?_
        refine cj_gr (v := .ref (gA G 7 20)) C hJ 0 0 4 (ad_s rfl) (Nat.le_of_ble_eq_true rfl) (Nat.le_of_ble_eq_true rfl) rfl rfl (fl_X0_159_0 C) (fun _ _ => rfl) dX0_speaks_37 ?_
        refine lv_iload_n hx hb dX0_speaks_40 rfl (lv_at hl 1 rfl) ?_
        obtain ⟨n12, hn12, hzw1⟩ := ob hzw1
        refine cj_al (v := .ref (gA G 3 (8 * 20 + n12))) C hJ 7 20 (ad_s rfl) rfl rfl hn12 rfl dX0_speaks_41 ?_
        obtain ⟨x13, hx13, hzw1⟩ := ob hzw1
        refine cj_gi C hJ 3 (8 * 20 + n12) 0 (ad_s rfl) (Nat.le_of_ble_eq_true rfl) (Nat.le_of_ble_eq_true rfl) rfl rfl rfl (fl_X0_208_3 C) hx13 dX0_speaks_42 ?_
        refine lv_icmp_eq (tgt := 51) hx hb dX0_speaks_45 (by decide) (fun hc14 => ?_) (fun hc14 => ?_)
        · have hzw1 := ip hzw1 hc14
          refine lv_aload_n hx hb dX0_speaks_51 rfl (lv_at hl 0 rfl) ?_
          refine cj_gr (v := .ref (gA G 7 20)) C hJ 0 0 4 (ad_s rfl) (Nat.le_of_ble_eq_true rfl) (Nat.le_of_ble_eq_true rfl) rfl rfl (fl_X0_159_0 C) (fun _ _ => rfl) dX0_speaks_52 ?_
          refine lv_iload_n hx hb dX0_speaks_55 rfl (lv_at hl 2 rfl) ?_
          obtain ⟨n15, hn15, hzw1⟩ := ob hzw1
          refine cj_al (v := .ref (gA G 3 (8 * 20 + n15))) C hJ 7 20 (ad_s rfl) rfl rfl hn15 rfl dX0_speaks_56 ?_
          refine lv_aload_n hx hb dX0_speaks_57 rfl (lv_at hl 0 rfl) ?_
          refine cj_gr (v := .ref (gA G 7 20)) C hJ 0 0 4 (ad_s rfl) (Nat.le_of_ble_eq_true rfl) (Nat.le_of_ble_eq_true rfl) rfl rfl (fl_X0_159_0 C) (fun _ _ => rfl) dX0_speaks_58 ?_
          refine lv_iload_n hx hb dX0_speaks_61 rfl (lv_at hl 2 rfl) ?_
          obtain ⟨n16, hn16, hzw1⟩ := ob hzw1
          refine cj_al (v := .ref (gA G 3 (8 * 20 + n16))) C hJ 7 20 (ad_s rfl) rfl rfl hn16 rfl dX0_speaks_62 ?_
          obtain ⟨x17, hx17, hzw1⟩ := ob hzw1
          refine cj_gi C hJ 3 (8 * 20 + n16) 1 (ad_s rfl) (Nat.le_of_ble_eq_true rfl) (Nat.le_of_ble_eq_true rfl) rfl rfl rfl (fl_X0_204_3 C) hx17 dX0_speaks_63 ?_
          obtain ⟨q19, hq19, hzw1⟩ := ob hzw1
          have hjq19 : ∀ (H : Heap) (locs : List Loc) (ce sl : Nat) (ls : Array Slot), CJ G s (RM 17 0 false false G) 0 false false true true G.2.2.2 σ H locs ce sl → lv_has ls 3 [(0, .ref (gA G 0 0)), (1, .int v1)] → W p l e (RM 17 0 false false G) s m args below meth c H locs ce sl Q (F0 m 74 ls [.int q19, .ref (gA G 3 (8 * 20 + n15))]) := by
            intro H locs ce sl ls hJ hl
            obtain ⟨σ20, hσ20, hzw1⟩ := ob hzw1
            refine cj_pz C hJ 3 (8 * 20 + n15) 1 (ad_s rfl) (Nat.le_of_ble_eq_true rfl) (Nat.le_of_ble_eq_true rfl) rfl rfl rfl rfl rfl rfl (fl_X0_204_3 C) hσ20 dX0_speaks_74 (fun H locs hJ => ?_)
            refine lv_aload_n hx hb dX0_speaks_77 rfl (lv_at hl 0 rfl) ?_
            refine cj_gr (v := .ref (gA G 7 20)) C hJ 0 0 4 (ad_s rfl) (Nat.le_of_ble_eq_true rfl) (Nat.le_of_ble_eq_true rfl) rfl rfl (fl_X0_159_0 C) (fun _ _ => rfl) dX0_speaks_78 ?_
            refine lv_iload_n hx hb dX0_speaks_81 rfl (lv_at hl 1 rfl) ?_
            obtain ⟨n21, hn21, hzw1⟩ := ob hzw1
            refine cj_al (v := .ref (gA G 3 (8 * 20 + n21))) C hJ 7 20 (ad_s rfl) rfl rfl hn21 rfl dX0_speaks_82 ?_
            refine lv_dup hx hb dX0_speaks_83 rfl ?_
            obtain ⟨x22, hx22, hzw1⟩ := ob hzw1
            refine cj_gi C hJ 3 (8 * 20 + n21) 4 (ad_s rfl) (Nat.le_of_ble_eq_true rfl) (Nat.le_of_ble_eq_true rfl) rfl rfl rfl (fl_X0_235_3 C) hx22 dX0_speaks_84 ?_
            refine lv_iconst hx hb dX0_speaks_87 kc_1 ?_
            refine lv_iadd hx hb dX0_speaks_88 ?_
            obtain ⟨σ23, hσ23, hzw1⟩ := ob hzw1
            refine cj_pi C hJ 3 (8 * 20 + n21) 4 (ad_s rfl) (Nat.le_of_ble_eq_true rfl) (Nat.le_of_ble_eq_true rfl) rfl rfl rfl rfl rfl rfl (fl_X0_235_3 C) hσ23 dX0_speaks_89 (fun H locs hJ => ?_)
            have hzw1 := Option.some.inj hzw1
            subst hzw1
            have hqw1 : _ = q2 := hqw1
            subst hqw1
            have h := lpo_r h
            have h := Option.some.inj h
            subst h
            exact hE _ _ _ _ _ _ _ _ _ _ _ _ none hJ (fun h => by cases h) (fun h => by cases h) rfl rfl dX0_speaks_92
          refine lv_if_ne (tgt := 73) hx hb dX0_speaks_66 (by decide) (fun hc18 => ?_) (fun hc18 => ?_)
          · have hq19 := im hq19 hc18
            refine lv_iconst hx hb dX0_speaks_73 kc_0 ?_
            have hq19 := Option.some.inj hq19
            subst hq19
            exact hjq19 _ _ _ _ _ hJ (lv_sub hl [0, 1] rfl)
          · have hq19 := ip hq19 hc18
            refine lv_iconst hx hb dX0_speaks_69 kc_1 ?_
            refine lv_goto (tgt := 74) hx hb dX0_speaks_70 (by decide) ?_
            have hq19 := Option.some.inj hq19
            subst hq19
            exact hjq19 _ _ _ _ _ hJ (lv_sub hl [0, 1] rfl)
        · have hzw1 := im hzw1 hc14
          refine lv_goto (tgt := 93) hx hb dX0_speaks_48 (by decide) ?_
          refine lv_iinc (v := (w1 + 1)) (lv' := [(2, .int (w1 + 1)), (0, .ref (gA G 0 0)), (1, .int v1)]) hx hb dX0_speaks_93 hl (k := 2) rfl rfl (Nat.le_of_ble_eq_true rfl) rfl (fun ls hl => ?_)
          refine lv_goto (tgt := 2) hx hb dX0_speaks_96 (by decide) ?_
          have hzw1 := Option.some.inj hzw1
          subst hzw1
          exact ihw1 _ hqw1 _ _ _ _ _ hJ (lv_sub hl [1, 2, 0] rfl)
def C_goes (σ : CM) (v1 : Int32) (v2 : Int32) : Option (CM) :=
  (cix σ 7 20 v1).bind fun n1 =>
  (cget σ 3 (8 * 20 + n1) 1).bind fun x2 =>
  if x2 = 0 then
    some σ
  else
    (cix σ 7 20 v1).bind fun n4 =>
    (cget σ 3 (8 * 20 + n4) 3).bind fun x5 =>
    if x5 = 0 then
      (lget σ 3 v1).bind fun n7 =>
      (cget σ 5 n7 0).bind fun x8 =>
      (ssteps x8.toNatClampNeg v2).bind fun x9 =>
      (lp (S := Int32 × CM) (T := (CM) ⊕ (CM)) (fun w10 =>
        if w10.1 ≤ 0 then
            some (.inr (.inl w10.2))
          else
            (cix w10.2 7 20 v1).bind fun n13 =>
            (cget w10.2 3 (8 * 20 + n13) 0).bind fun x14 =>
            (C_dampest w10.2 x14).bind fun c15 =>
            (cix w10.2 7 20 v1).bind fun n17 =>
            (cget w10.2 3 (8 * 20 + n17) 0).bind fun x18 =>
            if c15 = x18 then
              some (.inr (.inr w10.2))
            else
              (cix w10.2 7 20 v1).bind fun n20 =>
              (cst w10.2 3 (8 * 20 + n20) 0 c15).bind fun σ21 =>
              (cix σ21 7 20 v1).bind fun n22 =>
              (csz σ21 3 (8 * 20 + n22) 5 (1 : Int32)).bind fun σ23 =>
              (C_speaks σ23 v1).bind fun c24 =>
              some (.inl ((w10.1 + (-1)), c24))) 2000 (x9, σ)).bind fun q11 =>
      lpo q11 (fun q11' =>
        some q11') (fun r => some r)
    else
      some σ
theorem hdC_goes : yX0_goes.cls = RX0 ∧ yX0_goes.cls ≠ "java/lang/invoke/MethodHandle" ∧ yX0_goes.cls ≠ "java/lang/invoke/VarHandle" ∧ (parseMethodDescriptor yX0_goes.desc).map (fun d => d.parameters.length) = some 2 := by decide +kernel
set_option maxHeartbeats 4000000 in
theorem metC_goes (l : Launch) (σ : CM) (v1 : Int32) (v2 : Int32) (res : CM) (h : C_goes σ v1 v2 = some res) : MetC l yX0_goes (ws_ yX0_goes cX0_goes 5 none) 18 0 false false false false true true (fun G => [.ref (gA G 0 0), .int v1, .int v2]) σ (fun _ => none) res := by
  refine met_wC (own := RX0) (by decide +kernel) rfl (by simp [cRt]) (fun _ => Nat.le_of_ble_eq_true rfl) (fun G p e s m args below meth c Q hr1 hr2 C hE ls hl hJ => ?_)
  have hx := C.1.1
  have hb := C.1.2.1
  have hown := C.1.2.2.2.1
  have hts := C.1.2.2.2.2
  have hl : lv_has ls 5 [(0, .ref (gA G 0 0)), (1, .int v1), (2, .int v2)] := hl
  have hJ := CJ.s1 (hr1 rfl) hJ
  have hJ := CJ.s2 (hr2 rfl) hJ
  unfold C_goes at h
  refine lv_aload_n hx hb dX0_goes_0 rfl (lv_at hl 0 rfl) ?_
  refine cj_gr (v := .ref (gA G 7 20)) C hJ 0 0 4 (ad_s rfl) (Nat.le_of_ble_eq_true rfl) (Nat.le_of_ble_eq_true rfl) rfl rfl (fl_X0_159_0 C) (fun _ _ => rfl) dX0_goes_1 ?_
  refine lv_iload_n hx hb dX0_goes_4 rfl (lv_at hl 1 rfl) ?_
  obtain ⟨n1, hn1, h⟩ := ob h
  refine cj_al (v := .ref (gA G 3 (8 * 20 + n1))) C hJ 7 20 (ad_s rfl) rfl rfl hn1 rfl dX0_goes_5 ?_
  obtain ⟨x2, hx2, h⟩ := ob h
  refine cj_gi C hJ 3 (8 * 20 + n1) 1 (ad_s rfl) (Nat.le_of_ble_eq_true rfl) (Nat.le_of_ble_eq_true rfl) rfl rfl rfl (fl_X0_204_3 C) hx2 dX0_goes_6 ?_
  refine lv_if_eq (tgt := 24) hx hb dX0_goes_9 (by decide) (fun hc3 => ?_) (fun hc3 => ?_)
  · have h := ip h hc3
    have h := Option.some.inj h
    subst h
    exact hE _ _ _ _ _ _ _ _ _ _ _ _ none hJ (fun h => by cases h) (fun h => by cases h) rfl rfl dX0_goes_24
  · have h := im h hc3
    refine lv_aload_n hx hb dX0_goes_12 rfl (lv_at hl 0 rfl) ?_
    refine cj_gr (v := .ref (gA G 7 20)) C hJ 0 0 4 (ad_s rfl) (Nat.le_of_ble_eq_true rfl) (Nat.le_of_ble_eq_true rfl) rfl rfl (fl_X0_159_0 C) (fun _ _ => rfl) dX0_goes_13 ?_
    refine lv_iload_n hx hb dX0_goes_16 rfl (lv_at hl 1 rfl) ?_
    obtain ⟨n4, hn4, h⟩ := ob h
    refine cj_al (v := .ref (gA G 3 (8 * 20 + n4))) C hJ 7 20 (ad_s rfl) rfl rfl hn4 rfl dX0_goes_17 ?_
    obtain ⟨x5, hx5, h⟩ := ob h
    refine cj_gi C hJ 3 (8 * 20 + n4) 3 (ad_s rfl) (Nat.le_of_ble_eq_true rfl) (Nat.le_of_ble_eq_true rfl) rfl rfl rfl (fl_X0_232_3 C) hx5 dX0_goes_18 ?_
    refine lv_if_eq (tgt := 25) hx hb dX0_goes_21 (by decide) (fun hc6 => ?_) (fun hc6 => ?_)
    · have h := ip h hc6
      refine lv_aload_n hx hb dX0_goes_25 rfl (lv_at hl 0 rfl) ?_
      refine cj_gr (v := .ref (gA G 2 0)) C hJ 0 0 2 (ad_s rfl) (Nat.le_of_ble_eq_true rfl) (Nat.le_of_ble_eq_true rfl) rfl rfl (fl_X0_26_0 C) (fun _ _ => rfl) dX0_goes_26 ?_
      refine cj_gr (v := .ref (gA G 6 3)) C hJ 2 0 5 (ad_s rfl) (Nat.le_of_ble_eq_true rfl) (Nat.le_of_ble_eq_true rfl) rfl rfl (fl_X0_72_2 C) (fun _ _ => rfl) dX0_goes_29 ?_
      refine lv_iload_n hx hb dX0_goes_32 rfl (lv_at hl 1 rfl) ?_
      obtain ⟨n7, hn7, h⟩ := ob h
      refine cj_get C hJ 3 (Nat.le_of_ble_eq_true rfl) (fun _ => rfl) q530 ⟨(Nat.le_of_ble_eq_true rfl), (Nat.le_of_ble_eq_true rfl)⟩ hl.1 (Nat.le_of_ble_eq_true rfl) hn7 dX0_goes_33 (fun H locs hJ => ?_)
      refine cj_castM C hJ hn7 q544 dX0_goes_36 ?_
      obtain ⟨x8, hx8, h⟩ := ob h
      refine cj_gsort C hJ n7 (fl_X0_192_5 C) hx8 dX0_goes_39 ?_
      refine lv_iload_n hx hb dX0_goes_42 rfl (lv_at hl 2 rfl) ?_
      obtain ⟨x9, hx9, h⟩ := ob h
      refine cj_steps C hJ q861 ⟨(Nat.le_of_ble_eq_true rfl), (Nat.le_of_ble_eq_true rfl)⟩ hl.1 (Nat.le_of_ble_eq_true rfl) hx9 dX0_goes_43 (fun H locs hJ => ?_)
      refine lv_istore_n (lv' := [(3, .int x9), (0, .ref (gA G 0 0)), (1, .int v1), (2, .int v2)]) hx hb dX0_goes_46 rfl hl (Nat.le_of_ble_eq_true rfl) rfl (fun ls hl => ?_)
      obtain ⟨q11, hq11, h⟩ := ob h
      have hxq11 : ∀ q11', q11 = .inl q11' → ∀ (H : Heap) (locs : List Loc) (ce sl : Nat) (ls : Array Slot), CJ G s (RM 18 0 false false G) 0 false false true true G.2.2.2 q11' H locs ce sl → lv_has ls 5 [] → W p l e (RM 18 0 false false G) s m args below meth c H locs ce sl Q (F0 m 113 ls []) := by
        intro q11' heq11
        subst heq11
        have h := lpo_l h
        intro H locs ce sl ls hJ hl
        have h := Option.some.inj h
        subst h
        exact hE _ _ _ _ _ _ _ _ _ _ _ _ none hJ (fun h => by cases h) (fun h => by cases h) rfl rfl dX0_goes_113
      refine lp_ind (P := fun (w10 : Int32 × CM) => ∀ (H : Heap) (locs : List Loc) (ce sl : Nat) (ls : Array Slot), CJ G s (RM 18 0 false false G) 0 false false true true G.2.2.2 w10.2 H locs ce sl → lv_has ls 5 [(0, .ref (gA G 0 0)), (1, .int v1), (3, .int w10.1)] → W p l e (RM 18 0 false false G) s m args below meth c H locs ce sl Q (F0 m 47 ls [])) ?_ _ _ hq11 _ _ _ _ _ hJ (lv_sub hl [1, 2, 0] rfl)
      intro nw10 w10 ihw10 zw10 hzw10 hqw10 H locs ce sl ls hJ hl
      refine lv_iload_n hx hb dX0_goes_47 rfl (lv_at hl 2 rfl) ?_
      refine lv_if_le (tgt := 113) hx hb dX0_goes_48 (by decide) (fun hc12 => ?_) (fun hc12 => ?_)
      · have hzw10 := ip hzw10 hc12
        have hzw10 := Option.some.inj hzw10
        subst hzw10
        have hqw10 : _ = q11 := hqw10
        subst hqw10
        exact hxq11 _ rfl _ _ _ _ _ hJ (lv_sub hl [] rfl)
      · have hzw10 := im hzw10 hc12
        refine lv_aload_n hx hb dX0_goes_51 rfl (lv_at hl 0 rfl) ?_
        refine lv_aload_n hx hb dX0_goes_52 rfl (lv_at hl 0 rfl) ?_
        refine cj_gr (v := .ref (gA G 7 20)) C hJ 0 0 4 (ad_s rfl) (Nat.le_of_ble_eq_true rfl) (Nat.le_of_ble_eq_true rfl) rfl rfl (fl_X0_159_0 C) (fun _ _ => rfl) dX0_goes_53 ?_
        refine lv_iload_n hx hb dX0_goes_56 rfl (lv_at hl 1 rfl) ?_
        obtain ⟨n13, hn13, hzw10⟩ := ob hzw10
        refine cj_al (v := .ref (gA G 3 (8 * 20 + n13))) C hJ 7 20 (ad_s rfl) rfl rfl hn13 rfl dX0_goes_57 ?_
        obtain ⟨x14, hx14, hzw10⟩ := ob hzw10
        refine cj_gi C hJ 3 (8 * 20 + n13) 0 (ad_s rfl) (Nat.le_of_ble_eq_true rfl) (Nat.le_of_ble_eq_true rfl) rfl rfl rfl (fl_X0_208_3 C) hx14 dX0_goes_58 ?_
        obtain ⟨c15, hc15, hzw10⟩ := ob hzw10
        refine cc_Vt (As := [.int x14]) (rest := []) C hJ (metC_dampest l w10.2 x14 c15 hc15) rfl rfl (show 0 + 0 ≤ 0 from Nat.le_of_ble_eq_true rfl) (cost_ok false false false false _ _ (fun h => by cases h) (fun h => by cases h)) (fun h => by cases h) (fun h => by cases h) (cj_recv C hJ 0 0 (ad_s rfl) (Nat.le_of_ble_eq_true rfl) rfl rfl) (cwV 1 hts (lw_V q874 q876 qs17 q109 q877) rfl rfl rfl hdC_dampest ⟨(Nat.le_of_ble_eq_true rfl), (Nat.le_of_ble_eq_true rfl)⟩) rfl hl.1 rfl (lv_room (Nat.le_of_ble_eq_true rfl)) dX0_goes_61 (fun H locs hJ => ?_)
        refine lv_istore (lv' := [(4, .int c15), (0, .ref (gA G 0 0)), (1, .int v1), (3, .int w10.1)]) hx hb dX0_goes_64 hl (Nat.le_of_ble_eq_true rfl) rfl (fun ls hl => ?_)
        refine lv_iload hx hb dX0_goes_66 (lv_at hl 0 rfl) ?_
        refine lv_aload_n hx hb dX0_goes_68 rfl (lv_at hl 1 rfl) ?_
        refine cj_gr (v := .ref (gA G 7 20)) C hJ 0 0 4 (ad_s rfl) (Nat.le_of_ble_eq_true rfl) (Nat.le_of_ble_eq_true rfl) rfl rfl (fl_X0_159_0 C) (fun _ _ => rfl) dX0_goes_69 ?_
        refine lv_iload_n hx hb dX0_goes_72 rfl (lv_at hl 2 rfl) ?_
        obtain ⟨n17, hn17, hzw10⟩ := ob hzw10
        refine cj_al (v := .ref (gA G 3 (8 * 20 + n17))) C hJ 7 20 (ad_s rfl) rfl rfl hn17 rfl dX0_goes_73 ?_
        obtain ⟨x18, hx18, hzw10⟩ := ob hzw10
        refine cj_gi C hJ 3 (8 * 20 + n17) 0 (ad_s rfl) (Nat.le_of_ble_eq_true rfl) (Nat.le_of_ble_eq_true rfl) rfl rfl rfl (fl_X0_208_3 C) hx18 dX0_goes_74 ?_
        refine lv_icmp_ne (tgt := 81) hx hb dX0_goes_77 (by decide) (fun hc19 => ?_) (fun hc19 => ?_)
        · have hzw10 := im hzw10 hc19
          refine lv_aload_n hx hb dX0_goes_81 rfl (lv_at hl 1 rfl) ?_
          refine cj_gr (v := .ref (gA G 7 20)) C hJ 0 0 4 (ad_s rfl) (Nat.le_of_ble_eq_true rfl) (Nat.le_of_ble_eq_true rfl) rfl rfl (fl_X0_159_0 C) (fun _ _ => rfl) dX0_goes_82 ?_
          refine lv_iload_n hx hb dX0_goes_85 rfl (lv_at hl 2 rfl) ?_
          obtain ⟨n20, hn20, hzw10⟩ := ob hzw10
          refine cj_al (v := .ref (gA G 3 (8 * 20 + n20))) C hJ 7 20 (ad_s rfl) rfl rfl hn20 rfl dX0_goes_86 ?_
          refine lv_iload hx hb dX0_goes_87 (lv_at hl 0 rfl) ?_
          obtain ⟨σ21, hσ21, hzw10⟩ := ob hzw10
          refine cj_pi C hJ 3 (8 * 20 + n20) 0 (ad_s rfl) (Nat.le_of_ble_eq_true rfl) (Nat.le_of_ble_eq_true rfl) rfl rfl rfl rfl rfl rfl (fl_X0_208_3 C) hσ21 dX0_goes_89 (fun H locs hJ => ?_)
          refine lv_aload_n hx hb dX0_goes_92 rfl (lv_at hl 1 rfl) ?_
          refine cj_gr (v := .ref (gA G 7 20)) C hJ 0 0 4 (ad_s rfl) (Nat.le_of_ble_eq_true rfl) (Nat.le_of_ble_eq_true rfl) rfl rfl (fl_X0_159_0 C) (fun _ _ => rfl) dX0_goes_93 ?_
          refine lv_iload_n hx hb dX0_goes_96 rfl (lv_at hl 2 rfl) ?_
          obtain ⟨n22, hn22, hzw10⟩ := ob hzw10
          refine cj_al (v := .ref (gA G 3 (8 * 20 + n22))) C hJ 7 20 (ad_s rfl) rfl rfl hn22 rfl dX0_goes_97 ?_
          refine lv_iconst hx hb dX0_goes_98 kc_1 ?_
          obtain ⟨σ23, hσ23, hzw10⟩ := ob hzw10
          refine cj_pz C hJ 3 (8 * 20 + n22) 5 (ad_s rfl) (Nat.le_of_ble_eq_true rfl) (Nat.le_of_ble_eq_true rfl) rfl rfl rfl rfl rfl rfl (fl_X0_244_3 C) hσ23 dX0_goes_99 (fun H locs hJ => ?_)
          refine lv_aload_n hx hb dX0_goes_102 rfl (lv_at hl 1 rfl) ?_
          refine lv_iload_n hx hb dX0_goes_103 rfl (lv_at hl 2 rfl) ?_
          obtain ⟨c24, hc24, hzw10⟩ := ob hzw10
          refine cc_Vt (As := [.int v1]) (rest := []) C hJ (metC_speaks l σ23 v1 c24 hc24) rfl rfl (show 0 + 0 ≤ 0 from Nat.le_of_ble_eq_true rfl) (cost_ok false false false false _ _ (fun h => by cases h) (fun h => by cases h)) (fun _ => rfl) (fun _ => rfl) (cj_recv C hJ 0 0 (ad_s rfl) (Nat.le_of_ble_eq_true rfl) rfl rfl) (cwV 1 hts (lw_V q882 q884 qs19 q109 q885) rfl rfl rfl hdC_speaks ⟨(Nat.le_of_ble_eq_true rfl), (Nat.le_of_ble_eq_true rfl)⟩) rfl hl.1 rfl (lv_room (Nat.le_of_ble_eq_true rfl)) dX0_goes_104 (fun H locs hJ => ?_)
          refine lv_iinc (v := (w10.1 + (-1))) (lv' := [(3, .int (w10.1 + (-1))), (4, .int c15), (0, .ref (gA G 0 0)), (1, .int v1)]) hx hb dX0_goes_107 hl (k := 3) rfl rfl (Nat.le_of_ble_eq_true rfl) rfl (fun ls hl => ?_)
          refine lv_goto (tgt := 47) hx hb dX0_goes_110 (by decide) ?_
          have hzw10 := Option.some.inj hzw10
          subst hzw10
          exact ihw10 _ hqw10 _ _ _ _ _ hJ (lv_sub hl [2, 3, 0] rfl)
        · have hzw10 := ip hzw10 hc19
          have hzw10 := Option.some.inj hzw10
          subst hzw10
          have hqw10 : _ = q11 := hqw10
          subst hqw10
          have h := lpo_r h
          have h := Option.some.inj h
          subst h
          exact hE _ _ _ _ _ _ _ _ _ _ _ _ none hJ (fun h => by cases h) (fun h => by cases h) rfl rfl dX0_goes_80
    · have h := im h hc6
      have h := Option.some.inj h
      subst h
      exact hE _ _ _ _ _ _ _ _ _ _ _ _ none hJ (fun h => by cases h) (fun h => by cases h) rfl rfl dX0_goes_24
