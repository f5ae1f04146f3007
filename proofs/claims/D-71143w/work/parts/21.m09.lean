/-! the reference, walked (printed by tool/gen_m.py) -/
set_option maxRecDepth 100000
def M_damp (σ : MM) (v1 : Int32) (v2 : Int32) (v3 : Int32) : Option (Int32 × MM) :=
  (M_isHour σ v1).bind fun c1 =>
  if c1 = 0 then
    some ((-2 : Int32), σ)
  else
    (M_isPlace σ v2).bind fun c3 =>
    if c3 = 0 then
      some ((-2 : Int32), σ)
    else
      (M_in σ v3 (0 : Int32) (1 : Int32)).bind fun c5 =>
      if c5 = 0 then
        some ((-2 : Int32), σ)
      else
        (M_dampOf σ v1 v2 v3).bind fun c7 =>
        some (c7.1, c7.2)
theorem hdM_damp : yX6_damp.cls = RX6 ∧ yX6_damp.cls ≠ "java/lang/invoke/MethodHandle" ∧ yX6_damp.cls ≠ "java/lang/invoke/VarHandle" ∧ (parseMethodDescriptor yX6_damp.desc).map (fun d => d.parameters.length) = some 3 := by decide +kernel
set_option maxHeartbeats 4000000 in
theorem metM_damp (l : Launch) (σ : MM) (v1 : Int32) (v2 : Int32) (v3 : Int32) (res : Int32 × MM) (h : M_damp σ v1 v2 v3 = some res) : MetM l yX6_damp cX6_damp 4 (some .int) 10 (fun K => [.ref (kO K), .int v1, .int v2, .int v3]) σ (some (.int res.1)) res.2 := by
  refine met_walk rfl (by simp [mRt]) (fun _ => Nat.le_of_ble_eq_true rfl) (fun K p e s m args below meth c Q C hE ls hl hJ => ?_)
  have hx := C.1.1
  have hb := C.1.2.1
  have hown := C.1.2.2.2.1
  have hts := C.1.2.2.2.2
  have hl : lv_has ls 4 [(0, .ref (kO K)), (1, .int v1), (2, .int v2), (3, .int v3)] := hl
  unfold M_damp at h
  refine lv_iload_n hx hb dX6_damp_0 rfl (lv_at hl 1 rfl) ?_
  obtain ⟨c1, hc1, h⟩ := ob h
  refine mc_S (As := [.int v1]) (rest := []) C hJ (metM_isHour l σ v1 c1 hc1) (va_cwS 1 hts (lw_S q1435 q1436 q118 q1437) rfl rfl rfl hdM_isHour ⟨Nat.le_of_ble_eq_true rfl, Nat.le_of_ble_eq_true rfl⟩) rfl hl.1 rfl (lv_room (Nat.le_of_ble_eq_true rfl)) dX6_damp_1 (fun H locs hJ => ?_)
  refine lv_if_eq (tgt := 33) hx hb dX6_damp_4 (by decide) (fun hc2 => ?_) (fun hc2 => ?_)
  · have h := ip h hc2
    refine lv_bipush hx hb dX6_damp_33 kb_m2 ?_
    have h := Option.some.inj h
    subst h
    exact hE _ _ _ _ (some (.int ((-2 : Int32)))) hJ ⟨_, rfl⟩ rfl dX6_damp_35
  · have h := im h hc2
    refine lv_iload_n hx hb dX6_damp_7 rfl (lv_at hl 2 rfl) ?_
    obtain ⟨c3, hc3, h⟩ := ob h
    refine mc_S (As := [.int v2]) (rest := []) C hJ (metM_isPlace l σ v2 c3 hc3) (va_cwS 1 hts (lw_S q1408 q1409 q118 q1410) rfl rfl rfl hdM_isPlace ⟨Nat.le_of_ble_eq_true rfl, Nat.le_of_ble_eq_true rfl⟩) rfl hl.1 rfl (lv_room (Nat.le_of_ble_eq_true rfl)) dX6_damp_8 (fun H locs hJ => ?_)
    refine lv_if_eq (tgt := 33) hx hb dX6_damp_11 (by decide) (fun hc4 => ?_) (fun hc4 => ?_)
    · have h := ip h hc4
      refine lv_bipush hx hb dX6_damp_33 kb_m2 ?_
      have h := Option.some.inj h
      subst h
      exact hE _ _ _ _ (some (.int ((-2 : Int32)))) hJ ⟨_, rfl⟩ rfl dX6_damp_35
    · have h := im h hc4
      refine lv_iload_n hx hb dX6_damp_14 rfl (lv_at hl 3 rfl) ?_
      refine lv_iconst hx hb dX6_damp_15 kc_0 ?_
      refine lv_iconst hx hb dX6_damp_16 kc_1 ?_
      obtain ⟨c5, hc5, h⟩ := ob h
      refine mc_S (As := [.int v3, .int (0 : Int32), .int (1 : Int32)]) (rest := []) C hJ (metM_in l σ v3 (0 : Int32) (1 : Int32) c5 hc5) (va_cwS 3 hts (lw_S q1365 q1366 q118 q1367) rfl rfl rfl hdM_in ⟨Nat.le_of_ble_eq_true rfl, Nat.le_of_ble_eq_true rfl⟩) rfl hl.1 rfl (lv_room (Nat.le_of_ble_eq_true rfl)) dX6_damp_17 (fun H locs hJ => ?_)
      refine lv_if_eq (tgt := 33) hx hb dX6_damp_20 (by decide) (fun hc6 => ?_) (fun hc6 => ?_)
      · have h := ip h hc6
        refine lv_bipush hx hb dX6_damp_33 kb_m2 ?_
        have h := Option.some.inj h
        subst h
        exact hE _ _ _ _ (some (.int ((-2 : Int32)))) hJ ⟨_, rfl⟩ rfl dX6_damp_35
      · have h := im h hc6
        refine lv_aload_n hx hb dX6_damp_23 rfl (lv_at hl 0 rfl) ?_
        refine lv_iload_n hx hb dX6_damp_24 rfl (lv_at hl 1 rfl) ?_
        refine lv_iload_n hx hb dX6_damp_25 rfl (lv_at hl 2 rfl) ?_
        refine lv_iload_n hx hb dX6_damp_26 rfl (lv_at hl 3 rfl) ?_
        obtain ⟨c7, hc7, h⟩ := ob h
        refine mc_V (As := [.int v1, .int v2, .int v3]) (rest := []) C hJ (metM_dampOf l σ v1 v2 v3 c7 hc7) (cwV 3 hts (lw_V q1458 q1460 qs62 q118 q1461) rfl rfl rfl hdM_dampOf ⟨Nat.le_of_ble_eq_true rfl, Nat.le_of_ble_eq_true rfl⟩) rfl hl.1 rfl (lv_room (Nat.le_of_ble_eq_true rfl)) dX6_damp_27 (fun H locs hJ => ?_)
        refine lv_goto (tgt := 35) hx hb dX6_damp_30 (by decide) ?_
        have h := Option.some.inj h
        subst h
        exact hE _ _ _ _ (some (.int (c7.1))) hJ ⟨_, rfl⟩ rfl dX6_damp_35
def M_at (σ : MM) (v1 : Int32) (v2 : Int32) (v3 : Int32) : Option (Int32 × MM) :=
  (M_isHour σ v1).bind fun c1 =>
  if c1 = 0 then
    some ((-2 : Int32), σ)
  else
    (M_isMember σ v2).bind fun c3 =>
    if c3.1 = 0 then
      some ((-2 : Int32), c3.2)
    else
      (M_in c3.2 v3 (0 : Int32) (3 : Int32)).bind fun c5 =>
      if c5 = 0 then
        some ((-2 : Int32), c3.2)
      else
        (M_atOf c3.2 v1 v2 v3).bind fun c7 =>
        some (c7.1, c7.2)
theorem hdM_at : yX6_at.cls = RX6 ∧ yX6_at.cls ≠ "java/lang/invoke/MethodHandle" ∧ yX6_at.cls ≠ "java/lang/invoke/VarHandle" ∧ (parseMethodDescriptor yX6_at.desc).map (fun d => d.parameters.length) = some 3 := by decide +kernel
set_option maxHeartbeats 4000000 in
theorem metM_at (l : Launch) (σ : MM) (v1 : Int32) (v2 : Int32) (v3 : Int32) (res : Int32 × MM) (h : M_at σ v1 v2 v3 = some res) : MetM l yX6_at cX6_at 4 (some .int) 10 (fun K => [.ref (kO K), .int v1, .int v2, .int v3]) σ (some (.int res.1)) res.2 := by
  refine met_walk rfl (by simp [mRt]) (fun _ => Nat.le_of_ble_eq_true rfl) (fun K p e s m args below meth c Q C hE ls hl hJ => ?_)
  have hx := C.1.1
  have hb := C.1.2.1
  have hown := C.1.2.2.2.1
  have hts := C.1.2.2.2.2
  have hl : lv_has ls 4 [(0, .ref (kO K)), (1, .int v1), (2, .int v2), (3, .int v3)] := hl
  unfold M_at at h
  refine lv_iload_n hx hb dX6_at_0 rfl (lv_at hl 1 rfl) ?_
  obtain ⟨c1, hc1, h⟩ := ob h
  refine mc_S (As := [.int v1]) (rest := []) C hJ (metM_isHour l σ v1 c1 hc1) (va_cwS 1 hts (lw_S q1435 q1436 q118 q1437) rfl rfl rfl hdM_isHour ⟨Nat.le_of_ble_eq_true rfl, Nat.le_of_ble_eq_true rfl⟩) rfl hl.1 rfl (lv_room (Nat.le_of_ble_eq_true rfl)) dX6_at_1 (fun H locs hJ => ?_)
  refine lv_if_eq (tgt := 34) hx hb dX6_at_4 (by decide) (fun hc2 => ?_) (fun hc2 => ?_)
  · have h := ip h hc2
    refine lv_bipush hx hb dX6_at_34 kb_m2 ?_
    have h := Option.some.inj h
    subst h
    exact hE _ _ _ _ (some (.int ((-2 : Int32)))) hJ ⟨_, rfl⟩ rfl dX6_at_36
  · have h := im h hc2
    refine lv_aload_n hx hb dX6_at_7 rfl (lv_at hl 0 rfl) ?_
    refine lv_iload_n hx hb dX6_at_8 rfl (lv_at hl 2 rfl) ?_
    obtain ⟨c3, hc3, h⟩ := ob h
    refine mc_V (As := [.int v2]) (rest := []) C hJ (metM_isMember l σ v2 c3 hc3) (cwV 1 hts (lw_V q1423 q1425 qs59 q118 q1426) rfl rfl rfl hdM_isMember ⟨Nat.le_of_ble_eq_true rfl, Nat.le_of_ble_eq_true rfl⟩) rfl hl.1 rfl (lv_room (Nat.le_of_ble_eq_true rfl)) dX6_at_9 (fun H locs hJ => ?_)
    refine lv_if_eq (tgt := 34) hx hb dX6_at_12 (by decide) (fun hc4 => ?_) (fun hc4 => ?_)
    · have h := ip h hc4
      refine lv_bipush hx hb dX6_at_34 kb_m2 ?_
      have h := Option.some.inj h
      subst h
      exact hE _ _ _ _ (some (.int ((-2 : Int32)))) hJ ⟨_, rfl⟩ rfl dX6_at_36
    · have h := im h hc4
      refine lv_iload_n hx hb dX6_at_15 rfl (lv_at hl 3 rfl) ?_
      refine lv_iconst hx hb dX6_at_16 kc_0 ?_
      refine lv_iconst hx hb dX6_at_17 kc_3 ?_
      obtain ⟨c5, hc5, h⟩ := ob h
      refine mc_S (As := [.int v3, .int (0 : Int32), .int (3 : Int32)]) (rest := []) C hJ (metM_in l c3.2 v3 (0 : Int32) (3 : Int32) c5 hc5) (va_cwS 3 hts (lw_S q1365 q1366 q118 q1367) rfl rfl rfl hdM_in ⟨Nat.le_of_ble_eq_true rfl, Nat.le_of_ble_eq_true rfl⟩) rfl hl.1 rfl (lv_room (Nat.le_of_ble_eq_true rfl)) dX6_at_18 (fun H locs hJ => ?_)
      refine lv_if_eq (tgt := 34) hx hb dX6_at_21 (by decide) (fun hc6 => ?_) (fun hc6 => ?_)
      · have h := ip h hc6
        refine lv_bipush hx hb dX6_at_34 kb_m2 ?_
        have h := Option.some.inj h
        subst h
        exact hE _ _ _ _ (some (.int ((-2 : Int32)))) hJ ⟨_, rfl⟩ rfl dX6_at_36
      · have h := im h hc6
        refine lv_aload_n hx hb dX6_at_24 rfl (lv_at hl 0 rfl) ?_
        refine lv_iload_n hx hb dX6_at_25 rfl (lv_at hl 1 rfl) ?_
        refine lv_iload_n hx hb dX6_at_26 rfl (lv_at hl 2 rfl) ?_
        refine lv_iload_n hx hb dX6_at_27 rfl (lv_at hl 3 rfl) ?_
        obtain ⟨c7, hc7, h⟩ := ob h
        refine mc_V (As := [.int v1, .int v2, .int v3]) (rest := []) C hJ (metM_atOf l c3.2 v1 v2 v3 c7 hc7) (cwV 3 hts (lw_V q1529 q1531 qs78 q118 q1532) rfl rfl rfl hdM_atOf ⟨Nat.le_of_ble_eq_true rfl, Nat.le_of_ble_eq_true rfl⟩) rfl hl.1 rfl (lv_room (Nat.le_of_ble_eq_true rfl)) dX6_at_28 (fun H locs hJ => ?_)
        refine lv_goto (tgt := 36) hx hb dX6_at_31 (by decide) ?_
        have h := Option.some.inj h
        subst h
        exact hE _ _ _ _ (some (.int (c7.1))) hJ ⟨_, rfl⟩ rfl dX6_at_36
def M_house (σ : MM) (v1 : Int32) (v2 : Int32) : Option (Int32 × MM) :=
  (M_isHour σ v1).bind fun c1 =>
  if c1 = 0 then
    some ((-2 : Int32), σ)
  else
    (M_in σ v2 (0 : Int32) (2 : Int32)).bind fun c3 =>
    if c3 = 0 then
      some ((-2 : Int32), σ)
    else
      (M_houseOf σ v1 v2).bind fun c5 =>
      some (c5.1, c5.2)
theorem hdM_house : yX6_house.cls = RX6 ∧ yX6_house.cls ≠ "java/lang/invoke/MethodHandle" ∧ yX6_house.cls ≠ "java/lang/invoke/VarHandle" ∧ (parseMethodDescriptor yX6_house.desc).map (fun d => d.parameters.length) = some 2 := by decide +kernel
set_option maxHeartbeats 4000000 in
theorem metM_house (l : Launch) (σ : MM) (v1 : Int32) (v2 : Int32) (res : Int32 × MM) (h : M_house σ v1 v2 = some res) : MetM l yX6_house cX6_house 3 (some .int) 10 (fun K => [.ref (kO K), .int v1, .int v2]) σ (some (.int res.1)) res.2 := by
  refine met_walk rfl (by simp [mRt]) (fun _ => Nat.le_of_ble_eq_true rfl) (fun K p e s m args below meth c Q C hE ls hl hJ => ?_)
  have hx := C.1.1
  have hb := C.1.2.1
  have hown := C.1.2.2.2.1
  have hts := C.1.2.2.2.2
  have hl : lv_has ls 3 [(0, .ref (kO K)), (1, .int v1), (2, .int v2)] := hl
  unfold M_house at h
  refine lv_iload_n hx hb dX6_house_0 rfl (lv_at hl 1 rfl) ?_
  obtain ⟨c1, hc1, h⟩ := ob h
  refine mc_S (As := [.int v1]) (rest := []) C hJ (metM_isHour l σ v1 c1 hc1) (va_cwS 1 hts (lw_S q1435 q1436 q118 q1437) rfl rfl rfl hdM_isHour ⟨Nat.le_of_ble_eq_true rfl, Nat.le_of_ble_eq_true rfl⟩) rfl hl.1 rfl (lv_room (Nat.le_of_ble_eq_true rfl)) dX6_house_1 (fun H locs hJ => ?_)
  refine lv_if_eq (tgt := 25) hx hb dX6_house_4 (by decide) (fun hc2 => ?_) (fun hc2 => ?_)
  · have h := ip h hc2
    refine lv_bipush hx hb dX6_house_25 kb_m2 ?_
    have h := Option.some.inj h
    subst h
    exact hE _ _ _ _ (some (.int ((-2 : Int32)))) hJ ⟨_, rfl⟩ rfl dX6_house_27
  · have h := im h hc2
    refine lv_iload_n hx hb dX6_house_7 rfl (lv_at hl 2 rfl) ?_
    refine lv_iconst hx hb dX6_house_8 kc_0 ?_
    refine lv_iconst hx hb dX6_house_9 kc_2 ?_
    obtain ⟨c3, hc3, h⟩ := ob h
    refine mc_S (As := [.int v2, .int (0 : Int32), .int (2 : Int32)]) (rest := []) C hJ (metM_in l σ v2 (0 : Int32) (2 : Int32) c3 hc3) (va_cwS 3 hts (lw_S q1365 q1366 q118 q1367) rfl rfl rfl hdM_in ⟨Nat.le_of_ble_eq_true rfl, Nat.le_of_ble_eq_true rfl⟩) rfl hl.1 rfl (lv_room (Nat.le_of_ble_eq_true rfl)) dX6_house_10 (fun H locs hJ => ?_)
    refine lv_if_eq (tgt := 25) hx hb dX6_house_13 (by decide) (fun hc4 => ?_) (fun hc4 => ?_)
    · have h := ip h hc4
      refine lv_bipush hx hb dX6_house_25 kb_m2 ?_
      have h := Option.some.inj h
      subst h
      exact hE _ _ _ _ (some (.int ((-2 : Int32)))) hJ ⟨_, rfl⟩ rfl dX6_house_27
    · have h := im h hc4
      refine lv_aload_n hx hb dX6_house_16 rfl (lv_at hl 0 rfl) ?_
      refine lv_iload_n hx hb dX6_house_17 rfl (lv_at hl 1 rfl) ?_
      refine lv_iload_n hx hb dX6_house_18 rfl (lv_at hl 2 rfl) ?_
      obtain ⟨c5, hc5, h⟩ := ob h
      refine mc_V (As := [.int v1, .int v2]) (rest := []) C hJ (metM_houseOf l σ v1 v2 c5 hc5) (cwV 2 hts (lw_V q1537 q1539 qs79 q118 q1540) rfl rfl rfl hdM_houseOf ⟨Nat.le_of_ble_eq_true rfl, Nat.le_of_ble_eq_true rfl⟩) rfl hl.1 rfl (lv_room (Nat.le_of_ble_eq_true rfl)) dX6_house_19 (fun H locs hJ => ?_)
      refine lv_goto (tgt := 27) hx hb dX6_house_22 (by decide) ?_
      have h := Option.some.inj h
      subst h
      exact hE _ _ _ _ (some (.int (c5.1))) hJ ⟨_, rfl⟩ rfl dX6_house_27
def M_governments (σ : MM) : Option (Int32 × MM) :=
  (M_governmentsOf σ).bind fun c1 =>
  some (c1.1, c1.2)
theorem hdM_governments : yX6_governments.cls = RX6 ∧ yX6_governments.cls ≠ "java/lang/invoke/MethodHandle" ∧ yX6_governments.cls ≠ "java/lang/invoke/VarHandle" ∧ (parseMethodDescriptor yX6_governments.desc).map (fun d => d.parameters.length) = some 0 := by decide +kernel
set_option maxHeartbeats 4000000 in
theorem metM_governments (l : Launch) (σ : MM) (res : Int32 × MM) (h : M_governments σ = some res) : MetM l yX6_governments cX6_governments 1 (some .int) 10 (fun K => [.ref (kO K)]) σ (some (.int res.1)) res.2 := by
  refine met_walk rfl (by simp [mRt]) (fun _ => Nat.le_of_ble_eq_true rfl) (fun K p e s m args below meth c Q C hE ls hl hJ => ?_)
  have hx := C.1.1
  have hb := C.1.2.1
  have hown := C.1.2.2.2.1
  have hts := C.1.2.2.2.2
  have hl : lv_has ls 1 [(0, .ref (kO K))] := hl
  unfold M_governments at h
  refine lv_aload_n hx hb dX6_governments_0 rfl (lv_at hl 0 rfl) ?_
  obtain ⟨c1, hc1, h⟩ := ob h
  refine mc_V (As := []) (rest := []) C hJ (metM_governmentsOf l σ c1 hc1) (cwV 0 hts (lw_V q1549 q1551 qs81 q118 q1552) rfl rfl rfl hdM_governmentsOf ⟨Nat.le_of_ble_eq_true rfl, Nat.le_of_ble_eq_true rfl⟩) rfl hl.1 rfl (lv_room (Nat.le_of_ble_eq_true rfl)) dX6_governments_1 (fun H locs hJ => ?_)
  have h := Option.some.inj h
  subst h
  exact hE _ _ _ _ (some (.int (c1.1))) hJ ⟨_, rfl⟩ rfl dX6_governments_4
def M_carried (σ : MM) : Option (Int32 × MM) :=
  (M_carriedOf σ).bind fun c1 =>
  some (c1.1, c1.2)
theorem hdM_carried : yX6_carried.cls = RX6 ∧ yX6_carried.cls ≠ "java/lang/invoke/MethodHandle" ∧ yX6_carried.cls ≠ "java/lang/invoke/VarHandle" ∧ (parseMethodDescriptor yX6_carried.desc).map (fun d => d.parameters.length) = some 0 := by decide +kernel
set_option maxHeartbeats 4000000 in
theorem metM_carried (l : Launch) (σ : MM) (res : Int32 × MM) (h : M_carried σ = some res) : MetM l yX6_carried cX6_carried 1 (some .int) 10 (fun K => [.ref (kO K)]) σ (some (.int res.1)) res.2 := by
  refine met_walk rfl (by simp [mRt]) (fun _ => Nat.le_of_ble_eq_true rfl) (fun K p e s m args below meth c Q C hE ls hl hJ => ?_)
  have hx := C.1.1
  have hb := C.1.2.1
  have hown := C.1.2.2.2.1
  have hts := C.1.2.2.2.2
  have hl : lv_has ls 1 [(0, .ref (kO K))] := hl
  unfold M_carried at h
  refine lv_aload_n hx hb dX6_carried_0 rfl (lv_at hl 0 rfl) ?_
  obtain ⟨c1, hc1, h⟩ := ob h
  refine mc_V (As := []) (rest := []) C hJ (metM_carriedOf l σ c1 hc1) (cwV 0 hts (lw_V q1561 q1563 qs83 q118 q1564) rfl rfl rfl hdM_carriedOf ⟨Nat.le_of_ble_eq_true rfl, Nat.le_of_ble_eq_true rfl⟩) rfl hl.1 rfl (lv_room (Nat.le_of_ble_eq_true rfl)) dX6_carried_1 (fun H locs hJ => ?_)
  have h := Option.some.inj h
  subst h
  exact hE _ _ _ _ (some (.int (c1.1))) hJ ⟨_, rfl⟩ rfl dX6_carried_4
def M_crowd (σ : MM) (v1 : Int32) : Option (Int32 × MM) :=
  (M_in σ v1 (0 : Int32) (2 : Int32)).bind fun c1 =>
  if c1 = 0 then
    some ((-2 : Int32), σ)
  else
    (M_crowdOf σ v1).bind fun c3 =>
    some (c3.1, c3.2)
theorem hdM_crowd : yX6_crowd.cls = RX6 ∧ yX6_crowd.cls ≠ "java/lang/invoke/MethodHandle" ∧ yX6_crowd.cls ≠ "java/lang/invoke/VarHandle" ∧ (parseMethodDescriptor yX6_crowd.desc).map (fun d => d.parameters.length) = some 1 := by decide +kernel
set_option maxHeartbeats 4000000 in
theorem metM_crowd (l : Launch) (σ : MM) (v1 : Int32) (res : Int32 × MM) (h : M_crowd σ v1 = some res) : MetM l yX6_crowd cX6_crowd 2 (some .int) 10 (fun K => [.ref (kO K), .int v1]) σ (some (.int res.1)) res.2 := by
  refine met_walk rfl (by simp [mRt]) (fun _ => Nat.le_of_ble_eq_true rfl) (fun K p e s m args below meth c Q C hE ls hl hJ => ?_)
  have hx := C.1.1
  have hb := C.1.2.1
  have hown := C.1.2.2.2.1
  have hts := C.1.2.2.2.2
  have hl : lv_has ls 2 [(0, .ref (kO K)), (1, .int v1)] := hl
  unfold M_crowd at h
  refine lv_iload_n hx hb dX6_crowd_0 rfl (lv_at hl 1 rfl) ?_
  refine lv_iconst hx hb dX6_crowd_1 kc_0 ?_
  refine lv_iconst hx hb dX6_crowd_2 kc_2 ?_
  obtain ⟨c1, hc1, h⟩ := ob h
  refine mc_S (As := [.int v1, .int (0 : Int32), .int (2 : Int32)]) (rest := []) C hJ (metM_in l σ v1 (0 : Int32) (2 : Int32) c1 hc1) (va_cwS 3 hts (lw_S q1365 q1366 q118 q1367) rfl rfl rfl hdM_in ⟨Nat.le_of_ble_eq_true rfl, Nat.le_of_ble_eq_true rfl⟩) rfl hl.1 rfl (lv_room (Nat.le_of_ble_eq_true rfl)) dX6_crowd_3 (fun H locs hJ => ?_)
  refine lv_if_eq (tgt := 17) hx hb dX6_crowd_6 (by decide) (fun hc2 => ?_) (fun hc2 => ?_)
  · have h := ip h hc2
    refine lv_bipush hx hb dX6_crowd_17 kb_m2 ?_
    have h := Option.some.inj h
    subst h
    exact hE _ _ _ _ (some (.int ((-2 : Int32)))) hJ ⟨_, rfl⟩ rfl dX6_crowd_19
  · have h := im h hc2
    refine lv_aload_n hx hb dX6_crowd_9 rfl (lv_at hl 0 rfl) ?_
    refine lv_iload_n hx hb dX6_crowd_10 rfl (lv_at hl 1 rfl) ?_
    obtain ⟨c3, hc3, h⟩ := ob h
    refine mc_V (As := [.int v1]) (rest := []) C hJ (metM_crowdOf l σ v1 c3 hc3) (cwV 1 hts (lw_V q1573 q1575 qs85 q118 q1576) rfl rfl rfl hdM_crowdOf ⟨Nat.le_of_ble_eq_true rfl, Nat.le_of_ble_eq_true rfl⟩) rfl hl.1 rfl (lv_room (Nat.le_of_ble_eq_true rfl)) dX6_crowd_11 (fun H locs hJ => ?_)
    refine lv_goto (tgt := 19) hx hb dX6_crowd_14 (by decide) ?_
    have h := Option.some.inj h
    subst h
    exact hE _ _ _ _ (some (.int (c3.1))) hJ ⟨_, rfl⟩ rfl dX6_crowd_19
def M_orator (σ : MM) : Option (Int32 × MM) :=
  (M_oratorOf σ).bind fun c1 =>
  some (c1.1, c1.2)
theorem hdM_orator : yX6_orator.cls = RX6 ∧ yX6_orator.cls ≠ "java/lang/invoke/MethodHandle" ∧ yX6_orator.cls ≠ "java/lang/invoke/VarHandle" ∧ (parseMethodDescriptor yX6_orator.desc).map (fun d => d.parameters.length) = some 0 := by decide +kernel
set_option maxHeartbeats 4000000 in
theorem metM_orator (l : Launch) (σ : MM) (res : Int32 × MM) (h : M_orator σ = some res) : MetM l yX6_orator cX6_orator 1 (some .int) 10 (fun K => [.ref (kO K)]) σ (some (.int res.1)) res.2 := by
  refine met_walk rfl (by simp [mRt]) (fun _ => Nat.le_of_ble_eq_true rfl) (fun K p e s m args below meth c Q C hE ls hl hJ => ?_)
  have hx := C.1.1
  have hb := C.1.2.1
  have hown := C.1.2.2.2.1
  have hts := C.1.2.2.2.2
  have hl : lv_has ls 1 [(0, .ref (kO K))] := hl
  unfold M_orator at h
  refine lv_aload_n hx hb dX6_orator_0 rfl (lv_at hl 0 rfl) ?_
  obtain ⟨c1, hc1, h⟩ := ob h
  refine mc_V (As := []) (rest := []) C hJ (metM_oratorOf l σ c1 hc1) (cwV 0 hts (lw_V q1581 q1583 qs86 q118 q1584) rfl rfl rfl hdM_oratorOf ⟨Nat.le_of_ble_eq_true rfl, Nat.le_of_ble_eq_true rfl⟩) rfl hl.1 rfl (lv_room (Nat.le_of_ble_eq_true rfl)) dX6_orator_1 (fun H locs hJ => ?_)
  have h := Option.some.inj h
  subst h
  exact hE _ _ _ _ (some (.int (c1.1))) hJ ⟨_, rfl⟩ rfl dX6_orator_4
def M_still (σ : MM) : Option (Int32 × MM) :=
  (M_stillOf σ).bind fun c1 =>
  some (c1.1, c1.2)
theorem hdM_still : yX6_still.cls = RX6 ∧ yX6_still.cls ≠ "java/lang/invoke/MethodHandle" ∧ yX6_still.cls ≠ "java/lang/invoke/VarHandle" ∧ (parseMethodDescriptor yX6_still.desc).map (fun d => d.parameters.length) = some 0 := by decide +kernel
set_option maxHeartbeats 4000000 in
theorem metM_still (l : Launch) (σ : MM) (res : Int32 × MM) (h : M_still σ = some res) : MetM l yX6_still cX6_still 1 (some .int) 10 (fun K => [.ref (kO K)]) σ (some (.int res.1)) res.2 := by
  refine met_walk rfl (by simp [mRt]) (fun _ => Nat.le_of_ble_eq_true rfl) (fun K p e s m args below meth c Q C hE ls hl hJ => ?_)
  have hx := C.1.1
  have hb := C.1.2.1
  have hown := C.1.2.2.2.1
  have hts := C.1.2.2.2.2
  have hl : lv_has ls 1 [(0, .ref (kO K))] := hl
  unfold M_still at h
  refine lv_aload_n hx hb dX6_still_0 rfl (lv_at hl 0 rfl) ?_
  obtain ⟨c1, hc1, h⟩ := ob h
  refine mc_V (As := []) (rest := []) C hJ (metM_stillOf l σ c1 hc1) (cwV 0 hts (lw_V q1589 q1591 qs87 q118 q1592) rfl rfl rfl hdM_stillOf ⟨Nat.le_of_ble_eq_true rfl, Nat.le_of_ble_eq_true rfl⟩) rfl hl.1 rfl (lv_room (Nat.le_of_ble_eq_true rfl)) dX6_still_1 (fun H locs hJ => ?_)
  have h := Option.some.inj h
  subst h
  exact hE _ _ _ _ (some (.int (c1.1))) hJ ⟨_, rfl⟩ rfl dX6_still_4
def M_dust (σ : MM) (v1 : Int32) (v2 : Int32) : Option (Int32 × MM) :=
  (M_isHour σ v1).bind fun c1 =>
  if c1 = 0 then
    some ((-2 : Int32), σ)
  else
    (M_in σ v2 (0 : Int32) (1 : Int32)).bind fun c3 =>
    if c3 = 0 then
      some ((-2 : Int32), σ)
    else
      (M_dustOf σ v1 v2).bind fun c5 =>
      some (c5.1, c5.2)
theorem hdM_dust : yX6_dust.cls = RX6 ∧ yX6_dust.cls ≠ "java/lang/invoke/MethodHandle" ∧ yX6_dust.cls ≠ "java/lang/invoke/VarHandle" ∧ (parseMethodDescriptor yX6_dust.desc).map (fun d => d.parameters.length) = some 2 := by decide +kernel
set_option maxHeartbeats 4000000 in
theorem metM_dust (l : Launch) (σ : MM) (v1 : Int32) (v2 : Int32) (res : Int32 × MM) (h : M_dust σ v1 v2 = some res) : MetM l yX6_dust cX6_dust 3 (some .int) 10 (fun K => [.ref (kO K), .int v1, .int v2]) σ (some (.int res.1)) res.2 := by
  refine met_walk rfl (by simp [mRt]) (fun _ => Nat.le_of_ble_eq_true rfl) (fun K p e s m args below meth c Q C hE ls hl hJ => ?_)
  have hx := C.1.1
  have hb := C.1.2.1
  have hown := C.1.2.2.2.1
  have hts := C.1.2.2.2.2
  have hl : lv_has ls 3 [(0, .ref (kO K)), (1, .int v1), (2, .int v2)] := hl
  unfold M_dust at h
  refine lv_iload_n hx hb dX6_dust_0 rfl (lv_at hl 1 rfl) ?_
  obtain ⟨c1, hc1, h⟩ := ob h
  refine mc_S (As := [.int v1]) (rest := []) C hJ (metM_isHour l σ v1 c1 hc1) (va_cwS 1 hts (lw_S q1435 q1436 q118 q1437) rfl rfl rfl hdM_isHour ⟨Nat.le_of_ble_eq_true rfl, Nat.le_of_ble_eq_true rfl⟩) rfl hl.1 rfl (lv_room (Nat.le_of_ble_eq_true rfl)) dX6_dust_1 (fun H locs hJ => ?_)
  refine lv_if_eq (tgt := 25) hx hb dX6_dust_4 (by decide) (fun hc2 => ?_) (fun hc2 => ?_)
  · have h := ip h hc2
    refine lv_bipush hx hb dX6_dust_25 kb_m2 ?_
    have h := Option.some.inj h
    subst h
    exact hE _ _ _ _ (some (.int ((-2 : Int32)))) hJ ⟨_, rfl⟩ rfl dX6_dust_27
  · have h := im h hc2
    refine lv_iload_n hx hb dX6_dust_7 rfl (lv_at hl 2 rfl) ?_
    refine lv_iconst hx hb dX6_dust_8 kc_0 ?_
    refine lv_iconst hx hb dX6_dust_9 kc_1 ?_
    obtain ⟨c3, hc3, h⟩ := ob h
    refine mc_S (As := [.int v2, .int (0 : Int32), .int (1 : Int32)]) (rest := []) C hJ (metM_in l σ v2 (0 : Int32) (1 : Int32) c3 hc3) (va_cwS 3 hts (lw_S q1365 q1366 q118 q1367) rfl rfl rfl hdM_in ⟨Nat.le_of_ble_eq_true rfl, Nat.le_of_ble_eq_true rfl⟩) rfl hl.1 rfl (lv_room (Nat.le_of_ble_eq_true rfl)) dX6_dust_10 (fun H locs hJ => ?_)
    refine lv_if_eq (tgt := 25) hx hb dX6_dust_13 (by decide) (fun hc4 => ?_) (fun hc4 => ?_)
    · have h := ip h hc4
      refine lv_bipush hx hb dX6_dust_25 kb_m2 ?_
      have h := Option.some.inj h
      subst h
      exact hE _ _ _ _ (some (.int ((-2 : Int32)))) hJ ⟨_, rfl⟩ rfl dX6_dust_27
    · have h := im h hc4
      refine lv_aload_n hx hb dX6_dust_16 rfl (lv_at hl 0 rfl) ?_
      refine lv_iload_n hx hb dX6_dust_17 rfl (lv_at hl 1 rfl) ?_
      refine lv_iload_n hx hb dX6_dust_18 rfl (lv_at hl 2 rfl) ?_
      obtain ⟨c5, hc5, h⟩ := ob h
      refine mc_V (As := [.int v1, .int v2]) (rest := []) C hJ (metM_dustOf l σ v1 v2 c5 hc5) (cwV 2 hts (lw_V q1605 q1607 qs89 q118 q1608) rfl rfl rfl hdM_dustOf ⟨Nat.le_of_ble_eq_true rfl, Nat.le_of_ble_eq_true rfl⟩) rfl hl.1 rfl (lv_room (Nat.le_of_ble_eq_true rfl)) dX6_dust_19 (fun H locs hJ => ?_)
      refine lv_goto (tgt := 27) hx hb dX6_dust_22 (by decide) ?_
      have h := Option.some.inj h
      subst h
      exact hE _ _ _ _ (some (.int (c5.1))) hJ ⟨_, rfl⟩ rfl dX6_dust_27
def M_boy (σ : MM) (v1 : Int32) : Option (Int32 × MM) :=
  (M_in σ v1 (0 : Int32) (1 : Int32)).bind fun c1 =>
  if c1 = 0 then
    some ((-2 : Int32), σ)
  else
    (M_boyOf σ v1).bind fun c3 =>
    some (c3.1, c3.2)
theorem hdM_boy : yX6_boy.cls = RX6 ∧ yX6_boy.cls ≠ "java/lang/invoke/MethodHandle" ∧ yX6_boy.cls ≠ "java/lang/invoke/VarHandle" ∧ (parseMethodDescriptor yX6_boy.desc).map (fun d => d.parameters.length) = some 1 := by decide +kernel
set_option maxHeartbeats 4000000 in
theorem metM_boy (l : Launch) (σ : MM) (v1 : Int32) (res : Int32 × MM) (h : M_boy σ v1 = some res) : MetM l yX6_boy cX6_boy 2 (some .int) 10 (fun K => [.ref (kO K), .int v1]) σ (some (.int res.1)) res.2 := by
  refine met_walk rfl (by simp [mRt]) (fun _ => Nat.le_of_ble_eq_true rfl) (fun K p e s m args below meth c Q C hE ls hl hJ => ?_)
  have hx := C.1.1
  have hb := C.1.2.1
  have hown := C.1.2.2.2.1
  have hts := C.1.2.2.2.2
  have hl : lv_has ls 2 [(0, .ref (kO K)), (1, .int v1)] := hl
  unfold M_boy at h
  refine lv_iload_n hx hb dX6_boy_0 rfl (lv_at hl 1 rfl) ?_
  refine lv_iconst hx hb dX6_boy_1 kc_0 ?_
  refine lv_iconst hx hb dX6_boy_2 kc_1 ?_
  obtain ⟨c1, hc1, h⟩ := ob h
  refine mc_S (As := [.int v1, .int (0 : Int32), .int (1 : Int32)]) (rest := []) C hJ (metM_in l σ v1 (0 : Int32) (1 : Int32) c1 hc1) (va_cwS 3 hts (lw_S q1365 q1366 q118 q1367) rfl rfl rfl hdM_in ⟨Nat.le_of_ble_eq_true rfl, Nat.le_of_ble_eq_true rfl⟩) rfl hl.1 rfl (lv_room (Nat.le_of_ble_eq_true rfl)) dX6_boy_3 (fun H locs hJ => ?_)
  refine lv_if_eq (tgt := 17) hx hb dX6_boy_6 (by decide) (fun hc2 => ?_) (fun hc2 => ?_)
  · have h := ip h hc2
    refine lv_bipush hx hb dX6_boy_17 kb_m2 ?_
    have h := Option.some.inj h
    subst h
    exact hE _ _ _ _ (some (.int ((-2 : Int32)))) hJ ⟨_, rfl⟩ rfl dX6_boy_19
  · have h := im h hc2
    refine lv_aload_n hx hb dX6_boy_9 rfl (lv_at hl 0 rfl) ?_
    refine lv_iload_n hx hb dX6_boy_10 rfl (lv_at hl 1 rfl) ?_
    obtain ⟨c3, hc3, h⟩ := ob h
    refine mc_V (As := [.int v1]) (rest := []) C hJ (metM_boyOf l σ v1 c3 hc3) (cwV 1 hts (lw_V q1617 q1619 qs91 q118 q1620) rfl rfl rfl hdM_boyOf ⟨Nat.le_of_ble_eq_true rfl, Nat.le_of_ble_eq_true rfl⟩) rfl hl.1 rfl (lv_room (Nat.le_of_ble_eq_true rfl)) dX6_boy_11 (fun H locs hJ => ?_)
    refine lv_goto (tgt := 19) hx hb dX6_boy_14 (by decide) ?_
    have h := Option.some.inj h
    subst h
    exact hE _ _ _ _ (some (.int (c3.1))) hJ ⟨_, rfl⟩ rfl dX6_boy_19
def M_calm (σ : MM) (v1 : Int32) : Option (Int32 × MM) :=
  (M_in σ v1 (-1 : Int32) (1 : Int32)).bind fun c1 =>
  if c1 = 0 then
    some ((-2 : Int32), σ)
  else
    (M_calmBy σ).bind fun c3 =>
    (M_ofRow c3.2 c3.1 v1).bind fun c4 =>
    some (c4, c3.2)
theorem hdM_calm : yX6_calm.cls = RX6 ∧ yX6_calm.cls ≠ "java/lang/invoke/MethodHandle" ∧ yX6_calm.cls ≠ "java/lang/invoke/VarHandle" ∧ (parseMethodDescriptor yX6_calm.desc).map (fun d => d.parameters.length) = some 1 := by decide +kernel
set_option maxHeartbeats 4000000 in
theorem metM_calm (l : Launch) (σ : MM) (v1 : Int32) (res : Int32 × MM) (h : M_calm σ v1 = some res) : MetM l yX6_calm cX6_calm 2 (some .int) 10 (fun K => [.ref (kO K), .int v1]) σ (some (.int res.1)) res.2 := by
  refine met_walk rfl (by simp [mRt]) (fun _ => Nat.le_of_ble_eq_true rfl) (fun K p e s m args below meth c Q C hE ls hl hJ => ?_)
  have hx := C.1.1
  have hb := C.1.2.1
  have hown := C.1.2.2.2.1
  have hts := C.1.2.2.2.2
  have hl : lv_has ls 2 [(0, .ref (kO K)), (1, .int v1)] := hl
  unfold M_calm at h
  refine lv_iload_n hx hb dX6_calm_0 rfl (lv_at hl 1 rfl) ?_
  refine lv_iconst hx hb dX6_calm_1 kc_m1 ?_
  refine lv_iconst hx hb dX6_calm_2 kc_1 ?_
  obtain ⟨c1, hc1, h⟩ := ob h
  refine mc_S (As := [.int v1, .int (-1 : Int32), .int (1 : Int32)]) (rest := []) C hJ (metM_in l σ v1 (-1 : Int32) (1 : Int32) c1 hc1) (va_cwS 3 hts (lw_S q1365 q1366 q118 q1367) rfl rfl rfl hdM_in ⟨Nat.le_of_ble_eq_true rfl, Nat.le_of_ble_eq_true rfl⟩) rfl hl.1 rfl (lv_room (Nat.le_of_ble_eq_true rfl)) dX6_calm_3 (fun H locs hJ => ?_)
  refine lv_if_eq (tgt := 21) hx hb dX6_calm_6 (by decide) (fun hc2 => ?_) (fun hc2 => ?_)
  · have h := ip h hc2
    refine lv_bipush hx hb dX6_calm_21 kb_m2 ?_
    have h := Option.some.inj h
    subst h
    exact hE _ _ _ _ (some (.int ((-2 : Int32)))) hJ ⟨_, rfl⟩ rfl dX6_calm_23
  · have h := im h hc2
    refine lv_aload_n hx hb dX6_calm_9 rfl (lv_at hl 0 rfl) ?_
    refine lv_aload_n hx hb dX6_calm_10 rfl (lv_at hl 0 rfl) ?_
    obtain ⟨c3, hc3, h⟩ := ob h
    refine mc_V (As := []) (rest := [.ref (kO K)]) C hJ (metM_calmBy l σ c3 hc3) (cwV 0 hts (lw_V q1625 q1627 qs92 q118 q1628) rfl rfl rfl hdM_calmBy ⟨Nat.le_of_ble_eq_true rfl, Nat.le_of_ble_eq_true rfl⟩) rfl hl.1 rfl (lv_room (Nat.le_of_ble_eq_true rfl)) dX6_calm_11 (fun H locs hJ => ?_)
    refine lv_iload_n hx hb dX6_calm_14 rfl (lv_at hl 1 rfl) ?_
    obtain ⟨c4, hc4, h⟩ := ob h
    refine mc_V (As := [.int c3.1, .int v1]) (rest := []) C hJ (metM_ofRow l c3.2 c3.1 v1 c4 hc4) (cwV 2 hts (lw_V q1633 q1635 qs94 q118 q1636) rfl rfl rfl hdM_ofRow ⟨Nat.le_of_ble_eq_true rfl, Nat.le_of_ble_eq_true rfl⟩) rfl hl.1 rfl (lv_room (Nat.le_of_ble_eq_true rfl)) dX6_calm_15 (fun H locs hJ => ?_)
    refine lv_goto (tgt := 23) hx hb dX6_calm_18 (by decide) ?_
    have h := Option.some.inj h
    subst h
    exact hE _ _ _ _ (some (.int (c4))) hJ ⟨_, rfl⟩ rfl dX6_calm_23
def M_never (σ : MM) : Option (Int32 × MM) :=
  (M_neverNow σ).bind fun c1 =>
  some (c1.1, c1.2)
theorem hdM_never : yX6_never.cls = RX6 ∧ yX6_never.cls ≠ "java/lang/invoke/MethodHandle" ∧ yX6_never.cls ≠ "java/lang/invoke/VarHandle" ∧ (parseMethodDescriptor yX6_never.desc).map (fun d => d.parameters.length) = some 0 := by decide +kernel
set_option maxHeartbeats 4000000 in
theorem metM_never (l : Launch) (σ : MM) (res : Int32 × MM) (h : M_never σ = some res) : MetM l yX6_never cX6_never 1 (some .int) 10 (fun K => [.ref (kO K)]) σ (some (.int res.1)) res.2 := by
  refine met_walk rfl (by simp [mRt]) (fun _ => Nat.le_of_ble_eq_true rfl) (fun K p e s m args below meth c Q C hE ls hl hJ => ?_)
  have hx := C.1.1
  have hb := C.1.2.1
  have hown := C.1.2.2.2.1
  have hts := C.1.2.2.2.2
  have hl : lv_has ls 1 [(0, .ref (kO K))] := hl
  unfold M_never at h
  refine lv_aload_n hx hb dX6_never_0 rfl (lv_at hl 0 rfl) ?_
  obtain ⟨c1, hc1, h⟩ := ob h
  refine mc_V (As := []) (rest := []) C hJ (metM_neverNow l σ c1 hc1) (cwV 0 hts (lw_V q1649 q1651 qs95 q118 q1652) rfl rfl rfl hdM_neverNow ⟨Nat.le_of_ble_eq_true rfl, Nat.le_of_ble_eq_true rfl⟩) rfl hl.1 rfl (lv_room (Nat.le_of_ble_eq_true rfl)) dX6_never_1 (fun H locs hJ => ?_)
  have h := Option.some.inj h
  subst h
  exact hE _ _ _ _ (some (.int (c1.1))) hJ ⟨_, rfl⟩ rfl dX6_never_4
def M_sort (σ : MM) (v1 : Int32) : Option (Int32 × MM) :=
  (M_isMember σ v1).bind fun c1 =>
  if c1.1 = 0 then
    some ((-2 : Int32), c1.2)
  else
    (M_sortsBy c1.2 v1).bind fun c3 =>
    some (c3.1, c3.2)
theorem hdM_sort : yX6_sort.cls = RX6 ∧ yX6_sort.cls ≠ "java/lang/invoke/MethodHandle" ∧ yX6_sort.cls ≠ "java/lang/invoke/VarHandle" ∧ (parseMethodDescriptor yX6_sort.desc).map (fun d => d.parameters.length) = some 1 := by decide +kernel
set_option maxHeartbeats 4000000 in
theorem metM_sort (l : Launch) (σ : MM) (v1 : Int32) (res : Int32 × MM) (h : M_sort σ v1 = some res) : MetM l yX6_sort cX6_sort 2 (some .int) 10 (fun K => [.ref (kO K), .int v1]) σ (some (.int res.1)) res.2 := by
  refine met_walk rfl (by simp [mRt]) (fun _ => Nat.le_of_ble_eq_true rfl) (fun K p e s m args below meth c Q C hE ls hl hJ => ?_)
  have hx := C.1.1
  have hb := C.1.2.1
  have hown := C.1.2.2.2.1
  have hts := C.1.2.2.2.2
  have hl : lv_has ls 2 [(0, .ref (kO K)), (1, .int v1)] := hl
  unfold M_sort at h
  refine lv_aload_n hx hb dX6_sort_0 rfl (lv_at hl 0 rfl) ?_
  refine lv_iload_n hx hb dX6_sort_1 rfl (lv_at hl 1 rfl) ?_
  obtain ⟨c1, hc1, h⟩ := ob h
  refine mc_V (As := [.int v1]) (rest := []) C hJ (metM_isMember l σ v1 c1 hc1) (cwV 1 hts (lw_V q1423 q1425 qs59 q118 q1426) rfl rfl rfl hdM_isMember ⟨Nat.le_of_ble_eq_true rfl, Nat.le_of_ble_eq_true rfl⟩) rfl hl.1 rfl (lv_room (Nat.le_of_ble_eq_true rfl)) dX6_sort_2 (fun H locs hJ => ?_)
  refine lv_if_eq (tgt := 16) hx hb dX6_sort_5 (by decide) (fun hc2 => ?_) (fun hc2 => ?_)
  · have h := ip h hc2
    refine lv_bipush hx hb dX6_sort_16 kb_m2 ?_
    have h := Option.some.inj h
    subst h
    exact hE _ _ _ _ (some (.int ((-2 : Int32)))) hJ ⟨_, rfl⟩ rfl dX6_sort_18
  · have h := im h hc2
    refine lv_aload_n hx hb dX6_sort_8 rfl (lv_at hl 0 rfl) ?_
    refine lv_iload_n hx hb dX6_sort_9 rfl (lv_at hl 1 rfl) ?_
    obtain ⟨c3, hc3, h⟩ := ob h
    refine mc_V (As := [.int v1]) (rest := []) C hJ (metM_sortsBy l c1.2 v1 c3 hc3) (cwV 1 hts (lw_V q1661 q1663 qs97 q118 q1664) rfl rfl rfl hdM_sortsBy ⟨Nat.le_of_ble_eq_true rfl, Nat.le_of_ble_eq_true rfl⟩) rfl hl.1 rfl (lv_room (Nat.le_of_ble_eq_true rfl)) dX6_sort_10 (fun H locs hJ => ?_)
    refine lv_goto (tgt := 18) hx hb dX6_sort_13 (by decide) ?_
    have h := Option.some.inj h
    subst h
    exact hE _ _ _ _ (some (.int (c3.1))) hJ ⟨_, rfl⟩ rfl dX6_sort_18
def M_wet (σ : MM) (v1 : Int32) : Option (Int32 × MM) :=
  (M_isPlace σ v1).bind fun c1 =>
  if c1 = 0 then
    some ((-2 : Int32), σ)
  else
    (M_wetBy σ v1).bind fun c3 =>
    some (c3.1, c3.2)
theorem hdM_wet : yX6_wet.cls = RX6 ∧ yX6_wet.cls ≠ "java/lang/invoke/MethodHandle" ∧ yX6_wet.cls ≠ "java/lang/invoke/VarHandle" ∧ (parseMethodDescriptor yX6_wet.desc).map (fun d => d.parameters.length) = some 1 := by decide +kernel
set_option maxHeartbeats 4000000 in
theorem metM_wet (l : Launch) (σ : MM) (v1 : Int32) (res : Int32 × MM) (h : M_wet σ v1 = some res) : MetM l yX6_wet cX6_wet 2 (some .int) 10 (fun K => [.ref (kO K), .int v1]) σ (some (.int res.1)) res.2 := by
  refine met_walk rfl (by simp [mRt]) (fun _ => Nat.le_of_ble_eq_true rfl) (fun K p e s m args below meth c Q C hE ls hl hJ => ?_)
  have hx := C.1.1
  have hb := C.1.2.1
  have hown := C.1.2.2.2.1
  have hts := C.1.2.2.2.2
  have hl : lv_has ls 2 [(0, .ref (kO K)), (1, .int v1)] := hl
  unfold M_wet at h
  refine lv_iload_n hx hb dX6_wet_0 rfl (lv_at hl 1 rfl) ?_
  obtain ⟨c1, hc1, h⟩ := ob h
  refine mc_S (As := [.int v1]) (rest := []) C hJ (metM_isPlace l σ v1 c1 hc1) (va_cwS 1 hts (lw_S q1408 q1409 q118 q1410) rfl rfl rfl hdM_isPlace ⟨Nat.le_of_ble_eq_true rfl, Nat.le_of_ble_eq_true rfl⟩) rfl hl.1 rfl (lv_room (Nat.le_of_ble_eq_true rfl)) dX6_wet_1 (fun H locs hJ => ?_)
  refine lv_if_eq (tgt := 15) hx hb dX6_wet_4 (by decide) (fun hc2 => ?_) (fun hc2 => ?_)
  · have h := ip h hc2
    refine lv_bipush hx hb dX6_wet_15 kb_m2 ?_
    have h := Option.some.inj h
    subst h
    exact hE _ _ _ _ (some (.int ((-2 : Int32)))) hJ ⟨_, rfl⟩ rfl dX6_wet_17
  · have h := im h hc2
    refine lv_aload_n hx hb dX6_wet_7 rfl (lv_at hl 0 rfl) ?_
    refine lv_iload_n hx hb dX6_wet_8 rfl (lv_at hl 1 rfl) ?_
    obtain ⟨c3, hc3, h⟩ := ob h
    refine mc_V (As := [.int v1]) (rest := []) C hJ (metM_wetBy l σ v1 c3 hc3) (cwV 1 hts (lw_V q1669 q1671 qs98 q118 q1672) rfl rfl rfl hdM_wetBy ⟨Nat.le_of_ble_eq_true rfl, Nat.le_of_ble_eq_true rfl⟩) rfl hl.1 rfl (lv_room (Nat.le_of_ble_eq_true rfl)) dX6_wet_9 (fun H locs hJ => ?_)
    refine lv_goto (tgt := 17) hx hb dX6_wet_12 (by decide) ?_
    have h := Option.some.inj h
    subst h
    exact hE _ _ _ _ (some (.int (c3.1))) hJ ⟨_, rfl⟩ rfl dX6_wet_17
def M_askOf (σ : MM) (v1 : Int32) : Option (Int32 × MM) :=
  (M_wetBy σ v1).bind fun c1 =>
  (lp (S := Int32 × Int32 × Int32) (T := Int32) (fun w2 =>
    if (20 : Int32) ≤ w2.2.2 then
        some (.inr w2.1)
      else
        (lp (S := Int32 × Int32) (T := Int32) (fun w5 =>
          if (10 : Int32) ≤ w5.2 then
              some (.inr w5.1)
            else
              (lp (S := Int32 × Int32) (T := Int32) (fun w8 =>
                if (10 : Int32) ≤ w8.2 then
                    some (.inr w8.1)
                  else
                    (M_isIn c1.2 c1.1 w5.2).bind fun c11 =>
                    (if c11 = 0 then
                        some (0 : Int32)
                      else
                        (M_isIn c1.2 c1.1 w8.2).bind fun c13 =>
                        if c13 = 0 then
                          some (0 : Int32)
                        else
                          (mld c1.2 35 (((20 : Int32) * w5.2) + w2.2.2)).bind fun x15 =>
                          (mld c1.2 35 (((20 : Int32) * w8.2) + w2.2.2)).bind fun x16 =>
                          if x15 = x16 then
                            some (1 : Int32)
                          else
                            some (0 : Int32) : Option (Int32)).bind fun q18 =>
                    some (.inl ((w8.1 + q18), (w8.2 + 1)))) 2000 ((0 : Int32), (0 : Int32))).bind fun q9 =>
              if q9 ≤ w5.1 then
                some (.inl (w5.1, (w5.2 + 1)))
              else
                some (.inl (q9, (w5.2 + 1)))) 2000 ((0 : Int32), (0 : Int32))).bind fun q6 =>
        (if w2.1 = (-1 : Int32) then
            some (1 : Int32)
          else
            if w2.2.1 ≤ q6 then
              some (0 : Int32)
            else
              some (1 : Int32) : Option (Int32)).bind fun q22 =>
        (if q22 = 0 then
            some w2.1
          else
            some w2.2.2 : Option (Int32)).bind fun q24 =>
        if q22 = 0 then
          some (.inl (q24, w2.2.1, (w2.2.2 + 1)))
        else
          some (.inl (q24, q6, (w2.2.2 + 1)))) 2000 ((-1 : Int32), (0 : Int32), (0 : Int32))).bind fun q3 =>
  some (q3, c1.2)
theorem hdM_askOf : yX6_askOf.cls = RX6 ∧ yX6_askOf.cls ≠ "java/lang/invoke/MethodHandle" ∧ yX6_askOf.cls ≠ "java/lang/invoke/VarHandle" ∧ (parseMethodDescriptor yX6_askOf.desc).map (fun d => d.parameters.length) = some 1 := by decide +kernel
set_option maxHeartbeats 4000000 in
theorem metM_askOf (l : Launch) (σ : MM) (v1 : Int32) (res : Int32 × MM) (h : M_askOf σ v1 = some res) : MetM l yX6_askOf cX6_askOf 10 (some .int) 10 (fun K => [.ref (kO K), .int v1]) σ (some (.int res.1)) res.2 := by
  refine met_walk rfl (by simp [mRt]) (fun _ => Nat.le_of_ble_eq_true rfl) (fun K p e s m args below meth c Q C hE ls hl hJ => ?_)
  have hx := C.1.1
  have hb := C.1.2.1
  have hown := C.1.2.2.2.1
  have hts := C.1.2.2.2.2
  have hl : lv_has ls 10 [(0, .ref (kO K)), (1, .int v1)] := hl
  unfold M_askOf at h
  refine lv_aload_n hx hb dX6_askOf_0 rfl (lv_at hl 0 rfl) ?_
  refine lv_iload_n hx hb dX6_askOf_1 rfl (lv_at hl 1 rfl) ?_
  obtain ⟨c1, hc1, h⟩ := ob h
  refine mc_V (As := [.int v1]) (rest := []) C hJ (metM_wetBy l σ v1 c1 hc1) (cwV 1 hts (lw_V q1669 q1671 qs98 q118 q1672) rfl rfl rfl hdM_wetBy ⟨Nat.le_of_ble_eq_true rfl, Nat.le_of_ble_eq_true rfl⟩) rfl hl.1 rfl (lv_room (Nat.le_of_ble_eq_true rfl)) dX6_askOf_2 (fun H locs hJ => ?_)
  refine lv_istore_n (lv' := [(2, .int c1.1), (0, .ref (kO K)), (1, .int v1)]) hx hb dX6_askOf_5 rfl hl (Nat.le_of_ble_eq_true rfl) rfl (fun ls hl => ?_)
  refine lv_iconst hx hb dX6_askOf_6 kc_m1 ?_
  refine lv_istore_n (lv' := [(3, .int (-1 : Int32)), (2, .int c1.1), (0, .ref (kO K)), (1, .int v1)]) hx hb dX6_askOf_7 rfl hl (Nat.le_of_ble_eq_true rfl) rfl (fun ls hl => ?_)
  refine lv_iconst hx hb dX6_askOf_8 kc_0 ?_
  refine lv_istore (lv' := [(4, .int (0 : Int32)), (3, .int (-1 : Int32)), (2, .int c1.1), (0, .ref (kO K)), (1, .int v1)]) hx hb dX6_askOf_9 hl (Nat.le_of_ble_eq_true rfl) rfl (fun ls hl => ?_)
  refine lv_iconst hx hb dX6_askOf_11 kc_0 ?_
  refine lv_istore (lv' := [(5, .int (0 : Int32)), (4, .int (0 : Int32)), (3, .int (-1 : Int32)), (2, .int c1.1), (0, .ref (kO K)), (1, .int v1)]) hx hb dX6_askOf_12 hl (Nat.le_of_ble_eq_true rfl) rfl (fun ls hl => ?_)
  obtain ⟨q3, hq3, h⟩ := ob h
  have hxq3 : ∀ (H : Heap) (locs : List Loc) (ls : Array Slot), MJ K c1.2 s.heap H locs → lv_has ls 10 [(3, .int q3)] → W p l e (rmd 10) s m args below meth c H locs 0 0 Q (F0 m 183 ls []) := by
    intro H locs ls hJ hl
    refine lv_iload_n hx hb dX6_askOf_183 rfl (lv_at hl 0 rfl) ?_
    have h := Option.some.inj h
    subst h
    exact hE _ _ _ _ (some (.int (q3))) hJ ⟨_, rfl⟩ rfl dX6_askOf_184
  refine lp_ind (P := fun (w2 : Int32 × Int32 × Int32) => ∀ (H : Heap) (locs : List Loc) (ls : Array Slot), MJ K c1.2 s.heap H locs → lv_has ls 10 [(0, .ref (kO K)), (2, .int c1.1), (3, .int w2.1), (4, .int w2.2.1), (5, .int w2.2.2)] → W p l e (rmd 10) s m args below meth c H locs 0 0 Q (F0 m 14 ls [])) ?_ _ _ hq3 _ _ _ hJ (lv_sub hl [4, 3, 2, 1, 0] rfl)
  intro nw2 w2 ihw2 zw2 hzw2 hqw2 H locs ls hJ hl
  refine lv_iload hx hb dX6_askOf_14 (lv_at hl 4 rfl) ?_
  refine lv_bipush hx hb dX6_askOf_16 kb_20 ?_
  refine lv_icmp_ge (tgt := 183) hx hb dX6_askOf_18 (by decide) (fun hc4 => ?_) (fun hc4 => ?_)
  · have hzw2 := ip hzw2 hc4
    have hzw2 := Option.some.inj hzw2
    subst hzw2
    have hqw2 : _ = q3 := hqw2
    subst hqw2
    exact hxq3 _ _ _ hJ (lv_sub hl [2] rfl)
  · have hzw2 := im hzw2 hc4
    refine lv_iconst hx hb dX6_askOf_21 kc_0 ?_
    refine lv_istore (lv' := [(6, .int (0 : Int32)), (0, .ref (kO K)), (2, .int c1.1), (3, .int w2.1), (4, .int w2.2.1), (5, .int w2.2.2)]) hx hb dX6_askOf_22 hl (Nat.le_of_ble_eq_true rfl) rfl (fun ls hl => ?_)
    refine lv_iconst hx hb dX6_askOf_24 kc_0 ?_
    refine lv_istore (lv' := [(7, .int (0 : Int32)), (6, .int (0 : Int32)), (0, .ref (kO K)), (2, .int c1.1), (3, .int w2.1), (4, .int w2.2.1), (5, .int w2.2.2)]) hx hb dX6_askOf_25 hl (Nat.le_of_ble_eq_true rfl) rfl (fun ls hl => ?_)
    obtain ⟨q6, hq6, hzw2⟩ := ob hzw2
    have hxq6 : ∀ (H : Heap) (locs : List Loc) (ls : Array Slot), MJ K c1.2 s.heap H locs → lv_has ls 10 [(0, .ref (kO K)), (2, .int c1.1), (3, .int w2.1), (4, .int w2.2.1), (5, .int w2.2.2), (6, .int q6)] → W p l e (rmd 10) s m args below meth c H locs 0 0 Q (F0 m 132 ls []) := by
      intro H locs ls hJ hl
      refine lv_iload_n hx hb dX6_askOf_132 rfl (lv_at hl 2 rfl) ?_
      refine lv_iconst hx hb dX6_askOf_133 kc_m1 ?_
      obtain ⟨q22, hq22, hzw2⟩ := ob hzw2
      have hjq22 : ∀ (H : Heap) (locs : List Loc) (ls : Array Slot), MJ K c1.2 s.heap H locs → lv_has ls 10 [(0, .ref (kO K)), (2, .int c1.1), (3, .int w2.1), (4, .int w2.2.1), (5, .int w2.2.2), (6, .int q6)] → W p l e (rmd 10) s m args below meth c H locs 0 0 Q (F0 m 149 ls [.int q22]) := by
        intro H locs ls hJ hl
        refine lv_istore (lv' := [(7, .int q22), (0, .ref (kO K)), (2, .int c1.1), (3, .int w2.1), (4, .int w2.2.1), (5, .int w2.2.2), (6, .int q6)]) hx hb dX6_askOf_149 hl (Nat.le_of_ble_eq_true rfl) rfl (fun ls hl => ?_)
        refine lv_iload hx hb dX6_askOf_151 (lv_at hl 0 rfl) ?_
        obtain ⟨q24, hq24, hzw2⟩ := ob hzw2
        have hjq24 : ∀ (H : Heap) (locs : List Loc) (ls : Array Slot), MJ K c1.2 s.heap H locs → lv_has ls 10 [(0, .ref (kO K)), (2, .int c1.1), (4, .int w2.2.1), (5, .int w2.2.2), (6, .int q6), (7, .int q22)] → W p l e (rmd 10) s m args below meth c H locs 0 0 Q (F0 m 162 ls [.int q24]) := by
          intro H locs ls hJ hl
          refine lv_istore_n (lv' := [(3, .int q24), (0, .ref (kO K)), (2, .int c1.1), (4, .int w2.2.1), (5, .int w2.2.2), (6, .int q6), (7, .int q22)]) hx hb dX6_askOf_162 rfl hl (Nat.le_of_ble_eq_true rfl) rfl (fun ls hl => ?_)
          refine lv_iload hx hb dX6_askOf_163 (lv_at hl 6 rfl) ?_
          refine lv_if_eq (tgt := 173) hx hb dX6_askOf_165 (by decide) (fun hc25 => ?_) (fun hc25 => ?_)
          · have hzw2 := ip hzw2 hc25
            refine lv_iload hx hb dX6_askOf_173 (lv_at hl 3 rfl) ?_
            refine lv_istore (lv' := [(4, .int w2.2.1), (3, .int q24), (0, .ref (kO K)), (2, .int c1.1), (5, .int w2.2.2), (6, .int q6), (7, .int q22)]) hx hb dX6_askOf_175 hl (Nat.le_of_ble_eq_true rfl) rfl (fun ls hl => ?_)
            refine lv_iinc (v := (w2.2.2 + 1)) (lv' := [(5, .int (w2.2.2 + 1)), (4, .int w2.2.1), (3, .int q24), (0, .ref (kO K)), (2, .int c1.1), (6, .int q6), (7, .int q22)]) hx hb dX6_askOf_177 hl (k := 4) rfl rfl (Nat.le_of_ble_eq_true rfl) rfl (fun ls hl => ?_)
            refine lv_goto (tgt := 14) hx hb dX6_askOf_180 (by decide) ?_
            have hzw2 := Option.some.inj hzw2
            subst hzw2
            exact ihw2 _ hqw2 _ _ _ hJ (lv_sub hl [3, 4, 2, 1, 0] rfl)
          · have hzw2 := im hzw2 hc25
            refine lv_iload hx hb dX6_askOf_168 (lv_at hl 5 rfl) ?_
            refine lv_goto (tgt := 175) hx hb dX6_askOf_170 (by decide) ?_
            refine lv_istore (lv' := [(4, .int q6), (3, .int q24), (0, .ref (kO K)), (2, .int c1.1), (5, .int w2.2.2), (6, .int q6), (7, .int q22)]) hx hb dX6_askOf_175 hl (Nat.le_of_ble_eq_true rfl) rfl (fun ls hl => ?_)
            refine lv_iinc (v := (w2.2.2 + 1)) (lv' := [(5, .int (w2.2.2 + 1)), (4, .int q6), (3, .int q24), (0, .ref (kO K)), (2, .int c1.1), (6, .int q6), (7, .int q22)]) hx hb dX6_askOf_177 hl (k := 4) rfl rfl (Nat.le_of_ble_eq_true rfl) rfl (fun ls hl => ?_)
            refine lv_goto (tgt := 14) hx hb dX6_askOf_180 (by decide) ?_
            have hzw2 := Option.some.inj hzw2
            subst hzw2
            exact ihw2 _ hqw2 _ _ _ hJ (lv_sub hl [3, 4, 2, 1, 0] rfl)
        refine lv_if_eq (tgt := 161) hx hb dX6_askOf_153 (by decide) (fun hc23 => ?_) (fun hc23 => ?_)
        · have hq24 := ip hq24 hc23
          refine lv_iload_n hx hb dX6_askOf_161 rfl (lv_at hl 3 rfl) ?_
          have hq24 := Option.some.inj hq24
          subst hq24
          exact hjq24 _ _ _ hJ (lv_sub hl [1, 2, 4, 5, 6, 0] rfl)
        · have hq24 := im hq24 hc23
          refine lv_iload hx hb dX6_askOf_156 (lv_at hl 5 rfl) ?_
          refine lv_goto (tgt := 162) hx hb dX6_askOf_158 (by decide) ?_
          have hq24 := Option.some.inj hq24
          subst hq24
          exact hjq24 _ _ _ hJ (lv_sub hl [1, 2, 4, 5, 6, 0] rfl)
      refine lv_icmp_eq (tgt := 144) hx hb dX6_askOf_134 (by decide) (fun hc20 => ?_) (fun hc20 => ?_)
      · have hq22 := ip hq22 hc20
        refine lv_iconst hx hb dX6_askOf_144 kc_1 ?_
        refine lv_goto (tgt := 149) hx hb dX6_askOf_145 (by decide) ?_
        have hq22 := Option.some.inj hq22
        subst hq22
        exact hjq22 _ _ _ hJ (lv_sub hl [0, 1, 2, 3, 4, 5] rfl)
      · have hq22 := im hq22 hc20
        refine lv_iload hx hb dX6_askOf_137 (lv_at hl 5 rfl) ?_
        refine lv_iload hx hb dX6_askOf_139 (lv_at hl 3 rfl) ?_
        refine lv_icmp_ge (tgt := 148) hx hb dX6_askOf_141 (by decide) (fun hc21 => ?_) (fun hc21 => ?_)
        · have hq22 := ip hq22 hc21
          refine lv_iconst hx hb dX6_askOf_148 kc_0 ?_
          have hq22 := Option.some.inj hq22
          subst hq22
          exact hjq22 _ _ _ hJ (lv_sub hl [0, 1, 2, 3, 4, 5] rfl)
        · have hq22 := im hq22 hc21
          refine lv_iconst hx hb dX6_askOf_144 kc_1 ?_
          refine lv_goto (tgt := 149) hx hb dX6_askOf_145 (by decide) ?_
          have hq22 := Option.some.inj hq22
          subst hq22
          exact hjq22 _ _ _ hJ (lv_sub hl [0, 1, 2, 3, 4, 5] rfl)
    refine lp_ind (P := fun (w5 : Int32 × Int32) => ∀ (H : Heap) (locs : List Loc) (ls : Array Slot), MJ K c1.2 s.heap H locs → lv_has ls 10 [(0, .ref (kO K)), (2, .int c1.1), (3, .int w2.1), (4, .int w2.2.1), (5, .int w2.2.2), (6, .int w5.1), (7, .int w5.2)] → W p l e (rmd 10) s m args below meth c H locs 0 0 Q (F0 m 27 ls [])) ?_ _ _ hq6 _ _ _ hJ (lv_sub hl [2, 3, 4, 5, 6, 1, 0] rfl)
    intro nw5 w5 ihw5 zw5 hzw5 hqw5 H locs ls hJ hl
    refine lv_iload hx hb dX6_askOf_27 (lv_at hl 6 rfl) ?_
    refine lv_bipush hx hb dX6_askOf_29 kb_10 ?_
    refine lv_icmp_ge (tgt := 132) hx hb dX6_askOf_31 (by decide) (fun hc7 => ?_) (fun hc7 => ?_)
    · have hzw5 := ip hzw5 hc7
      have hzw5 := Option.some.inj hzw5
      subst hzw5
      have hqw5 : _ = q6 := hqw5
      subst hqw5
      exact hxq6 _ _ _ hJ (lv_sub hl [0, 1, 2, 3, 4, 5] rfl)
    · have hzw5 := im hzw5 hc7
      refine lv_iconst hx hb dX6_askOf_34 kc_0 ?_
      refine lv_istore (lv' := [(8, .int (0 : Int32)), (0, .ref (kO K)), (2, .int c1.1), (3, .int w2.1), (4, .int w2.2.1), (5, .int w2.2.2), (6, .int w5.1), (7, .int w5.2)]) hx hb dX6_askOf_35 hl (Nat.le_of_ble_eq_true rfl) rfl (fun ls hl => ?_)
      refine lv_iconst hx hb dX6_askOf_37 kc_0 ?_
      refine lv_istore (lv' := [(9, .int (0 : Int32)), (8, .int (0 : Int32)), (0, .ref (kO K)), (2, .int c1.1), (3, .int w2.1), (4, .int w2.2.1), (5, .int w2.2.2), (6, .int w5.1), (7, .int w5.2)]) hx hb dX6_askOf_38 hl (Nat.le_of_ble_eq_true rfl) rfl (fun ls hl => ?_)
      obtain ⟨q9, hq9, hzw5⟩ := ob hzw5
      have hxq9 : ∀ (H : Heap) (locs : List Loc) (ls : Array Slot), MJ K c1.2 s.heap H locs → lv_has ls 10 [(0, .ref (kO K)), (2, .int c1.1), (3, .int w2.1), (4, .int w2.2.1), (5, .int w2.2.2), (6, .int w5.1), (7, .int w5.2), (8, .int q9)] → W p l e (rmd 10) s m args below meth c H locs 0 0 Q (F0 m 110 ls []) := by
        intro H locs ls hJ hl
        refine lv_iload hx hb dX6_askOf_110 (lv_at hl 7 rfl) ?_
        refine lv_iload hx hb dX6_askOf_112 (lv_at hl 5 rfl) ?_
        refine lv_icmp_le (tgt := 122) hx hb dX6_askOf_114 (by decide) (fun hc19 => ?_) (fun hc19 => ?_)
        · have hzw5 := ip hzw5 hc19
          refine lv_iload hx hb dX6_askOf_122 (lv_at hl 5 rfl) ?_
          refine lv_istore (lv' := [(6, .int w5.1), (0, .ref (kO K)), (2, .int c1.1), (3, .int w2.1), (4, .int w2.2.1), (5, .int w2.2.2), (7, .int w5.2), (8, .int q9)]) hx hb dX6_askOf_124 hl (Nat.le_of_ble_eq_true rfl) rfl (fun ls hl => ?_)
          refine lv_iinc (v := (w5.2 + 1)) (lv' := [(7, .int (w5.2 + 1)), (6, .int w5.1), (0, .ref (kO K)), (2, .int c1.1), (3, .int w2.1), (4, .int w2.2.1), (5, .int w2.2.2), (8, .int q9)]) hx hb dX6_askOf_126 hl (k := 6) rfl rfl (Nat.le_of_ble_eq_true rfl) rfl (fun ls hl => ?_)
          refine lv_goto (tgt := 27) hx hb dX6_askOf_129 (by decide) ?_
          have hzw5 := Option.some.inj hzw5
          subst hzw5
          exact ihw5 _ hqw5 _ _ _ hJ (lv_sub hl [2, 3, 4, 5, 6, 1, 0] rfl)
        · have hzw5 := im hzw5 hc19
          refine lv_iload hx hb dX6_askOf_117 (lv_at hl 7 rfl) ?_
          refine lv_goto (tgt := 124) hx hb dX6_askOf_119 (by decide) ?_
          refine lv_istore (lv' := [(6, .int q9), (0, .ref (kO K)), (2, .int c1.1), (3, .int w2.1), (4, .int w2.2.1), (5, .int w2.2.2), (7, .int w5.2), (8, .int q9)]) hx hb dX6_askOf_124 hl (Nat.le_of_ble_eq_true rfl) rfl (fun ls hl => ?_)
          refine lv_iinc (v := (w5.2 + 1)) (lv' := [(7, .int (w5.2 + 1)), (6, .int q9), (0, .ref (kO K)), (2, .int c1.1), (3, .int w2.1), (4, .int w2.2.1), (5, .int w2.2.2), (8, .int q9)]) hx hb dX6_askOf_126 hl (k := 6) rfl rfl (Nat.le_of_ble_eq_true rfl) rfl (fun ls hl => ?_)
          refine lv_goto (tgt := 27) hx hb dX6_askOf_129 (by decide) ?_
          have hzw5 := Option.some.inj hzw5
          subst hzw5
          exact ihw5 _ hqw5 _ _ _ hJ (lv_sub hl [2, 3, 4, 5, 6, 1, 0] rfl)
      refine lp_ind (P := fun (w8 : Int32 × Int32) => ∀ (H : Heap) (locs : List Loc) (ls : Array Slot), MJ K c1.2 s.heap H locs → lv_has ls 10 [(0, .ref (kO K)), (2, .int c1.1), (3, .int w2.1), (4, .int w2.2.1), (5, .int w2.2.2), (6, .int w5.1), (7, .int w5.2), (8, .int w8.1), (9, .int w8.2)] → W p l e (rmd 10) s m args below meth c H locs 0 0 Q (F0 m 40 ls [])) ?_ _ _ hq9 _ _ _ hJ (lv_sub hl [2, 3, 4, 5, 6, 7, 8, 1, 0] rfl)
      intro nw8 w8 ihw8 zw8 hzw8 hqw8 H locs ls hJ hl
      refine lv_iload hx hb dX6_askOf_40 (lv_at hl 8 rfl) ?_
      refine lv_bipush hx hb dX6_askOf_42 kb_10 ?_
      refine lv_icmp_ge (tgt := 110) hx hb dX6_askOf_44 (by decide) (fun hc10 => ?_) (fun hc10 => ?_)
      · have hzw8 := ip hzw8 hc10
        have hzw8 := Option.some.inj hzw8
        subst hzw8
        have hqw8 : _ = q9 := hqw8
        subst hqw8
        exact hxq9 _ _ _ hJ (lv_sub hl [0, 1, 2, 3, 4, 5, 6, 7] rfl)
      · have hzw8 := im hzw8 hc10
        refine lv_iload hx hb dX6_askOf_47 (lv_at hl 7 rfl) ?_
        refine lv_iload_n hx hb dX6_askOf_49 rfl (lv_at hl 1 rfl) ?_
        refine lv_iload hx hb dX6_askOf_50 (lv_at hl 6 rfl) ?_
        obtain ⟨c11, hc11, hzw8⟩ := ob hzw8
        refine mc_S (As := [.int c1.1, .int w5.2]) (rest := [.int w8.1]) C hJ (metM_isIn l c1.2 c1.1 w5.2 c11 hc11) (va_cwS 2 hts (lw_S q1478 q1479 q118 q1480) rfl rfl rfl hdM_isIn ⟨Nat.le_of_ble_eq_true rfl, Nat.le_of_ble_eq_true rfl⟩) rfl hl.1 rfl (lv_room (Nat.le_of_ble_eq_true rfl)) dX6_askOf_52 (fun H locs hJ => ?_)
        obtain ⟨q18, hq18, hzw8⟩ := ob hzw8
        have hjq18 : ∀ (H : Heap) (locs : List Loc) (ls : Array Slot), MJ K c1.2 s.heap H locs → lv_has ls 10 [(0, .ref (kO K)), (2, .int c1.1), (3, .int w2.1), (4, .int w2.2.1), (5, .int w2.2.2), (6, .int w5.1), (7, .int w5.2), (9, .int w8.2)] → W p l e (rmd 10) s m args below meth c H locs 0 0 Q (F0 m 101 ls [.int q18, .int w8.1]) := by
          intro H locs ls hJ hl
          refine lv_iadd hx hb dX6_askOf_101 ?_
          refine lv_istore (lv' := [(8, .int (w8.1 + q18)), (0, .ref (kO K)), (2, .int c1.1), (3, .int w2.1), (4, .int w2.2.1), (5, .int w2.2.2), (6, .int w5.1), (7, .int w5.2), (9, .int w8.2)]) hx hb dX6_askOf_102 hl (Nat.le_of_ble_eq_true rfl) rfl (fun ls hl => ?_)
          refine lv_iinc (v := (w8.2 + 1)) (lv' := [(9, .int (w8.2 + 1)), (8, .int (w8.1 + q18)), (0, .ref (kO K)), (2, .int c1.1), (3, .int w2.1), (4, .int w2.2.1), (5, .int w2.2.2), (6, .int w5.1), (7, .int w5.2)]) hx hb dX6_askOf_104 hl (k := 8) rfl rfl (Nat.le_of_ble_eq_true rfl) rfl (fun ls hl => ?_)
          refine lv_goto (tgt := 40) hx hb dX6_askOf_107 (by decide) ?_
          have hzw8 := Option.some.inj hzw8
          subst hzw8
          exact ihw8 _ hqw8 _ _ _ hJ (lv_sub hl [2, 3, 4, 5, 6, 7, 8, 1, 0] rfl)
        refine lv_if_eq (tgt := 100) hx hb dX6_askOf_55 (by decide) (fun hc12 => ?_) (fun hc12 => ?_)
        · have hq18 := ip hq18 hc12
          refine lv_iconst hx hb dX6_askOf_100 kc_0 ?_
          have hq18 := Option.some.inj hq18
          subst hq18
          exact hjq18 _ _ _ hJ (lv_sub hl [0, 1, 2, 3, 4, 5, 6, 8] rfl)
        · have hq18 := im hq18 hc12
          refine lv_iload_n hx hb dX6_askOf_58 rfl (lv_at hl 1 rfl) ?_
          refine lv_iload hx hb dX6_askOf_59 (lv_at hl 8 rfl) ?_
          obtain ⟨c13, hc13, hq18⟩ := ob hq18
          refine mc_S (As := [.int c1.1, .int w8.2]) (rest := [.int w8.1]) C hJ (metM_isIn l c1.2 c1.1 w8.2 c13 hc13) (va_cwS 2 hts (lw_S q1478 q1479 q118 q1480) rfl rfl rfl hdM_isIn ⟨Nat.le_of_ble_eq_true rfl, Nat.le_of_ble_eq_true rfl⟩) rfl hl.1 rfl (lv_room (Nat.le_of_ble_eq_true rfl)) dX6_askOf_61 (fun H locs hJ => ?_)
          refine lv_if_eq (tgt := 100) hx hb dX6_askOf_64 (by decide) (fun hc14 => ?_) (fun hc14 => ?_)
          · have hq18 := ip hq18 hc14
            refine lv_iconst hx hb dX6_askOf_100 kc_0 ?_
            have hq18 := Option.some.inj hq18
            subst hq18
            exact hjq18 _ _ _ hJ (lv_sub hl [0, 1, 2, 3, 4, 5, 6, 8] rfl)
          · have hq18 := im hq18 hc14
            refine lv_aload_n hx hb dX6_askOf_67 rfl (lv_at hl 0 rfl) ?_
            refine mx_ga C hJ 35 (Nat.le_of_ble_eq_true rfl) rfl lk35 dX6_askOf_68 ?_
            refine lv_bipush hx hb dX6_askOf_71 kb_20 ?_
            refine lv_iload hx hb dX6_askOf_73 (lv_at hl 6 rfl) ?_
            refine lv_imul hx hb dX6_askOf_75 ?_
            refine lv_iload hx hb dX6_askOf_76 (lv_at hl 4 rfl) ?_
            refine lv_iadd hx hb dX6_askOf_78 ?_
            obtain ⟨x15, hx15, hq18⟩ := ob hq18
            refine my_il C hJ 35 rfl hx15 dX6_askOf_79 ?_
            refine lv_aload_n hx hb dX6_askOf_80 rfl (lv_at hl 0 rfl) ?_
            refine mx_ga C hJ 35 (Nat.le_of_ble_eq_true rfl) rfl lk35 dX6_askOf_81 ?_
            refine lv_bipush hx hb dX6_askOf_84 kb_20 ?_
            refine lv_iload hx hb dX6_askOf_86 (lv_at hl 8 rfl) ?_
            refine lv_imul hx hb dX6_askOf_88 ?_
            refine lv_iload hx hb dX6_askOf_89 (lv_at hl 4 rfl) ?_
            refine lv_iadd hx hb dX6_askOf_91 ?_
            obtain ⟨x16, hx16, hq18⟩ := ob hq18
            refine my_il C hJ 35 rfl hx16 dX6_askOf_92 ?_
            refine lv_icmp_ne (tgt := 100) hx hb dX6_askOf_93 (by decide) (fun hc17 => ?_) (fun hc17 => ?_)
            · have hq18 := im hq18 hc17
              refine lv_iconst hx hb dX6_askOf_100 kc_0 ?_
              have hq18 := Option.some.inj hq18
              subst hq18
              exact hjq18 _ _ _ hJ (lv_sub hl [0, 1, 2, 3, 4, 5, 6, 8] rfl)
            · have hq18 := ip hq18 hc17
              refine lv_iconst hx hb dX6_askOf_96 kc_1 ?_
              refine lv_goto (tgt := 101) hx hb dX6_askOf_97 (by decide) ?_
              have hq18 := Option.some.inj hq18
              subst hq18
              exact hjq18 _ _ _ hJ (lv_sub hl [0, 1, 2, 3, 4, 5, 6, 8] rfl)
