/-! the reference, walked (printed by tool/gen_m.py) -/
set_option maxRecDepth 100000
def M_dampNow (σ : MM) (v1 : Int32) : Option (Int32) :=
  (M_isPlace σ v1).bind fun c1 =>
  if c1 = 0 then
    some (-1 : Int32)
  else
    (mld σ 17 v1).bind fun x3 =>
    some x3
theorem hdM_dampNow : yX6_dampNow.cls = RX6 ∧ yX6_dampNow.cls ≠ "java/lang/invoke/MethodHandle" ∧ yX6_dampNow.cls ≠ "java/lang/invoke/VarHandle" ∧ (parseMethodDescriptor yX6_dampNow.desc).map (fun d => d.parameters.length) = some 1 := by decide +kernel
set_option maxHeartbeats 4000000 in
theorem metM_dampNow (l : Launch) (σ : MM) (v1 : Int32) (res : Int32) (h : M_dampNow σ v1 = some res) : MetM l yX6_dampNow cX6_dampNow 2 (some .int) 3 (fun K => [.ref (kO K), .int v1]) σ (some (.int res)) σ := by
  refine met_walk rfl (by simp [mRt]) (fun _ => Nat.le_of_ble_eq_true rfl) (fun K p e s m args below meth c Q C hE ls hl hJ => ?_)
  have hx := C.1.1
  have hb := C.1.2.1
  have hown := C.1.2.2.2.1
  have hts := C.1.2.2.2.2
  have hl : lv_has ls 2 [(0, .ref (kO K)), (1, .int v1)] := hl
  unfold M_dampNow at h
  refine lv_iload_n hx hb dX6_dampNow_0 rfl (lv_at hl 1 rfl) ?_
  obtain ⟨c1, hc1, h⟩ := ob h
  refine mc_S (As := [.int v1]) (rest := []) C hJ (metM_isPlace l σ v1 c1 hc1) (va_cwS 1 hts (lw_S q1408 q1409 q118 q1410) rfl rfl rfl hdM_isPlace ⟨Nat.le_of_ble_eq_true rfl, Nat.le_of_ble_eq_true rfl⟩) rfl hl.1 rfl (lv_room (Nat.le_of_ble_eq_true rfl)) dX6_dampNow_1 (fun H locs hJ => ?_)
  refine lv_if_eq (tgt := 16) hx hb dX6_dampNow_4 (by decide) (fun hc2 => ?_) (fun hc2 => ?_)
  · have h := ip h hc2
    refine lv_iconst hx hb dX6_dampNow_16 kc_m1 ?_
    have h := Option.some.inj h
    subst h
    exact hE _ _ _ _ (some (.int ((-1 : Int32)))) hJ ⟨_, rfl⟩ rfl dX6_dampNow_17
  · have h := im h hc2
    refine lv_aload_n hx hb dX6_dampNow_7 rfl (lv_at hl 0 rfl) ?_
    refine mx_ga C hJ 17 (Nat.le_of_ble_eq_true rfl) rfl lk17 dX6_dampNow_8 ?_
    refine lv_iload_n hx hb dX6_dampNow_11 rfl (lv_at hl 1 rfl) ?_
    obtain ⟨x3, hx3, h⟩ := ob h
    refine my_il C hJ 17 rfl hx3 dX6_dampNow_12 ?_
    refine lv_goto (tgt := 17) hx hb dX6_dampNow_13 (by decide) ?_
    have h := Option.some.inj h
    subst h
    exact hE _ _ _ _ (some (.int (x3))) hJ ⟨_, rfl⟩ rfl dX6_dampNow_17
def M_seen (σ : MM) (v1 : Int32) (v2 : Int32) (v3 : Int32) : Option (Int32 × MM) :=
  (M_isHour σ v1).bind fun c1 =>
  if c1 = 0 then
    some ((-2 : Int32), σ)
  else
    (M_in σ v2 (0 : Int32) (7 : Int32)).bind fun c3 =>
    if c3 = 0 then
      some ((-2 : Int32), σ)
    else
      (M_isPlace σ v3).bind fun c5 =>
      if c5 = 0 then
        some ((-2 : Int32), σ)
      else
        if (σ 31 0) = (8 : Int32) then
          some ((-4 : Int32), σ)
        else
          (mst σ 32 (σ 31 0) v1).bind fun σ8 =>
          (mst σ8 33 (σ8 31 0) v2).bind fun σ9 =>
          (mst σ9 34 (σ9 31 0) v3).bind fun σ10 =>
          (mpf σ10 31 ((σ10 31 0) + (1 : Int32))).bind fun σ11 =>
          some ((σ11 31 0), σ11)
theorem hdM_seen : yX6_seen.cls = RX6 ∧ yX6_seen.cls ≠ "java/lang/invoke/MethodHandle" ∧ yX6_seen.cls ≠ "java/lang/invoke/VarHandle" ∧ (parseMethodDescriptor yX6_seen.desc).map (fun d => d.parameters.length) = some 3 := by decide +kernel
set_option maxHeartbeats 4000000 in
theorem metM_seen (l : Launch) (σ : MM) (v1 : Int32) (v2 : Int32) (v3 : Int32) (res : Int32 × MM) (h : M_seen σ v1 v2 v3 = some res) : MetM l yX6_seen cX6_seen 4 (some .int) 3 (fun K => [.ref (kO K), .int v1, .int v2, .int v3]) σ (some (.int res.1)) res.2 := by
  refine met_walk rfl (by simp [mRt]) (fun _ => Nat.le_of_ble_eq_true rfl) (fun K p e s m args below meth c Q C hE ls hl hJ => ?_)
  have hx := C.1.1
  have hb := C.1.2.1
  have hown := C.1.2.2.2.1
  have hts := C.1.2.2.2.2
  have hl : lv_has ls 4 [(0, .ref (kO K)), (1, .int v1), (2, .int v2), (3, .int v3)] := hl
  unfold M_seen at h
  refine lv_iload_n hx hb dX6_seen_0 rfl (lv_at hl 1 rfl) ?_
  obtain ⟨c1, hc1, h⟩ := ob h
  refine mc_S (As := [.int v1]) (rest := []) C hJ (metM_isHour l σ v1 c1 hc1) (va_cwS 1 hts (lw_S q1435 q1436 q118 q1437) rfl rfl rfl hdM_isHour ⟨Nat.le_of_ble_eq_true rfl, Nat.le_of_ble_eq_true rfl⟩) rfl hl.1 rfl (lv_room (Nat.le_of_ble_eq_true rfl)) dX6_seen_1 (fun H locs hJ => ?_)
  refine lv_if_eq (tgt := 24) hx hb dX6_seen_4 (by decide) (fun hc2 => ?_) (fun hc2 => ?_)
  · have h := ip h hc2
    refine lv_bipush hx hb dX6_seen_24 kb_m2 ?_
    have h := Option.some.inj h
    subst h
    exact hE _ _ _ _ (some (.int ((-2 : Int32)))) hJ ⟨_, rfl⟩ rfl dX6_seen_26
  · have h := im h hc2
    refine lv_iload_n hx hb dX6_seen_7 rfl (lv_at hl 2 rfl) ?_
    refine lv_iconst hx hb dX6_seen_8 kc_0 ?_
    refine lv_bipush hx hb dX6_seen_9 kb_7 ?_
    obtain ⟨c3, hc3, h⟩ := ob h
    refine mc_S (As := [.int v2, .int (0 : Int32), .int (7 : Int32)]) (rest := []) C hJ (metM_in l σ v2 (0 : Int32) (7 : Int32) c3 hc3) (va_cwS 3 hts (lw_S q1365 q1366 q118 q1367) rfl rfl rfl hdM_in ⟨Nat.le_of_ble_eq_true rfl, Nat.le_of_ble_eq_true rfl⟩) rfl hl.1 rfl (lv_room (Nat.le_of_ble_eq_true rfl)) dX6_seen_11 (fun H locs hJ => ?_)
    refine lv_if_eq (tgt := 24) hx hb dX6_seen_14 (by decide) (fun hc4 => ?_) (fun hc4 => ?_)
    · have h := ip h hc4
      refine lv_bipush hx hb dX6_seen_24 kb_m2 ?_
      have h := Option.some.inj h
      subst h
      exact hE _ _ _ _ (some (.int ((-2 : Int32)))) hJ ⟨_, rfl⟩ rfl dX6_seen_26
    · have h := im h hc4
      refine lv_iload_n hx hb dX6_seen_17 rfl (lv_at hl 3 rfl) ?_
      obtain ⟨c5, hc5, h⟩ := ob h
      refine mc_S (As := [.int v3]) (rest := []) C hJ (metM_isPlace l σ v3 c5 hc5) (va_cwS 1 hts (lw_S q1408 q1409 q118 q1410) rfl rfl rfl hdM_isPlace ⟨Nat.le_of_ble_eq_true rfl, Nat.le_of_ble_eq_true rfl⟩) rfl hl.1 rfl (lv_room (Nat.le_of_ble_eq_true rfl)) dX6_seen_18 (fun H locs hJ => ?_)
      refine lv_if_ne (tgt := 27) hx hb dX6_seen_21 (by decide) (fun hc6 => ?_) (fun hc6 => ?_)
      · have h := im h hc6
        refine lv_aload_n hx hb dX6_seen_27 rfl (lv_at hl 0 rfl) ?_
        refine mx_gi C hJ 31 (Nat.le_of_ble_eq_true rfl) rfl lk31 dX6_seen_28 ?_
        refine lv_bipush hx hb dX6_seen_31 kb_8 ?_
        refine lv_icmp_ne (tgt := 39) hx hb dX6_seen_33 (by decide) (fun hc7 => ?_) (fun hc7 => ?_)
        · have h := im h hc7
          refine lv_aload_n hx hb dX6_seen_39 rfl (lv_at hl 0 rfl) ?_
          refine mx_ga C hJ 32 (Nat.le_of_ble_eq_true rfl) rfl lk32 dX6_seen_40 ?_
          refine lv_aload_n hx hb dX6_seen_43 rfl (lv_at hl 0 rfl) ?_
          refine mx_gi C hJ 31 (Nat.le_of_ble_eq_true rfl) rfl lk31 dX6_seen_44 ?_
          refine lv_iload_n hx hb dX6_seen_47 rfl (lv_at hl 1 rfl) ?_
          obtain ⟨σ8, hσ8, h⟩ := ob h
          refine my_is C hJ 32 rfl hσ8 dX6_seen_48 (fun H locs hJ => ?_)
          refine lv_aload_n hx hb dX6_seen_49 rfl (lv_at hl 0 rfl) ?_
          refine mx_ga C hJ 33 (Nat.le_of_ble_eq_true rfl) rfl lk33 dX6_seen_50 ?_
          refine lv_aload_n hx hb dX6_seen_53 rfl (lv_at hl 0 rfl) ?_
          refine mx_gi C hJ 31 (Nat.le_of_ble_eq_true rfl) rfl lk31 dX6_seen_54 ?_
          refine lv_iload_n hx hb dX6_seen_57 rfl (lv_at hl 2 rfl) ?_
          obtain ⟨σ9, hσ9, h⟩ := ob h
          refine my_is C hJ 33 rfl hσ9 dX6_seen_58 (fun H locs hJ => ?_)
          refine lv_aload_n hx hb dX6_seen_59 rfl (lv_at hl 0 rfl) ?_
          refine mx_ga C hJ 34 (Nat.le_of_ble_eq_true rfl) rfl lk34 dX6_seen_60 ?_
          refine lv_aload_n hx hb dX6_seen_63 rfl (lv_at hl 0 rfl) ?_
          refine mx_gi C hJ 31 (Nat.le_of_ble_eq_true rfl) rfl lk31 dX6_seen_64 ?_
          refine lv_iload_n hx hb dX6_seen_67 rfl (lv_at hl 3 rfl) ?_
          obtain ⟨σ10, hσ10, h⟩ := ob h
          refine my_is C hJ 34 rfl hσ10 dX6_seen_68 (fun H locs hJ => ?_)
          refine lv_aload_n hx hb dX6_seen_69 rfl (lv_at hl 0 rfl) ?_
          refine lv_dup hx hb dX6_seen_70 rfl ?_
          refine mx_gi C hJ 31 (Nat.le_of_ble_eq_true rfl) rfl lk31 dX6_seen_71 ?_
          refine lv_iconst hx hb dX6_seen_74 kc_1 ?_
          refine lv_iadd hx hb dX6_seen_75 ?_
          obtain ⟨σ11, hσ11, h⟩ := ob h
          refine my_pi C hJ 31 (Nat.le_of_ble_eq_true rfl) rfl rfl rfl lk31 hσ11 dX6_seen_76 (fun H locs hJ => ?_)
          refine lv_aload_n hx hb dX6_seen_79 rfl (lv_at hl 0 rfl) ?_
          refine mx_gi C hJ 31 (Nat.le_of_ble_eq_true rfl) rfl lk31 dX6_seen_80 ?_
          have h := Option.some.inj h
          subst h
          exact hE _ _ _ _ (some (.int ((σ11 31 0)))) hJ ⟨_, rfl⟩ rfl dX6_seen_83
        · have h := ip h hc7
          refine lv_bipush hx hb dX6_seen_36 kb_m4 ?_
          have h := Option.some.inj h
          subst h
          exact hE _ _ _ _ (some (.int ((-4 : Int32)))) hJ ⟨_, rfl⟩ rfl dX6_seen_38
      · have h := ip h hc6
        refine lv_bipush hx hb dX6_seen_24 kb_m2 ?_
        have h := Option.some.inj h
        subst h
        exact hE _ _ _ _ (some (.int ((-2 : Int32)))) hJ ⟨_, rfl⟩ rfl dX6_seen_26
def M_sheet (σ : MM) (v1 : Int32) (v2 : Int32) (v3 : Int32) : Option (Int32 × MM) :=
  (M_isSheet σ v1).bind fun c1 =>
  if c1 = 0 then
    some ((-2 : Int32), σ)
  else
    (M_in σ v2 (0 : Int32) (2 : Int32)).bind fun c3 =>
    if c3 = 0 then
      some ((-2 : Int32), σ)
    else
      if v3 ≤ (60 : Int32) then
        if (0 : Int32) ≤ v3 then
          (mst σ 36 v1 (bz (1 : Int32))).bind fun σ7 =>
          (mst σ7 37 v1 v2).bind fun σ8 =>
          (mst σ8 38 v1 v3).bind fun σ9 =>
          (lp (S := Int32 × MM) (T := MM) (fun w10 =>
            if (60 : Int32) ≤ w10.1 then
                some (.inr w10.2)
              else
                (mst w10.2 39 (((60 : Int32) * v1) + w10.1) (0 : Int32)).bind fun σ13 =>
                some (.inl ((w10.1 + 1), σ13))) 2000 ((0 : Int32), σ9)).bind fun q11 =>
          some (v3, q11)
        else
          (M_meets σ (5 : Int32)).bind fun c14 =>
          some (c14.1, c14.2)
      else
        some ((-2 : Int32), σ)
theorem hdM_sheet : yX6_sheet.cls = RX6 ∧ yX6_sheet.cls ≠ "java/lang/invoke/MethodHandle" ∧ yX6_sheet.cls ≠ "java/lang/invoke/VarHandle" ∧ (parseMethodDescriptor yX6_sheet.desc).map (fun d => d.parameters.length) = some 3 := by decide +kernel
set_option maxHeartbeats 4000000 in
theorem metM_sheet (l : Launch) (σ : MM) (v1 : Int32) (v2 : Int32) (v3 : Int32) (res : Int32 × MM) (h : M_sheet σ v1 v2 v3 = some res) : MetM l yX6_sheet cX6_sheet 5 (some .int) 3 (fun K => [.ref (kO K), .int v1, .int v2, .int v3]) σ (some (.int res.1)) res.2 := by
  refine met_walk rfl (by simp [mRt]) (fun _ => Nat.le_of_ble_eq_true rfl) (fun K p e s m args below meth c Q C hE ls hl hJ => ?_)
  have hx := C.1.1
  have hb := C.1.2.1
  have hown := C.1.2.2.2.1
  have hts := C.1.2.2.2.2
  have hl : lv_has ls 5 [(0, .ref (kO K)), (1, .int v1), (2, .int v2), (3, .int v3)] := hl
  unfold M_sheet at h
  refine lv_iload_n hx hb dX6_sheet_0 rfl (lv_at hl 1 rfl) ?_
  obtain ⟨c1, hc1, h⟩ := ob h
  refine mc_S (As := [.int v1]) (rest := []) C hJ (metM_isSheet l σ v1 c1 hc1) (va_cwS 1 hts (lw_S q1446 q1447 q118 q1448) rfl rfl rfl hdM_isSheet ⟨Nat.le_of_ble_eq_true rfl, Nat.le_of_ble_eq_true rfl⟩) rfl hl.1 rfl (lv_room (Nat.le_of_ble_eq_true rfl)) dX6_sheet_1 (fun H locs hJ => ?_)
  refine lv_if_eq (tgt := 22) hx hb dX6_sheet_4 (by decide) (fun hc2 => ?_) (fun hc2 => ?_)
  · have h := ip h hc2
    refine lv_bipush hx hb dX6_sheet_22 kb_m2 ?_
    have h := Option.some.inj h
    subst h
    exact hE _ _ _ _ (some (.int ((-2 : Int32)))) hJ ⟨_, rfl⟩ rfl dX6_sheet_24
  · have h := im h hc2
    refine lv_iload_n hx hb dX6_sheet_7 rfl (lv_at hl 2 rfl) ?_
    refine lv_iconst hx hb dX6_sheet_8 kc_0 ?_
    refine lv_iconst hx hb dX6_sheet_9 kc_2 ?_
    obtain ⟨c3, hc3, h⟩ := ob h
    refine mc_S (As := [.int v2, .int (0 : Int32), .int (2 : Int32)]) (rest := []) C hJ (metM_in l σ v2 (0 : Int32) (2 : Int32) c3 hc3) (va_cwS 3 hts (lw_S q1365 q1366 q118 q1367) rfl rfl rfl hdM_in ⟨Nat.le_of_ble_eq_true rfl, Nat.le_of_ble_eq_true rfl⟩) rfl hl.1 rfl (lv_room (Nat.le_of_ble_eq_true rfl)) dX6_sheet_10 (fun H locs hJ => ?_)
    refine lv_if_eq (tgt := 22) hx hb dX6_sheet_13 (by decide) (fun hc4 => ?_) (fun hc4 => ?_)
    · have h := ip h hc4
      refine lv_bipush hx hb dX6_sheet_22 kb_m2 ?_
      have h := Option.some.inj h
      subst h
      exact hE _ _ _ _ (some (.int ((-2 : Int32)))) hJ ⟨_, rfl⟩ rfl dX6_sheet_24
    · have h := im h hc4
      refine lv_iload_n hx hb dX6_sheet_16 rfl (lv_at hl 3 rfl) ?_
      refine lv_bipush hx hb dX6_sheet_17 kb_60 ?_
      refine lv_icmp_le (tgt := 25) hx hb dX6_sheet_19 (by decide) (fun hc5 => ?_) (fun hc5 => ?_)
      · have h := ip h hc5
        refine lv_iload_n hx hb dX6_sheet_25 rfl (lv_at hl 3 rfl) ?_
        refine lv_if_ge (tgt := 35) hx hb dX6_sheet_26 (by decide) (fun hc6 => ?_) (fun hc6 => ?_)
        · have h := ip h hc6
          refine lv_aload_n hx hb dX6_sheet_35 rfl (lv_at hl 0 rfl) ?_
          refine mx_ga C hJ 36 (Nat.le_of_ble_eq_true rfl) rfl lk36 dX6_sheet_36 ?_
          refine lv_iload_n hx hb dX6_sheet_39 rfl (lv_at hl 1 rfl) ?_
          refine lv_iconst hx hb dX6_sheet_40 kc_1 ?_
          obtain ⟨σ7, hσ7, h⟩ := ob h
          refine my_zs C hJ hσ7 dX6_sheet_41 (fun H locs hJ => ?_)
          refine lv_aload_n hx hb dX6_sheet_42 rfl (lv_at hl 0 rfl) ?_
          refine mx_ga C hJ 37 (Nat.le_of_ble_eq_true rfl) rfl lk37 dX6_sheet_43 ?_
          refine lv_iload_n hx hb dX6_sheet_46 rfl (lv_at hl 1 rfl) ?_
          refine lv_iload_n hx hb dX6_sheet_47 rfl (lv_at hl 2 rfl) ?_
          obtain ⟨σ8, hσ8, h⟩ := ob h
          refine my_is C hJ 37 rfl hσ8 dX6_sheet_48 (fun H locs hJ => ?_)
          refine lv_aload_n hx hb dX6_sheet_49 rfl (lv_at hl 0 rfl) ?_
          refine mx_ga C hJ 38 (Nat.le_of_ble_eq_true rfl) rfl lk38 dX6_sheet_50 ?_
          refine lv_iload_n hx hb dX6_sheet_53 rfl (lv_at hl 1 rfl) ?_
          refine lv_iload_n hx hb dX6_sheet_54 rfl (lv_at hl 3 rfl) ?_
          obtain ⟨σ9, hσ9, h⟩ := ob h
          refine my_is C hJ 38 rfl hσ9 dX6_sheet_55 (fun H locs hJ => ?_)
          refine lv_iconst hx hb dX6_sheet_56 kc_0 ?_
          refine lv_istore (lv' := [(4, .int (0 : Int32)), (0, .ref (kO K)), (1, .int v1), (2, .int v2), (3, .int v3)]) hx hb dX6_sheet_57 hl (Nat.le_of_ble_eq_true rfl) rfl (fun ls hl => ?_)
          obtain ⟨q11, hq11, h⟩ := ob h
          have hxq11 : ∀ (H : Heap) (locs : List Loc) (ls : Array Slot), MJ K q11 s.heap H locs → lv_has ls 5 [(3, .int v3)] → W p l e (rmd 3) s m args below meth c H locs 0 0 Q (F0 m 85 ls []) := by
            intro H locs ls hJ hl
            refine lv_iload_n hx hb dX6_sheet_85 rfl (lv_at hl 0 rfl) ?_
            have h := Option.some.inj h
            subst h
            exact hE _ _ _ _ (some (.int (v3))) hJ ⟨_, rfl⟩ rfl dX6_sheet_86
          refine lp_ind (P := fun (w10 : Int32 × MM) => ∀ (H : Heap) (locs : List Loc) (ls : Array Slot), MJ K w10.2 s.heap H locs → lv_has ls 5 [(0, .ref (kO K)), (1, .int v1), (3, .int v3), (4, .int w10.1)] → W p l e (rmd 3) s m args below meth c H locs 0 0 Q (F0 m 59 ls [])) ?_ _ _ hq11 _ _ _ hJ (lv_sub hl [1, 2, 4, 0] rfl)
          intro nw10 w10 ihw10 zw10 hzw10 hqw10 H locs ls hJ hl
          refine lv_iload hx hb dX6_sheet_59 (lv_at hl 3 rfl) ?_
          refine lv_bipush hx hb dX6_sheet_61 kb_60 ?_
          refine lv_icmp_ge (tgt := 85) hx hb dX6_sheet_63 (by decide) (fun hc12 => ?_) (fun hc12 => ?_)
          · have hzw10 := ip hzw10 hc12
            have hzw10 := Option.some.inj hzw10
            subst hzw10
            have hqw10 : _ = q11 := hqw10
            subst hqw10
            exact hxq11 _ _ _ hJ (lv_sub hl [2] rfl)
          · have hzw10 := im hzw10 hc12
            refine lv_aload_n hx hb dX6_sheet_66 rfl (lv_at hl 0 rfl) ?_
            refine mx_ga C hJ 39 (Nat.le_of_ble_eq_true rfl) rfl lk39 dX6_sheet_67 ?_
            refine lv_bipush hx hb dX6_sheet_70 kb_60 ?_
            refine lv_iload_n hx hb dX6_sheet_72 rfl (lv_at hl 1 rfl) ?_
            refine lv_imul hx hb dX6_sheet_73 ?_
            refine lv_iload hx hb dX6_sheet_74 (lv_at hl 3 rfl) ?_
            refine lv_iadd hx hb dX6_sheet_76 ?_
            refine lv_iconst hx hb dX6_sheet_77 kc_0 ?_
            obtain ⟨σ13, hσ13, hzw10⟩ := ob hzw10
            refine my_is C hJ 39 rfl hσ13 dX6_sheet_78 (fun H locs hJ => ?_)
            refine lv_iinc (v := (w10.1 + 1)) (lv' := [(4, .int (w10.1 + 1)), (0, .ref (kO K)), (1, .int v1), (3, .int v3)]) hx hb dX6_sheet_79 hl (k := 3) rfl rfl (Nat.le_of_ble_eq_true rfl) rfl (fun ls hl => ?_)
            refine lv_goto (tgt := 59) hx hb dX6_sheet_82 (by decide) ?_
            have hzw10 := Option.some.inj hzw10
            subst hzw10
            exact ihw10 _ hqw10 _ _ _ hJ (lv_sub hl [1, 2, 3, 0] rfl)
        · have h := im h hc6
          refine lv_aload_n hx hb dX6_sheet_29 rfl (lv_at hl 0 rfl) ?_
          refine lv_iconst hx hb dX6_sheet_30 kc_5 ?_
          obtain ⟨c14, hc14, h⟩ := ob h
          refine mc_V (As := [.int (5 : Int32)]) (rest := []) C hJ (metM_meets l σ (5 : Int32) c14 hc14) (cwV 1 hts (lw_V q1449 q1451 qs61 q118 q1452) rfl rfl rfl hdM_meets ⟨Nat.le_of_ble_eq_true rfl, Nat.le_of_ble_eq_true rfl⟩) rfl hl.1 rfl (lv_room (Nat.le_of_ble_eq_true rfl)) dX6_sheet_31 (fun H locs hJ => ?_)
          have h := Option.some.inj h
          subst h
          exact hE _ _ _ _ (some (.int (c14.1))) hJ ⟨_, rfl⟩ rfl dX6_sheet_34
      · have h := im h hc5
        refine lv_bipush hx hb dX6_sheet_22 kb_m2 ?_
        have h := Option.some.inj h
        subst h
        exact hE _ _ _ _ (some (.int ((-2 : Int32)))) hJ ⟨_, rfl⟩ rfl dX6_sheet_24
def M_lose (σ : MM) (v1 : Int32) : Option (Int32 × MM) :=
  (M_isSheet σ v1).bind fun c1 =>
  if c1 = 0 then
    some ((-2 : Int32), σ)
  else
    (mld σ 36 v1).bind fun x3 =>
    if x3 = 0 then
      (M_meets σ (1 : Int32)).bind fun c7 =>
      some (c7.1, c7.2)
    else
      (mst σ 36 v1 (bz (0 : Int32))).bind fun σ5 =>
      (mld σ5 38 v1).bind fun x6 =>
      some (x6, σ5)
theorem hdM_lose : yX6_lose.cls = RX6 ∧ yX6_lose.cls ≠ "java/lang/invoke/MethodHandle" ∧ yX6_lose.cls ≠ "java/lang/invoke/VarHandle" ∧ (parseMethodDescriptor yX6_lose.desc).map (fun d => d.parameters.length) = some 1 := by decide +kernel
set_option maxHeartbeats 4000000 in
theorem metM_lose (l : Launch) (σ : MM) (v1 : Int32) (res : Int32 × MM) (h : M_lose σ v1 = some res) : MetM l yX6_lose cX6_lose 2 (some .int) 3 (fun K => [.ref (kO K), .int v1]) σ (some (.int res.1)) res.2 := by
  refine met_walk rfl (by simp [mRt]) (fun _ => Nat.le_of_ble_eq_true rfl) (fun K p e s m args below meth c Q C hE ls hl hJ => ?_)
  have hx := C.1.1
  have hb := C.1.2.1
  have hown := C.1.2.2.2.1
  have hts := C.1.2.2.2.2
  have hl : lv_has ls 2 [(0, .ref (kO K)), (1, .int v1)] := hl
  unfold M_lose at h
  refine lv_iload_n hx hb dX6_lose_0 rfl (lv_at hl 1 rfl) ?_
  obtain ⟨c1, hc1, h⟩ := ob h
  refine mc_S (As := [.int v1]) (rest := []) C hJ (metM_isSheet l σ v1 c1 hc1) (va_cwS 1 hts (lw_S q1446 q1447 q118 q1448) rfl rfl rfl hdM_isSheet ⟨Nat.le_of_ble_eq_true rfl, Nat.le_of_ble_eq_true rfl⟩) rfl hl.1 rfl (lv_room (Nat.le_of_ble_eq_true rfl)) dX6_lose_1 (fun H locs hJ => ?_)
  refine lv_if_ne (tgt := 10) hx hb dX6_lose_4 (by decide) (fun hc2 => ?_) (fun hc2 => ?_)
  · have h := im h hc2
    refine lv_aload_n hx hb dX6_lose_10 rfl (lv_at hl 0 rfl) ?_
    refine mx_ga C hJ 36 (Nat.le_of_ble_eq_true rfl) rfl lk36 dX6_lose_11 ?_
    refine lv_iload_n hx hb dX6_lose_14 rfl (lv_at hl 1 rfl) ?_
    obtain ⟨x3, hx3, h⟩ := ob h
    refine my_zl C hJ hx3 dX6_lose_15 ?_
    refine lv_if_ne (tgt := 25) hx hb dX6_lose_16 (by decide) (fun hc4 => ?_) (fun hc4 => ?_)
    · have h := im h hc4
      refine lv_aload_n hx hb dX6_lose_25 rfl (lv_at hl 0 rfl) ?_
      refine mx_ga C hJ 36 (Nat.le_of_ble_eq_true rfl) rfl lk36 dX6_lose_26 ?_
      refine lv_iload_n hx hb dX6_lose_29 rfl (lv_at hl 1 rfl) ?_
      refine lv_iconst hx hb dX6_lose_30 kc_0 ?_
      obtain ⟨σ5, hσ5, h⟩ := ob h
      refine my_zs C hJ hσ5 dX6_lose_31 (fun H locs hJ => ?_)
      refine lv_aload_n hx hb dX6_lose_32 rfl (lv_at hl 0 rfl) ?_
      refine mx_ga C hJ 38 (Nat.le_of_ble_eq_true rfl) rfl lk38 dX6_lose_33 ?_
      refine lv_iload_n hx hb dX6_lose_36 rfl (lv_at hl 1 rfl) ?_
      obtain ⟨x6, hx6, h⟩ := ob h
      refine my_il C hJ 38 rfl hx6 dX6_lose_37 ?_
      have h := Option.some.inj h
      subst h
      exact hE _ _ _ _ (some (.int (x6))) hJ ⟨_, rfl⟩ rfl dX6_lose_38
    · have h := ip h hc4
      refine lv_aload_n hx hb dX6_lose_19 rfl (lv_at hl 0 rfl) ?_
      refine lv_iconst hx hb dX6_lose_20 kc_1 ?_
      obtain ⟨c7, hc7, h⟩ := ob h
      refine mc_V (As := [.int (1 : Int32)]) (rest := []) C hJ (metM_meets l σ (1 : Int32) c7 hc7) (cwV 1 hts (lw_V q1449 q1451 qs61 q118 q1452) rfl rfl rfl hdM_meets ⟨Nat.le_of_ble_eq_true rfl, Nat.le_of_ble_eq_true rfl⟩) rfl hl.1 rfl (lv_room (Nat.le_of_ble_eq_true rfl)) dX6_lose_21 (fun H locs hJ => ?_)
      have h := Option.some.inj h
      subst h
      exact hE _ _ _ _ (some (.int (c7.1))) hJ ⟨_, rfl⟩ rfl dX6_lose_24
  · have h := ip h hc2
    refine lv_bipush hx hb dX6_lose_7 kb_m2 ?_
    have h := Option.some.inj h
    subst h
    exact hE _ _ _ _ (some (.int ((-2 : Int32)))) hJ ⟨_, rfl⟩ rfl dX6_lose_9
def M_put (σ : MM) (v1 : Int32) (v2 : Int32) (v3 : Int32) (v4 : Int32) : Option (Int32 × MM) :=
  (M_isSheet σ v1).bind fun c1 =>
  if c1 = 0 then
    some ((-2 : Int32), σ)
  else
    (M_in σ v2 (0 : Int32) (2 : Int32)).bind fun c3 =>
    if c3 = 0 then
      some ((-2 : Int32), σ)
    else
      (M_lacks σ v1 v2 v3).bind fun c5 =>
      if c5 ≤ 0 then
        (M_keep σ v1 v3 v4).bind fun c7 =>
        some ((1 : Int32), c7)
      else
        (M_meets σ c5).bind fun c8 =>
        some (c8.1, c8.2)
theorem hdM_put : yX6_put.cls = RX6 ∧ yX6_put.cls ≠ "java/lang/invoke/MethodHandle" ∧ yX6_put.cls ≠ "java/lang/invoke/VarHandle" ∧ (parseMethodDescriptor yX6_put.desc).map (fun d => d.parameters.length) = some 4 := by decide +kernel
set_option maxHeartbeats 4000000 in
theorem metM_put (l : Launch) (σ : MM) (v1 : Int32) (v2 : Int32) (v3 : Int32) (v4 : Int32) (res : Int32 × MM) (h : M_put σ v1 v2 v3 v4 = some res) : MetM l yX6_put cX6_put 6 (some .int) 3 (fun K => [.ref (kO K), .int v1, .int v2, .int v3, .int v4]) σ (some (.int res.1)) res.2 := by
  refine met_walk rfl (by simp [mRt]) (fun _ => Nat.le_of_ble_eq_true rfl) (fun K p e s m args below meth c Q C hE ls hl hJ => ?_)
  have hx := C.1.1
  have hb := C.1.2.1
  have hown := C.1.2.2.2.1
  have hts := C.1.2.2.2.2
  have hl : lv_has ls 6 [(0, .ref (kO K)), (1, .int v1), (2, .int v2), (3, .int v3), (4, .int v4)] := hl
  unfold M_put at h
  refine lv_iload_n hx hb dX6_put_0 rfl (lv_at hl 1 rfl) ?_
  obtain ⟨c1, hc1, h⟩ := ob h
  refine mc_S (As := [.int v1]) (rest := []) C hJ (metM_isSheet l σ v1 c1 hc1) (va_cwS 1 hts (lw_S q1446 q1447 q118 q1448) rfl rfl rfl hdM_isSheet ⟨Nat.le_of_ble_eq_true rfl, Nat.le_of_ble_eq_true rfl⟩) rfl hl.1 rfl (lv_room (Nat.le_of_ble_eq_true rfl)) dX6_put_1 (fun H locs hJ => ?_)
  refine lv_if_eq (tgt := 16) hx hb dX6_put_4 (by decide) (fun hc2 => ?_) (fun hc2 => ?_)
  · have h := ip h hc2
    refine lv_bipush hx hb dX6_put_16 kb_m2 ?_
    have h := Option.some.inj h
    subst h
    exact hE _ _ _ _ (some (.int ((-2 : Int32)))) hJ ⟨_, rfl⟩ rfl dX6_put_18
  · have h := im h hc2
    refine lv_iload_n hx hb dX6_put_7 rfl (lv_at hl 2 rfl) ?_
    refine lv_iconst hx hb dX6_put_8 kc_0 ?_
    refine lv_iconst hx hb dX6_put_9 kc_2 ?_
    obtain ⟨c3, hc3, h⟩ := ob h
    refine mc_S (As := [.int v2, .int (0 : Int32), .int (2 : Int32)]) (rest := []) C hJ (metM_in l σ v2 (0 : Int32) (2 : Int32) c3 hc3) (va_cwS 3 hts (lw_S q1365 q1366 q118 q1367) rfl rfl rfl hdM_in ⟨Nat.le_of_ble_eq_true rfl, Nat.le_of_ble_eq_true rfl⟩) rfl hl.1 rfl (lv_room (Nat.le_of_ble_eq_true rfl)) dX6_put_10 (fun H locs hJ => ?_)
    refine lv_if_ne (tgt := 19) hx hb dX6_put_13 (by decide) (fun hc4 => ?_) (fun hc4 => ?_)
    · have h := im h hc4
      refine lv_aload_n hx hb dX6_put_19 rfl (lv_at hl 0 rfl) ?_
      refine lv_iload_n hx hb dX6_put_20 rfl (lv_at hl 1 rfl) ?_
      refine lv_iload_n hx hb dX6_put_21 rfl (lv_at hl 2 rfl) ?_
      refine lv_iload_n hx hb dX6_put_22 rfl (lv_at hl 3 rfl) ?_
      obtain ⟨c5, hc5, h⟩ := ob h
      refine mc_V (As := [.int v1, .int v2, .int v3]) (rest := []) C hJ (metM_lacks l σ v1 v2 v3 c5 hc5) (cwV 3 hts (lw_V q1717 q1719 qs102 q118 q1720) rfl rfl rfl hdM_lacks ⟨Nat.le_of_ble_eq_true rfl, Nat.le_of_ble_eq_true rfl⟩) rfl hl.1 rfl (lv_room (Nat.le_of_ble_eq_true rfl)) dX6_put_23 (fun H locs hJ => ?_)
      refine lv_istore (lv' := [(5, .int c5), (0, .ref (kO K)), (1, .int v1), (2, .int v2), (3, .int v3), (4, .int v4)]) hx hb dX6_put_26 hl (Nat.le_of_ble_eq_true rfl) rfl (fun ls hl => ?_)
      refine lv_iload hx hb dX6_put_28 (lv_at hl 0 rfl) ?_
      refine lv_if_le (tgt := 40) hx hb dX6_put_30 (by decide) (fun hc6 => ?_) (fun hc6 => ?_)
      · have h := ip h hc6
        refine lv_aload_n hx hb dX6_put_40 rfl (lv_at hl 1 rfl) ?_
        refine lv_iload_n hx hb dX6_put_41 rfl (lv_at hl 2 rfl) ?_
        refine lv_iload_n hx hb dX6_put_42 rfl (lv_at hl 4 rfl) ?_
        refine lv_iload hx hb dX6_put_43 (lv_at hl 5 rfl) ?_
        obtain ⟨c7, hc7, h⟩ := ob h
        refine mc_V (As := [.int v1, .int v3, .int v4]) (rest := []) C hJ (metM_keep l σ v1 v3 v4 c7 hc7) (cwV 3 hts (lw_V q1721 q1723 qs103 q118 q1724) rfl rfl rfl hdM_keep ⟨Nat.le_of_ble_eq_true rfl, Nat.le_of_ble_eq_true rfl⟩) rfl hl.1 rfl (lv_room (Nat.le_of_ble_eq_true rfl)) dX6_put_45 (fun H locs hJ => ?_)
        refine lv_iconst hx hb dX6_put_48 kc_1 ?_
        have h := Option.some.inj h
        subst h
        exact hE _ _ _ _ (some (.int ((1 : Int32)))) hJ ⟨_, rfl⟩ rfl dX6_put_49
      · have h := im h hc6
        refine lv_aload_n hx hb dX6_put_33 rfl (lv_at hl 1 rfl) ?_
        refine lv_iload hx hb dX6_put_34 (lv_at hl 0 rfl) ?_
        obtain ⟨c8, hc8, h⟩ := ob h
        refine mc_V (As := [.int c5]) (rest := []) C hJ (metM_meets l σ c5 c8 hc8) (cwV 1 hts (lw_V q1449 q1451 qs61 q118 q1452) rfl rfl rfl hdM_meets ⟨Nat.le_of_ble_eq_true rfl, Nat.le_of_ble_eq_true rfl⟩) rfl hl.1 rfl (lv_room (Nat.le_of_ble_eq_true rfl)) dX6_put_36 (fun H locs hJ => ?_)
        have h := Option.some.inj h
        subst h
        exact hE _ _ _ _ (some (.int (c8.1))) hJ ⟨_, rfl⟩ rfl dX6_put_39
    · have h := ip h hc4
      refine lv_bipush hx hb dX6_put_16 kb_m2 ?_
      have h := Option.some.inj h
      subst h
      exact hE _ _ _ _ (some (.int ((-2 : Int32)))) hJ ⟨_, rfl⟩ rfl dX6_put_18
def M_get (σ : MM) (v1 : Int32) (v2 : Int32) (v3 : Int32) : Option (Int32 × MM) :=
  (M_isSheet σ v1).bind fun c1 =>
  if c1 = 0 then
    some ((-2147483648 : Int32), σ)
  else
    (M_in σ v2 (0 : Int32) (2 : Int32)).bind fun c3 =>
    if c3 = 0 then
      some ((-2147483648 : Int32), σ)
    else
      (M_lacks σ v1 v2 v3).bind fun c5 =>
      if c5 ≤ 0 then
        (mld σ 39 (((60 : Int32) * v1) + v3)).bind fun x7 =>
        some (x7, σ)
      else
        (mpf σ 41 c5).bind fun σ8 =>
        some ((-2147483648 : Int32), σ8)
theorem hdM_get : yX6_get.cls = RX6 ∧ yX6_get.cls ≠ "java/lang/invoke/MethodHandle" ∧ yX6_get.cls ≠ "java/lang/invoke/VarHandle" ∧ (parseMethodDescriptor yX6_get.desc).map (fun d => d.parameters.length) = some 3 := by decide +kernel
set_option maxHeartbeats 4000000 in
theorem metM_get (l : Launch) (σ : MM) (v1 : Int32) (v2 : Int32) (v3 : Int32) (res : Int32 × MM) (h : M_get σ v1 v2 v3 = some res) : MetM l yX6_get cX6_get 5 (some .int) 3 (fun K => [.ref (kO K), .int v1, .int v2, .int v3]) σ (some (.int res.1)) res.2 := by
  refine met_walk rfl (by simp [mRt]) (fun _ => Nat.le_of_ble_eq_true rfl) (fun K p e s m args below meth c Q C hE ls hl hJ => ?_)
  have hx := C.1.1
  have hb := C.1.2.1
  have hown := C.1.2.2.2.1
  have hts := C.1.2.2.2.2
  have hl : lv_has ls 5 [(0, .ref (kO K)), (1, .int v1), (2, .int v2), (3, .int v3)] := hl
  unfold M_get at h
  refine lv_iload_n hx hb dX6_get_0 rfl (lv_at hl 1 rfl) ?_
  obtain ⟨c1, hc1, h⟩ := ob h
  refine mc_S (As := [.int v1]) (rest := []) C hJ (metM_isSheet l σ v1 c1 hc1) (va_cwS 1 hts (lw_S q1446 q1447 q118 q1448) rfl rfl rfl hdM_isSheet ⟨Nat.le_of_ble_eq_true rfl, Nat.le_of_ble_eq_true rfl⟩) rfl hl.1 rfl (lv_room (Nat.le_of_ble_eq_true rfl)) dX6_get_1 (fun H locs hJ => ?_)
  refine lv_if_eq (tgt := 16) hx hb dX6_get_4 (by decide) (fun hc2 => ?_) (fun hc2 => ?_)
  · have h := ip h hc2
    refine lv_ldcw (v := (-2147483648 : Int32)) hx hb hown (hts _ q1729) dX6_get_16 ?_
    have h := Option.some.inj h
    subst h
    exact hE _ _ _ _ (some (.int ((-2147483648 : Int32)))) hJ ⟨_, rfl⟩ rfl dX6_get_19
  · have h := im h hc2
    refine lv_iload_n hx hb dX6_get_7 rfl (lv_at hl 2 rfl) ?_
    refine lv_iconst hx hb dX6_get_8 kc_0 ?_
    refine lv_iconst hx hb dX6_get_9 kc_2 ?_
    obtain ⟨c3, hc3, h⟩ := ob h
    refine mc_S (As := [.int v2, .int (0 : Int32), .int (2 : Int32)]) (rest := []) C hJ (metM_in l σ v2 (0 : Int32) (2 : Int32) c3 hc3) (va_cwS 3 hts (lw_S q1365 q1366 q118 q1367) rfl rfl rfl hdM_in ⟨Nat.le_of_ble_eq_true rfl, Nat.le_of_ble_eq_true rfl⟩) rfl hl.1 rfl (lv_room (Nat.le_of_ble_eq_true rfl)) dX6_get_10 (fun H locs hJ => ?_)
    refine lv_if_ne (tgt := 20) hx hb dX6_get_13 (by decide) (fun hc4 => ?_) (fun hc4 => ?_)
    · have h := im h hc4
      refine lv_aload_n hx hb dX6_get_20 rfl (lv_at hl 0 rfl) ?_
      refine lv_iload_n hx hb dX6_get_21 rfl (lv_at hl 1 rfl) ?_
      refine lv_iload_n hx hb dX6_get_22 rfl (lv_at hl 2 rfl) ?_
      refine lv_iload_n hx hb dX6_get_23 rfl (lv_at hl 3 rfl) ?_
      obtain ⟨c5, hc5, h⟩ := ob h
      refine mc_V (As := [.int v1, .int v2, .int v3]) (rest := []) C hJ (metM_lacks l σ v1 v2 v3 c5 hc5) (cwV 3 hts (lw_V q1717 q1719 qs102 q118 q1720) rfl rfl rfl hdM_lacks ⟨Nat.le_of_ble_eq_true rfl, Nat.le_of_ble_eq_true rfl⟩) rfl hl.1 rfl (lv_room (Nat.le_of_ble_eq_true rfl)) dX6_get_24 (fun H locs hJ => ?_)
      refine lv_istore (lv' := [(4, .int c5), (0, .ref (kO K)), (1, .int v1), (2, .int v2), (3, .int v3)]) hx hb dX6_get_27 hl (Nat.le_of_ble_eq_true rfl) rfl (fun ls hl => ?_)
      refine lv_iload hx hb dX6_get_29 (lv_at hl 0 rfl) ?_
      refine lv_if_le (tgt := 44) hx hb dX6_get_31 (by decide) (fun hc6 => ?_) (fun hc6 => ?_)
      · have h := ip h hc6
        refine lv_aload_n hx hb dX6_get_44 rfl (lv_at hl 1 rfl) ?_
        refine mx_ga C hJ 39 (Nat.le_of_ble_eq_true rfl) rfl lk39 dX6_get_45 ?_
        refine lv_bipush hx hb dX6_get_48 kb_60 ?_
        refine lv_iload_n hx hb dX6_get_50 rfl (lv_at hl 2 rfl) ?_
        refine lv_imul hx hb dX6_get_51 ?_
        refine lv_iload_n hx hb dX6_get_52 rfl (lv_at hl 4 rfl) ?_
        refine lv_iadd hx hb dX6_get_53 ?_
        obtain ⟨x7, hx7, h⟩ := ob h
        refine my_il C hJ 39 rfl hx7 dX6_get_54 ?_
        have h := Option.some.inj h
        subst h
        exact hE _ _ _ _ (some (.int (x7))) hJ ⟨_, rfl⟩ rfl dX6_get_55
      · have h := im h hc6
        refine lv_aload_n hx hb dX6_get_34 rfl (lv_at hl 1 rfl) ?_
        refine lv_iload hx hb dX6_get_35 (lv_at hl 0 rfl) ?_
        obtain ⟨σ8, hσ8, h⟩ := ob h
        refine my_pi C hJ 41 (Nat.le_of_ble_eq_true rfl) rfl rfl rfl lk41 hσ8 dX6_get_37 (fun H locs hJ => ?_)
        refine lv_ldcw (v := (-2147483648 : Int32)) hx hb hown (hts _ q1729) dX6_get_40 ?_
        have h := Option.some.inj h
        subst h
        exact hE _ _ _ _ (some (.int ((-2147483648 : Int32)))) hJ ⟨_, rfl⟩ rfl dX6_get_43
    · have h := ip h hc4
      refine lv_ldcw (v := (-2147483648 : Int32)) hx hb hown (hts _ q1729) dX6_get_16 ?_
      have h := Option.some.inj h
      subst h
      exact hE _ _ _ _ (some (.int ((-2147483648 : Int32)))) hJ ⟨_, rfl⟩ rfl dX6_get_19
def M_copy (σ : MM) (v1 : Int32) (v2 : Int32) (v3 : Int32) (v4 : Int32) (v5 : Int32) : Option (Int32 × MM) :=
  (M_isSheet σ v1).bind fun c1 =>
  if c1 = 0 then
    some ((-2 : Int32), σ)
  else
    (M_isSheet σ v3).bind fun c3 =>
    if c3 = 0 then
      some ((-2 : Int32), σ)
    else
      (mld σ 36 v1).bind fun x5 =>
      if x5 = 0 then
        (M_meets σ (1 : Int32)).bind fun c7 =>
        some (c7.1, c7.2)
      else
        (mld σ 36 v3).bind fun x8 =>
        if x8 = 0 then
          (M_meets σ (1 : Int32)).bind fun c36 =>
          some (c36.1, c36.2)
        else
          (mld σ 37 v1).bind fun x10 =>
          (mld σ 37 v3).bind fun x11 =>
          if x10 = x11 then
            if v2 < 0 then
              (M_meets σ (2 : Int32)).bind fun c14 =>
              some (c14.1, c14.2)
            else
              if v4 < 0 then
                (M_meets σ (2 : Int32)).bind fun c16 =>
                some (c16.1, c16.2)
              else
                if v5 < 0 then
                  (M_meets σ (2 : Int32)).bind fun c18 =>
                  some (c18.1, c18.2)
                else
                  (mld σ 38 v1).bind fun x19 =>
                  if (0 : Int32) < (lg_cmp (v2.toInt64 + v5.toInt64) x19.toInt64) then
                    (M_meets σ (2 : Int32)).bind fun c21 =>
                    some (c21.1, c21.2)
                  else
                    (mld σ 38 v3).bind fun x22 =>
                    if (lg_cmp (v4.toInt64 + v5.toInt64) x22.toInt64) ≤ 0 then
                      (lp (S := Int32 × MM) (T := MM) (fun w24 =>
                        if v5 ≤ w24.1 then
                            some (.inr w24.2)
                          else
                            (mld w24.2 39 ((((60 : Int32) * v1) + v2) + w24.1)).bind fun x27 =>
                            (mst w24.2 40 w24.1 x27).bind fun σ28 =>
                            some (.inl ((w24.1 + 1), σ28))) 2000 ((0 : Int32), σ)).bind fun q25 =>
                      (lp (S := Int32 × MM) (T := MM) (fun w29 =>
                        if v5 ≤ w29.1 then
                            some (.inr w29.2)
                          else
                            (mld w29.2 40 w29.1).bind fun x32 =>
                            (mst w29.2 39 ((((60 : Int32) * v3) + v4) + w29.1) x32).bind fun σ33 =>
                            some (.inl ((w29.1 + 1), σ33))) 2000 ((0 : Int32), q25)).bind fun q30 =>
                      some ((1 : Int32), q30)
                    else
                      (M_meets σ (2 : Int32)).bind fun c34 =>
                      some (c34.1, c34.2)
          else
            (M_meets σ (4 : Int32)).bind fun c35 =>
            some (c35.1, c35.2)
theorem hdM_copy : yX6_copy.cls = RX6 ∧ yX6_copy.cls ≠ "java/lang/invoke/MethodHandle" ∧ yX6_copy.cls ≠ "java/lang/invoke/VarHandle" ∧ (parseMethodDescriptor yX6_copy.desc).map (fun d => d.parameters.length) = some 5 := by decide +kernel
set_option maxHeartbeats 4000000 in
theorem metM_copy (l : Launch) (σ : MM) (v1 : Int32) (v2 : Int32) (v3 : Int32) (v4 : Int32) (v5 : Int32) (res : Int32 × MM) (h : M_copy σ v1 v2 v3 v4 v5 = some res) : MetM l yX6_copy cX6_copy 7 (some .int) 3 (fun K => [.ref (kO K), .int v1, .int v2, .int v3, .int v4, .int v5]) σ (some (.int res.1)) res.2 := by
  refine met_walk rfl (by simp [mRt]) (fun _ => Nat.le_of_ble_eq_true rfl) (fun K p e s m args below meth c Q C hE ls hl hJ => ?_)
  have hx := C.1.1
  have hb := C.1.2.1
  have hown := C.1.2.2.2.1
  have hts := C.1.2.2.2.2
  have hl : lv_has ls 7 [(0, .ref (kO K)), (1, .int v1), (2, .int v2), (3, .int v3), (4, .int v4), (5, .int v5)] := hl
  unfold M_copy at h
  refine lv_iload_n hx hb dX6_copy_0 rfl (lv_at hl 1 rfl) ?_
  obtain ⟨c1, hc1, h⟩ := ob h
  refine mc_S (As := [.int v1]) (rest := []) C hJ (metM_isSheet l σ v1 c1 hc1) (va_cwS 1 hts (lw_S q1446 q1447 q118 q1448) rfl rfl rfl hdM_isSheet ⟨Nat.le_of_ble_eq_true rfl, Nat.le_of_ble_eq_true rfl⟩) rfl hl.1 rfl (lv_room (Nat.le_of_ble_eq_true rfl)) dX6_copy_1 (fun H locs hJ => ?_)
  refine lv_if_eq (tgt := 14) hx hb dX6_copy_4 (by decide) (fun hc2 => ?_) (fun hc2 => ?_)
  · have h := ip h hc2
    refine lv_bipush hx hb dX6_copy_14 kb_m2 ?_
    have h := Option.some.inj h
    subst h
    exact hE _ _ _ _ (some (.int ((-2 : Int32)))) hJ ⟨_, rfl⟩ rfl dX6_copy_16
  · have h := im h hc2
    refine lv_iload_n hx hb dX6_copy_7 rfl (lv_at hl 3 rfl) ?_
    obtain ⟨c3, hc3, h⟩ := ob h
    refine mc_S (As := [.int v3]) (rest := []) C hJ (metM_isSheet l σ v3 c3 hc3) (va_cwS 1 hts (lw_S q1446 q1447 q118 q1448) rfl rfl rfl hdM_isSheet ⟨Nat.le_of_ble_eq_true rfl, Nat.le_of_ble_eq_true rfl⟩) rfl hl.1 rfl (lv_room (Nat.le_of_ble_eq_true rfl)) dX6_copy_8 (fun H locs hJ => ?_)
    refine lv_if_ne (tgt := 17) hx hb dX6_copy_11 (by decide) (fun hc4 => ?_) (fun hc4 => ?_)
    · have h := im h hc4
      refine lv_aload_n hx hb dX6_copy_17 rfl (lv_at hl 0 rfl) ?_
      refine mx_ga C hJ 36 (Nat.le_of_ble_eq_true rfl) rfl lk36 dX6_copy_18 ?_
      refine lv_iload_n hx hb dX6_copy_21 rfl (lv_at hl 1 rfl) ?_
      obtain ⟨x5, hx5, h⟩ := ob h
      refine my_zl C hJ hx5 dX6_copy_22 ?_
      refine lv_if_eq (tgt := 35) hx hb dX6_copy_23 (by decide) (fun hc6 => ?_) (fun hc6 => ?_)
      · have h := ip h hc6
        refine lv_aload_n hx hb dX6_copy_35 rfl (lv_at hl 0 rfl) ?_
        refine lv_iconst hx hb dX6_copy_36 kc_1 ?_
        obtain ⟨c7, hc7, h⟩ := ob h
        refine mc_V (As := [.int (1 : Int32)]) (rest := []) C hJ (metM_meets l σ (1 : Int32) c7 hc7) (cwV 1 hts (lw_V q1449 q1451 qs61 q118 q1452) rfl rfl rfl hdM_meets ⟨Nat.le_of_ble_eq_true rfl, Nat.le_of_ble_eq_true rfl⟩) rfl hl.1 rfl (lv_room (Nat.le_of_ble_eq_true rfl)) dX6_copy_37 (fun H locs hJ => ?_)
        have h := Option.some.inj h
        subst h
        exact hE _ _ _ _ (some (.int (c7.1))) hJ ⟨_, rfl⟩ rfl dX6_copy_40
      · have h := im h hc6
        refine lv_aload_n hx hb dX6_copy_26 rfl (lv_at hl 0 rfl) ?_
        refine mx_ga C hJ 36 (Nat.le_of_ble_eq_true rfl) rfl lk36 dX6_copy_27 ?_
        refine lv_iload_n hx hb dX6_copy_30 rfl (lv_at hl 3 rfl) ?_
        obtain ⟨x8, hx8, h⟩ := ob h
        refine my_zl C hJ hx8 dX6_copy_31 ?_
        refine lv_if_ne (tgt := 41) hx hb dX6_copy_32 (by decide) (fun hc9 => ?_) (fun hc9 => ?_)
        · have h := im h hc9
          refine lv_aload_n hx hb dX6_copy_41 rfl (lv_at hl 0 rfl) ?_
          refine mx_ga C hJ 37 (Nat.le_of_ble_eq_true rfl) rfl lk37 dX6_copy_42 ?_
          refine lv_iload_n hx hb dX6_copy_45 rfl (lv_at hl 1 rfl) ?_
          obtain ⟨x10, hx10, h⟩ := ob h
          refine my_il C hJ 37 rfl hx10 dX6_copy_46 ?_
          refine lv_aload_n hx hb dX6_copy_47 rfl (lv_at hl 0 rfl) ?_
          refine mx_ga C hJ 37 (Nat.le_of_ble_eq_true rfl) rfl lk37 dX6_copy_48 ?_
          refine lv_iload_n hx hb dX6_copy_51 rfl (lv_at hl 3 rfl) ?_
          obtain ⟨x11, hx11, h⟩ := ob h
          refine my_il C hJ 37 rfl hx11 dX6_copy_52 ?_
          refine lv_icmp_eq (tgt := 62) hx hb dX6_copy_53 (by decide) (fun hc12 => ?_) (fun hc12 => ?_)
          · have h := ip h hc12
            refine lv_iload_n hx hb dX6_copy_62 rfl (lv_at hl 2 rfl) ?_
            refine lv_if_lt (tgt := 111) hx hb dX6_copy_63 (by decide) (fun hc13 => ?_) (fun hc13 => ?_)
            · have h := ip h hc13
              refine lv_aload_n hx hb dX6_copy_111 rfl (lv_at hl 0 rfl) ?_
              refine lv_iconst hx hb dX6_copy_112 kc_2 ?_
              obtain ⟨c14, hc14, h⟩ := ob h
              refine mc_V (As := [.int (2 : Int32)]) (rest := []) C hJ (metM_meets l σ (2 : Int32) c14 hc14) (cwV 1 hts (lw_V q1449 q1451 qs61 q118 q1452) rfl rfl rfl hdM_meets ⟨Nat.le_of_ble_eq_true rfl, Nat.le_of_ble_eq_true rfl⟩) rfl hl.1 rfl (lv_room (Nat.le_of_ble_eq_true rfl)) dX6_copy_113 (fun H locs hJ => ?_)
              have h := Option.some.inj h
              subst h
              exact hE _ _ _ _ (some (.int (c14.1))) hJ ⟨_, rfl⟩ rfl dX6_copy_116
            · have h := im h hc13
              refine lv_iload hx hb dX6_copy_66 (lv_at hl 4 rfl) ?_
              refine lv_if_lt (tgt := 111) hx hb dX6_copy_68 (by decide) (fun hc15 => ?_) (fun hc15 => ?_)
              · have h := ip h hc15
                refine lv_aload_n hx hb dX6_copy_111 rfl (lv_at hl 0 rfl) ?_
                refine lv_iconst hx hb dX6_copy_112 kc_2 ?_
                obtain ⟨c16, hc16, h⟩ := ob h
                refine mc_V (As := [.int (2 : Int32)]) (rest := []) C hJ (metM_meets l σ (2 : Int32) c16 hc16) (cwV 1 hts (lw_V q1449 q1451 qs61 q118 q1452) rfl rfl rfl hdM_meets ⟨Nat.le_of_ble_eq_true rfl, Nat.le_of_ble_eq_true rfl⟩) rfl hl.1 rfl (lv_room (Nat.le_of_ble_eq_true rfl)) dX6_copy_113 (fun H locs hJ => ?_)
                have h := Option.some.inj h
                subst h
                exact hE _ _ _ _ (some (.int (c16.1))) hJ ⟨_, rfl⟩ rfl dX6_copy_116
              · have h := im h hc15
                refine lv_iload hx hb dX6_copy_71 (lv_at hl 5 rfl) ?_
                refine lv_if_lt (tgt := 111) hx hb dX6_copy_73 (by decide) (fun hc17 => ?_) (fun hc17 => ?_)
                · have h := ip h hc17
                  refine lv_aload_n hx hb dX6_copy_111 rfl (lv_at hl 0 rfl) ?_
                  refine lv_iconst hx hb dX6_copy_112 kc_2 ?_
                  obtain ⟨c18, hc18, h⟩ := ob h
                  refine mc_V (As := [.int (2 : Int32)]) (rest := []) C hJ (metM_meets l σ (2 : Int32) c18 hc18) (cwV 1 hts (lw_V q1449 q1451 qs61 q118 q1452) rfl rfl rfl hdM_meets ⟨Nat.le_of_ble_eq_true rfl, Nat.le_of_ble_eq_true rfl⟩) rfl hl.1 rfl (lv_room (Nat.le_of_ble_eq_true rfl)) dX6_copy_113 (fun H locs hJ => ?_)
                  have h := Option.some.inj h
                  subst h
                  exact hE _ _ _ _ (some (.int (c18.1))) hJ ⟨_, rfl⟩ rfl dX6_copy_116
                · have h := im h hc17
                  refine lv_iload_n hx hb dX6_copy_76 rfl (lv_at hl 2 rfl) ?_
                  refine lv_i2l (v := v2.toInt64) hx hb dX6_copy_77 rfl ?_
                  refine lv_iload hx hb dX6_copy_78 (lv_at hl 5 rfl) ?_
                  refine lv_i2l (v := v5.toInt64) hx hb dX6_copy_80 rfl ?_
                  refine lv_ladd hx hb dX6_copy_81 ?_
                  refine lv_aload_n hx hb dX6_copy_82 rfl (lv_at hl 0 rfl) ?_
                  refine mx_ga C hJ 38 (Nat.le_of_ble_eq_true rfl) rfl lk38 dX6_copy_83 ?_
                  refine lv_iload_n hx hb dX6_copy_86 rfl (lv_at hl 1 rfl) ?_
                  obtain ⟨x19, hx19, h⟩ := ob h
                  refine my_il C hJ 38 rfl hx19 dX6_copy_87 ?_
                  refine lv_i2l (v := x19.toInt64) hx hb dX6_copy_88 rfl ?_
                  refine W.lcmp hx hb dX6_copy_89 ?_
                  refine lv_if_gt (tgt := 111) hx hb dX6_copy_90 (by decide) (fun hc20 => ?_) (fun hc20 => ?_)
                  · have h := ip h hc20
                    refine lv_aload_n hx hb dX6_copy_111 rfl (lv_at hl 0 rfl) ?_
                    refine lv_iconst hx hb dX6_copy_112 kc_2 ?_
                    obtain ⟨c21, hc21, h⟩ := ob h
                    refine mc_V (As := [.int (2 : Int32)]) (rest := []) C hJ (metM_meets l σ (2 : Int32) c21 hc21) (cwV 1 hts (lw_V q1449 q1451 qs61 q118 q1452) rfl rfl rfl hdM_meets ⟨Nat.le_of_ble_eq_true rfl, Nat.le_of_ble_eq_true rfl⟩) rfl hl.1 rfl (lv_room (Nat.le_of_ble_eq_true rfl)) dX6_copy_113 (fun H locs hJ => ?_)
                    have h := Option.some.inj h
                    subst h
                    exact hE _ _ _ _ (some (.int (c21.1))) hJ ⟨_, rfl⟩ rfl dX6_copy_116
                  · have h := im h hc20
                    refine lv_iload hx hb dX6_copy_93 (lv_at hl 4 rfl) ?_
                    refine lv_i2l (v := v4.toInt64) hx hb dX6_copy_95 rfl ?_
                    refine lv_iload hx hb dX6_copy_96 (lv_at hl 5 rfl) ?_
                    refine lv_i2l (v := v5.toInt64) hx hb dX6_copy_98 rfl ?_
                    refine lv_ladd hx hb dX6_copy_99 ?_
                    refine lv_aload_n hx hb dX6_copy_100 rfl (lv_at hl 0 rfl) ?_
                    refine mx_ga C hJ 38 (Nat.le_of_ble_eq_true rfl) rfl lk38 dX6_copy_101 ?_
                    refine lv_iload_n hx hb dX6_copy_104 rfl (lv_at hl 3 rfl) ?_
                    obtain ⟨x22, hx22, h⟩ := ob h
                    refine my_il C hJ 38 rfl hx22 dX6_copy_105 ?_
                    refine lv_i2l (v := x22.toInt64) hx hb dX6_copy_106 rfl ?_
                    refine W.lcmp hx hb dX6_copy_107 ?_
                    refine lv_if_le (tgt := 117) hx hb dX6_copy_108 (by decide) (fun hc23 => ?_) (fun hc23 => ?_)
                    · have h := ip h hc23
                      refine lv_iconst hx hb dX6_copy_117 kc_0 ?_
                      refine lv_istore (lv' := [(6, .int (0 : Int32)), (0, .ref (kO K)), (1, .int v1), (2, .int v2), (3, .int v3), (4, .int v4), (5, .int v5)]) hx hb dX6_copy_118 hl (Nat.le_of_ble_eq_true rfl) rfl (fun ls hl => ?_)
                      obtain ⟨q25, hq25, h⟩ := ob h
                      have hxq25 : ∀ (H : Heap) (locs : List Loc) (ls : Array Slot), MJ K q25 s.heap H locs → lv_has ls 7 [(0, .ref (kO K)), (3, .int v3), (4, .int v4), (5, .int v5)] → W p l e (rmd 3) s m args below meth c H locs 0 0 Q (F0 m 154 ls []) := by
                        intro H locs ls hJ hl
                        refine lv_iconst hx hb dX6_copy_154 kc_0 ?_
                        refine lv_istore (lv' := [(6, .int (0 : Int32)), (0, .ref (kO K)), (3, .int v3), (4, .int v4), (5, .int v5)]) hx hb dX6_copy_155 hl (Nat.le_of_ble_eq_true rfl) rfl (fun ls hl => ?_)
                        obtain ⟨q30, hq30, h⟩ := ob h
                        have hxq30 : ∀ (H : Heap) (locs : List Loc) (ls : Array Slot), MJ K q30 s.heap H locs → lv_has ls 7 [] → W p l e (rmd 3) s m args below meth c H locs 0 0 Q (F0 m 192 ls []) := by
                          intro H locs ls hJ hl
                          refine lv_iconst hx hb dX6_copy_192 kc_1 ?_
                          have h := Option.some.inj h
                          subst h
                          exact hE _ _ _ _ (some (.int ((1 : Int32)))) hJ ⟨_, rfl⟩ rfl dX6_copy_193
                        refine lp_ind (P := fun (w29 : Int32 × MM) => ∀ (H : Heap) (locs : List Loc) (ls : Array Slot), MJ K w29.2 s.heap H locs → lv_has ls 7 [(0, .ref (kO K)), (3, .int v3), (4, .int v4), (5, .int v5), (6, .int w29.1)] → W p l e (rmd 3) s m args below meth c H locs 0 0 Q (F0 m 157 ls [])) ?_ _ _ hq30 _ _ _ hJ (lv_sub hl [1, 2, 3, 4, 0] rfl)
                        intro nw29 w29 ihw29 zw29 hzw29 hqw29 H locs ls hJ hl
                        refine lv_iload hx hb dX6_copy_157 (lv_at hl 4 rfl) ?_
                        refine lv_iload hx hb dX6_copy_159 (lv_at hl 3 rfl) ?_
                        refine lv_icmp_ge (tgt := 192) hx hb dX6_copy_161 (by decide) (fun hc31 => ?_) (fun hc31 => ?_)
                        · have hzw29 := ip hzw29 hc31
                          have hzw29 := Option.some.inj hzw29
                          subst hzw29
                          have hqw29 : _ = q30 := hqw29
                          subst hqw29
                          exact hxq30 _ _ _ hJ (lv_sub hl [] rfl)
                        · have hzw29 := im hzw29 hc31
                          refine lv_aload_n hx hb dX6_copy_164 rfl (lv_at hl 0 rfl) ?_
                          refine mx_ga C hJ 39 (Nat.le_of_ble_eq_true rfl) rfl lk39 dX6_copy_165 ?_
                          refine lv_bipush hx hb dX6_copy_168 kb_60 ?_
                          refine lv_iload_n hx hb dX6_copy_170 rfl (lv_at hl 1 rfl) ?_
                          refine lv_imul hx hb dX6_copy_171 ?_
                          refine lv_iload hx hb dX6_copy_172 (lv_at hl 2 rfl) ?_
                          refine lv_iadd hx hb dX6_copy_174 ?_
                          refine lv_iload hx hb dX6_copy_175 (lv_at hl 4 rfl) ?_
                          refine lv_iadd hx hb dX6_copy_177 ?_
                          refine lv_aload_n hx hb dX6_copy_178 rfl (lv_at hl 0 rfl) ?_
                          refine mx_ga C hJ 40 (Nat.le_of_ble_eq_true rfl) rfl lk40 dX6_copy_179 ?_
                          refine lv_iload hx hb dX6_copy_182 (lv_at hl 4 rfl) ?_
                          obtain ⟨x32, hx32, hzw29⟩ := ob hzw29
                          refine my_il C hJ 40 rfl hx32 dX6_copy_184 ?_
                          obtain ⟨σ33, hσ33, hzw29⟩ := ob hzw29
                          refine my_is C hJ 39 rfl hσ33 dX6_copy_185 (fun H locs hJ => ?_)
                          refine lv_iinc (v := (w29.1 + 1)) (lv' := [(6, .int (w29.1 + 1)), (0, .ref (kO K)), (3, .int v3), (4, .int v4), (5, .int v5)]) hx hb dX6_copy_186 hl (k := 4) rfl rfl (Nat.le_of_ble_eq_true rfl) rfl (fun ls hl => ?_)
                          refine lv_goto (tgt := 157) hx hb dX6_copy_189 (by decide) ?_
                          have hzw29 := Option.some.inj hzw29
                          subst hzw29
                          exact ihw29 _ hqw29 _ _ _ hJ (lv_sub hl [1, 2, 3, 4, 0] rfl)
                      refine lp_ind (P := fun (w24 : Int32 × MM) => ∀ (H : Heap) (locs : List Loc) (ls : Array Slot), MJ K w24.2 s.heap H locs → lv_has ls 7 [(0, .ref (kO K)), (1, .int v1), (2, .int v2), (3, .int v3), (4, .int v4), (5, .int v5), (6, .int w24.1)] → W p l e (rmd 3) s m args below meth c H locs 0 0 Q (F0 m 120 ls [])) ?_ _ _ hq25 _ _ _ hJ (lv_sub hl [1, 2, 3, 4, 5, 6, 0] rfl)
                      intro nw24 w24 ihw24 zw24 hzw24 hqw24 H locs ls hJ hl
                      refine lv_iload hx hb dX6_copy_120 (lv_at hl 6 rfl) ?_
                      refine lv_iload hx hb dX6_copy_122 (lv_at hl 5 rfl) ?_
                      refine lv_icmp_ge (tgt := 154) hx hb dX6_copy_124 (by decide) (fun hc26 => ?_) (fun hc26 => ?_)
                      · have hzw24 := ip hzw24 hc26
                        have hzw24 := Option.some.inj hzw24
                        subst hzw24
                        have hqw24 : _ = q25 := hqw24
                        subst hqw24
                        exact hxq25 _ _ _ hJ (lv_sub hl [0, 3, 4, 5] rfl)
                      · have hzw24 := im hzw24 hc26
                        refine lv_aload_n hx hb dX6_copy_127 rfl (lv_at hl 0 rfl) ?_
                        refine mx_ga C hJ 40 (Nat.le_of_ble_eq_true rfl) rfl lk40 dX6_copy_128 ?_
                        refine lv_iload hx hb dX6_copy_131 (lv_at hl 6 rfl) ?_
                        refine lv_aload_n hx hb dX6_copy_133 rfl (lv_at hl 0 rfl) ?_
                        refine mx_ga C hJ 39 (Nat.le_of_ble_eq_true rfl) rfl lk39 dX6_copy_134 ?_
                        refine lv_bipush hx hb dX6_copy_137 kb_60 ?_
                        refine lv_iload_n hx hb dX6_copy_139 rfl (lv_at hl 1 rfl) ?_
                        refine lv_imul hx hb dX6_copy_140 ?_
                        refine lv_iload_n hx hb dX6_copy_141 rfl (lv_at hl 2 rfl) ?_
                        refine lv_iadd hx hb dX6_copy_142 ?_
                        refine lv_iload hx hb dX6_copy_143 (lv_at hl 6 rfl) ?_
                        refine lv_iadd hx hb dX6_copy_145 ?_
                        obtain ⟨x27, hx27, hzw24⟩ := ob hzw24
                        refine my_il C hJ 39 rfl hx27 dX6_copy_146 ?_
                        obtain ⟨σ28, hσ28, hzw24⟩ := ob hzw24
                        refine my_is C hJ 40 rfl hσ28 dX6_copy_147 (fun H locs hJ => ?_)
                        refine lv_iinc (v := (w24.1 + 1)) (lv' := [(6, .int (w24.1 + 1)), (0, .ref (kO K)), (1, .int v1), (2, .int v2), (3, .int v3), (4, .int v4), (5, .int v5)]) hx hb dX6_copy_148 hl (k := 6) rfl rfl (Nat.le_of_ble_eq_true rfl) rfl (fun ls hl => ?_)
                        refine lv_goto (tgt := 120) hx hb dX6_copy_151 (by decide) ?_
                        have hzw24 := Option.some.inj hzw24
                        subst hzw24
                        exact ihw24 _ hqw24 _ _ _ hJ (lv_sub hl [1, 2, 3, 4, 5, 6, 0] rfl)
                    · have h := im h hc23
                      refine lv_aload_n hx hb dX6_copy_111 rfl (lv_at hl 0 rfl) ?_
                      refine lv_iconst hx hb dX6_copy_112 kc_2 ?_
                      obtain ⟨c34, hc34, h⟩ := ob h
                      refine mc_V (As := [.int (2 : Int32)]) (rest := []) C hJ (metM_meets l σ (2 : Int32) c34 hc34) (cwV 1 hts (lw_V q1449 q1451 qs61 q118 q1452) rfl rfl rfl hdM_meets ⟨Nat.le_of_ble_eq_true rfl, Nat.le_of_ble_eq_true rfl⟩) rfl hl.1 rfl (lv_room (Nat.le_of_ble_eq_true rfl)) dX6_copy_113 (fun H locs hJ => ?_)
                      have h := Option.some.inj h
                      subst h
                      exact hE _ _ _ _ (some (.int (c34.1))) hJ ⟨_, rfl⟩ rfl dX6_copy_116
          · have h := im h hc12
            refine lv_aload_n hx hb dX6_copy_56 rfl (lv_at hl 0 rfl) ?_
            refine lv_iconst hx hb dX6_copy_57 kc_4 ?_
            obtain ⟨c35, hc35, h⟩ := ob h
            refine mc_V (As := [.int (4 : Int32)]) (rest := []) C hJ (metM_meets l σ (4 : Int32) c35 hc35) (cwV 1 hts (lw_V q1449 q1451 qs61 q118 q1452) rfl rfl rfl hdM_meets ⟨Nat.le_of_ble_eq_true rfl, Nat.le_of_ble_eq_true rfl⟩) rfl hl.1 rfl (lv_room (Nat.le_of_ble_eq_true rfl)) dX6_copy_58 (fun H locs hJ => ?_)
            have h := Option.some.inj h
            subst h
            exact hE _ _ _ _ (some (.int (c35.1))) hJ ⟨_, rfl⟩ rfl dX6_copy_61
        · have h := ip h hc9
          refine lv_aload_n hx hb dX6_copy_35 rfl (lv_at hl 0 rfl) ?_
          refine lv_iconst hx hb dX6_copy_36 kc_1 ?_
          obtain ⟨c36, hc36, h⟩ := ob h
          refine mc_V (As := [.int (1 : Int32)]) (rest := []) C hJ (metM_meets l σ (1 : Int32) c36 hc36) (cwV 1 hts (lw_V q1449 q1451 qs61 q118 q1452) rfl rfl rfl hdM_meets ⟨Nat.le_of_ble_eq_true rfl, Nat.le_of_ble_eq_true rfl⟩) rfl hl.1 rfl (lv_room (Nat.le_of_ble_eq_true rfl)) dX6_copy_37 (fun H locs hJ => ?_)
          have h := Option.some.inj h
          subst h
          exact hE _ _ _ _ (some (.int (c36.1))) hJ ⟨_, rfl⟩ rfl dX6_copy_40
    · have h := ip h hc4
      refine lv_bipush hx hb dX6_copy_14 kb_m2 ?_
      have h := Option.some.inj h
      subst h
      exact hE _ _ _ _ (some (.int ((-2 : Int32)))) hJ ⟨_, rfl⟩ rfl dX6_copy_16
