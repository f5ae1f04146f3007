/-! the reference, walked (printed by tool/gen_m.py) -/
set_option maxRecDepth 100000
def M_houseOf (σ : MM) (v1 : Int32) (v2 : Int32) : Option (Int32 × MM) :=
  (M_runsTold σ).bind fun c1 =>
  if v2 = 0 then
    (mld c1 28 v1).bind fun x7 =>
    some (x7, c1)
  else
    if v2 = (1 : Int32) then
      (mld c1 29 v1).bind fun x6 =>
      some (x6, c1)
    else
      (M_isCarried c1 v1).bind fun c4 =>
      if c4 = 0 then
        some ((0 : Int32), c1)
      else
        some ((1 : Int32), c1)
theorem hdM_houseOf : yX6_houseOf.cls = RX6 ∧ yX6_houseOf.cls ≠ "java/lang/invoke/MethodHandle" ∧ yX6_houseOf.cls ≠ "java/lang/invoke/VarHandle" ∧ (parseMethodDescriptor yX6_houseOf.desc).map (fun d => d.parameters.length) = some 2 := by decide +kernel
set_option maxHeartbeats 4000000 in
theorem metM_houseOf (l : Launch) (σ : MM) (v1 : Int32) (v2 : Int32) (res : Int32 × MM) (h : M_houseOf σ v1 v2 = some res) : MetM l yX6_houseOf cX6_houseOf 3 (some .int) 9 (fun K => [.ref (kO K), .int v1, .int v2]) σ (some (.int res.1)) res.2 := by
  refine met_walk rfl (by simp [mRt]) (fun _ => Nat.le_of_ble_eq_true rfl) (fun K p e s m args below meth c Q C hE ls hl hJ => ?_)
  have hx := C.1.1
  have hb := C.1.2.1
  have hown := C.1.2.2.2.1
  have hts := C.1.2.2.2.2
  have hl : lv_has ls 3 [(0, .ref (kO K)), (1, .int v1), (2, .int v2)] := hl
  unfold M_houseOf at h
  refine lv_aload_n hx hb dX6_houseOf_0 rfl (lv_at hl 0 rfl) ?_
  obtain ⟨c1, hc1, h⟩ := ob h
  refine mc_V (As := []) (rest := []) C hJ (metM_runsTold l σ c1 hc1) (cwV 0 hts (lw_V q1462 q1464 qs63 q118 q1465) rfl rfl rfl hdM_runsTold ⟨Nat.le_of_ble_eq_true rfl, Nat.le_of_ble_eq_true rfl⟩) rfl hl.1 rfl (lv_room (Nat.le_of_ble_eq_true rfl)) dX6_houseOf_1 (fun H locs hJ => ?_)
  refine lv_iload_n hx hb dX6_houseOf_4 rfl (lv_at hl 2 rfl) ?_
  refine lv_if_ne (tgt := 17) hx hb dX6_houseOf_5 (by decide) (fun hc2 => ?_) (fun hc2 => ?_)
  · have h := im h hc2
    refine lv_iload_n hx hb dX6_houseOf_17 rfl (lv_at hl 2 rfl) ?_
    refine lv_iconst hx hb dX6_houseOf_18 kc_1 ?_
    refine lv_icmp_ne (tgt := 31) hx hb dX6_houseOf_19 (by decide) (fun hc3 => ?_) (fun hc3 => ?_)
    · have h := im h hc3
      refine lv_aload_n hx hb dX6_houseOf_31 rfl (lv_at hl 0 rfl) ?_
      refine lv_iload_n hx hb dX6_houseOf_32 rfl (lv_at hl 1 rfl) ?_
      obtain ⟨c4, hc4, h⟩ := ob h
      refine mc_V (As := [.int v1]) (rest := []) C hJ (metM_isCarried l c1 v1 c4 hc4) (cwV 1 hts (lw_V q1541 q1543 qs80 q118 q1544) rfl rfl rfl hdM_isCarried ⟨Nat.le_of_ble_eq_true rfl, Nat.le_of_ble_eq_true rfl⟩) rfl hl.1 rfl (lv_room (Nat.le_of_ble_eq_true rfl)) dX6_houseOf_33 (fun H locs hJ => ?_)
      refine lv_if_eq (tgt := 43) hx hb dX6_houseOf_36 (by decide) (fun hc5 => ?_) (fun hc5 => ?_)
      · have h := ip h hc5
        refine lv_iconst hx hb dX6_houseOf_43 kc_0 ?_
        have h := Option.some.inj h
        subst h
        exact hE _ _ _ _ (some (.int ((0 : Int32)))) hJ ⟨_, rfl⟩ rfl dX6_houseOf_44
      · have h := im h hc5
        refine lv_iconst hx hb dX6_houseOf_39 kc_1 ?_
        refine lv_goto (tgt := 44) hx hb dX6_houseOf_40 (by decide) ?_
        have h := Option.some.inj h
        subst h
        exact hE _ _ _ _ (some (.int ((1 : Int32)))) hJ ⟨_, rfl⟩ rfl dX6_houseOf_44
    · have h := ip h hc3
      refine lv_aload_n hx hb dX6_houseOf_22 rfl (lv_at hl 0 rfl) ?_
      refine mx_ga C hJ 29 (Nat.le_of_ble_eq_true rfl) rfl lk29 dX6_houseOf_23 ?_
      refine lv_iload_n hx hb dX6_houseOf_26 rfl (lv_at hl 1 rfl) ?_
      obtain ⟨x6, hx6, h⟩ := ob h
      refine my_il C hJ 29 rfl hx6 dX6_houseOf_27 ?_
      refine lv_goto (tgt := 44) hx hb dX6_houseOf_28 (by decide) ?_
      have h := Option.some.inj h
      subst h
      exact hE _ _ _ _ (some (.int (x6))) hJ ⟨_, rfl⟩ rfl dX6_houseOf_44
  · have h := ip h hc2
    refine lv_aload_n hx hb dX6_houseOf_8 rfl (lv_at hl 0 rfl) ?_
    refine mx_ga C hJ 28 (Nat.le_of_ble_eq_true rfl) rfl lk28 dX6_houseOf_9 ?_
    refine lv_iload_n hx hb dX6_houseOf_12 rfl (lv_at hl 1 rfl) ?_
    obtain ⟨x7, hx7, h⟩ := ob h
    refine my_il C hJ 28 rfl hx7 dX6_houseOf_13 ?_
    refine lv_goto (tgt := 44) hx hb dX6_houseOf_14 (by decide) ?_
    have h := Option.some.inj h
    subst h
    exact hE _ _ _ _ (some (.int (x7))) hJ ⟨_, rfl⟩ rfl dX6_houseOf_44
def M_governmentsOf (σ : MM) : Option (Int32 × MM) :=
  (M_runsTold σ).bind fun c1 =>
  (M_governmentsNow c1).bind fun c2 =>
  some (c2, c1)
theorem hdM_governmentsOf : yX6_governmentsOf.cls = RX6 ∧ yX6_governmentsOf.cls ≠ "java/lang/invoke/MethodHandle" ∧ yX6_governmentsOf.cls ≠ "java/lang/invoke/VarHandle" ∧ (parseMethodDescriptor yX6_governmentsOf.desc).map (fun d => d.parameters.length) = some 0 := by decide +kernel
set_option maxHeartbeats 4000000 in
theorem metM_governmentsOf (l : Launch) (σ : MM) (res : Int32 × MM) (h : M_governmentsOf σ = some res) : MetM l yX6_governmentsOf cX6_governmentsOf 1 (some .int) 9 (fun K => [.ref (kO K)]) σ (some (.int res.1)) res.2 := by
  refine met_walk rfl (by simp [mRt]) (fun _ => Nat.le_of_ble_eq_true rfl) (fun K p e s m args below meth c Q C hE ls hl hJ => ?_)
  have hx := C.1.1
  have hb := C.1.2.1
  have hown := C.1.2.2.2.1
  have hts := C.1.2.2.2.2
  have hl : lv_has ls 1 [(0, .ref (kO K))] := hl
  unfold M_governmentsOf at h
  refine lv_aload_n hx hb dX6_governmentsOf_0 rfl (lv_at hl 0 rfl) ?_
  obtain ⟨c1, hc1, h⟩ := ob h
  refine mc_V (As := []) (rest := []) C hJ (metM_runsTold l σ c1 hc1) (cwV 0 hts (lw_V q1462 q1464 qs63 q118 q1465) rfl rfl rfl hdM_runsTold ⟨Nat.le_of_ble_eq_true rfl, Nat.le_of_ble_eq_true rfl⟩) rfl hl.1 rfl (lv_room (Nat.le_of_ble_eq_true rfl)) dX6_governmentsOf_1 (fun H locs hJ => ?_)
  refine lv_aload_n hx hb dX6_governmentsOf_4 rfl (lv_at hl 0 rfl) ?_
  obtain ⟨c2, hc2, h⟩ := ob h
  refine mc_V (As := []) (rest := []) C hJ (metM_governmentsNow l c1 c2 hc2) (cwV 0 hts (lw_V q1553 q1555 qs82 q118 q1556) rfl rfl rfl hdM_governmentsNow ⟨Nat.le_of_ble_eq_true rfl, Nat.le_of_ble_eq_true rfl⟩) rfl hl.1 rfl (lv_room (Nat.le_of_ble_eq_true rfl)) dX6_governmentsOf_5 (fun H locs hJ => ?_)
  have h := Option.some.inj h
  subst h
  exact hE _ _ _ _ (some (.int (c2))) hJ ⟨_, rfl⟩ rfl dX6_governmentsOf_8
def M_carriedOf (σ : MM) : Option (Int32 × MM) :=
  (M_runsTold σ).bind fun c1 =>
  (M_carriedNow c1).bind fun c2 =>
  some (c2, c1)
theorem hdM_carriedOf : yX6_carriedOf.cls = RX6 ∧ yX6_carriedOf.cls ≠ "java/lang/invoke/MethodHandle" ∧ yX6_carriedOf.cls ≠ "java/lang/invoke/VarHandle" ∧ (parseMethodDescriptor yX6_carriedOf.desc).map (fun d => d.parameters.length) = some 0 := by decide +kernel
set_option maxHeartbeats 4000000 in
theorem metM_carriedOf (l : Launch) (σ : MM) (res : Int32 × MM) (h : M_carriedOf σ = some res) : MetM l yX6_carriedOf cX6_carriedOf 1 (some .int) 9 (fun K => [.ref (kO K)]) σ (some (.int res.1)) res.2 := by
  refine met_walk rfl (by simp [mRt]) (fun _ => Nat.le_of_ble_eq_true rfl) (fun K p e s m args below meth c Q C hE ls hl hJ => ?_)
  have hx := C.1.1
  have hb := C.1.2.1
  have hown := C.1.2.2.2.1
  have hts := C.1.2.2.2.2
  have hl : lv_has ls 1 [(0, .ref (kO K))] := hl
  unfold M_carriedOf at h
  refine lv_aload_n hx hb dX6_carriedOf_0 rfl (lv_at hl 0 rfl) ?_
  obtain ⟨c1, hc1, h⟩ := ob h
  refine mc_V (As := []) (rest := []) C hJ (metM_runsTold l σ c1 hc1) (cwV 0 hts (lw_V q1462 q1464 qs63 q118 q1465) rfl rfl rfl hdM_runsTold ⟨Nat.le_of_ble_eq_true rfl, Nat.le_of_ble_eq_true rfl⟩) rfl hl.1 rfl (lv_room (Nat.le_of_ble_eq_true rfl)) dX6_carriedOf_1 (fun H locs hJ => ?_)
  refine lv_aload_n hx hb dX6_carriedOf_4 rfl (lv_at hl 0 rfl) ?_
  obtain ⟨c2, hc2, h⟩ := ob h
  refine mc_V (As := []) (rest := []) C hJ (metM_carriedNow l c1 c2 hc2) (cwV 0 hts (lw_V q1565 q1567 qs84 q118 q1568) rfl rfl rfl hdM_carriedNow ⟨Nat.le_of_ble_eq_true rfl, Nat.le_of_ble_eq_true rfl⟩) rfl hl.1 rfl (lv_room (Nat.le_of_ble_eq_true rfl)) dX6_carriedOf_5 (fun H locs hJ => ?_)
  have h := Option.some.inj h
  subst h
  exact hE _ _ _ _ (some (.int (c2))) hJ ⟨_, rfl⟩ rfl dX6_carriedOf_8
def M_crowdOf (σ : MM) (v1 : Int32) : Option (Int32 × MM) :=
  (M_runsTold σ).bind fun c1 =>
  (lp (S := Int32 × Int32 × Int32) (T := Int32 × Int32) (fun w2 =>
    if (240 : Int32) ≤ w2.2.2 then
        some (.inr (w2.1, w2.2.1))
      else
        (M_manyAt c1 (w2.2.2 / (12 : Int32)) (w2.2.2 - w2.2.2 / (12 : Int32) * (12 : Int32))).bind fun c5 =>
        (if c5 ≤ w2.2.1 then
            some w2.1
          else
            some w2.2.2 : Option (Int32)).bind fun q7 =>
        if c5 ≤ w2.2.1 then
          some (.inl (q7, w2.2.1, (w2.2.2 + 1)))
        else
          some (.inl (q7, c5, (w2.2.2 + 1)))) 2000 ((-1 : Int32), (0 : Int32), (0 : Int32))).bind fun q3 =>
  if q3.1 = (-1 : Int32) then
    some ((-1 : Int32), c1)
  else
    if v1 = 0 then
      some ((q3.1 / (12 : Int32)), c1)
    else
      if v1 = (1 : Int32) then
        some ((q3.1 - q3.1 / (12 : Int32) * (12 : Int32)), c1)
      else
        some (q3.2, c1)
theorem hdM_crowdOf : yX6_crowdOf.cls = RX6 ∧ yX6_crowdOf.cls ≠ "java/lang/invoke/MethodHandle" ∧ yX6_crowdOf.cls ≠ "java/lang/invoke/VarHandle" ∧ (parseMethodDescriptor yX6_crowdOf.desc).map (fun d => d.parameters.length) = some 1 := by decide +kernel
set_option maxHeartbeats 4000000 in
theorem metM_crowdOf (l : Launch) (σ : MM) (v1 : Int32) (res : Int32 × MM) (h : M_crowdOf σ v1 = some res) : MetM l yX6_crowdOf cX6_crowdOf 6 (some .int) 9 (fun K => [.ref (kO K), .int v1]) σ (some (.int res.1)) res.2 := by
  refine met_walk rfl (by simp [mRt]) (fun _ => Nat.le_of_ble_eq_true rfl) (fun K p e s m args below meth c Q C hE ls hl hJ => ?_)
  have hx := C.1.1
  have hb := C.1.2.1
  have hown := C.1.2.2.2.1
  have hts := C.1.2.2.2.2
  have hl : lv_has ls 6 [(0, .ref (kO K)), (1, .int v1)] := hl
  unfold M_crowdOf at h
  refine lv_aload_n hx hb dX6_crowdOf_0 rfl (lv_at hl 0 rfl) ?_
  obtain ⟨c1, hc1, h⟩ := ob h
  refine mc_V (As := []) (rest := []) C hJ (metM_runsTold l σ c1 hc1) (cwV 0 hts (lw_V q1462 q1464 qs63 q118 q1465) rfl rfl rfl hdM_runsTold ⟨Nat.le_of_ble_eq_true rfl, Nat.le_of_ble_eq_true rfl⟩) rfl hl.1 rfl (lv_room (Nat.le_of_ble_eq_true rfl)) dX6_crowdOf_1 (fun H locs hJ => ?_)
  refine lv_iconst hx hb dX6_crowdOf_4 kc_m1 ?_
  refine lv_istore_n (lv' := [(2, .int (-1 : Int32)), (0, .ref (kO K)), (1, .int v1)]) hx hb dX6_crowdOf_5 rfl hl (Nat.le_of_ble_eq_true rfl) rfl (fun ls hl => ?_)
  refine lv_iconst hx hb dX6_crowdOf_6 kc_0 ?_
  refine lv_istore_n (lv' := [(3, .int (0 : Int32)), (2, .int (-1 : Int32)), (0, .ref (kO K)), (1, .int v1)]) hx hb dX6_crowdOf_7 rfl hl (Nat.le_of_ble_eq_true rfl) rfl (fun ls hl => ?_)
  refine lv_iconst hx hb dX6_crowdOf_8 kc_0 ?_
  refine lv_istore (lv' := [(4, .int (0 : Int32)), (3, .int (0 : Int32)), (2, .int (-1 : Int32)), (0, .ref (kO K)), (1, .int v1)]) hx hb dX6_crowdOf_9 hl (Nat.le_of_ble_eq_true rfl) rfl (fun ls hl => ?_)
  obtain ⟨q3, hq3, h⟩ := ob h
  have hxq3 : ∀ (H : Heap) (locs : List Loc) (ls : Array Slot), MJ K c1 s.heap H locs → lv_has ls 6 [(1, .int v1), (2, .int q3.1), (3, .int q3.2)] → W p l e (rmd 9) s m args below meth c H locs 0 0 Q (F0 m 67 ls []) := by
    intro H locs ls hJ hl
    refine lv_iload_n hx hb dX6_crowdOf_67 rfl (lv_at hl 1 rfl) ?_
    refine lv_iconst hx hb dX6_crowdOf_68 kc_m1 ?_
    refine lv_icmp_ne (tgt := 76) hx hb dX6_crowdOf_69 (by decide) (fun hc9 => ?_) (fun hc9 => ?_)
    · have h := im h hc9
      refine lv_iload_n hx hb dX6_crowdOf_76 rfl (lv_at hl 0 rfl) ?_
      refine lv_if_ne (tgt := 87) hx hb dX6_crowdOf_77 (by decide) (fun hc10 => ?_) (fun hc10 => ?_)
      · have h := im h hc10
        refine lv_iload_n hx hb dX6_crowdOf_87 rfl (lv_at hl 0 rfl) ?_
        refine lv_iconst hx hb dX6_crowdOf_88 kc_1 ?_
        refine lv_icmp_ne (tgt := 99) hx hb dX6_crowdOf_89 (by decide) (fun hc11 => ?_) (fun hc11 => ?_)
        · have h := im h hc11
          refine lv_iload_n hx hb dX6_crowdOf_99 rfl (lv_at hl 2 rfl) ?_
          have h := Option.some.inj h
          subst h
          exact hE _ _ _ _ (some (.int (q3.2))) hJ ⟨_, rfl⟩ rfl dX6_crowdOf_100
        · have h := ip h hc11
          refine lv_iload_n hx hb dX6_crowdOf_92 rfl (lv_at hl 1 rfl) ?_
          refine lv_bipush hx hb dX6_crowdOf_93 kb_12 ?_
          refine lv_irem hx hb dX6_crowdOf_95 (by decide) ?_
          refine lv_goto (tgt := 100) hx hb dX6_crowdOf_96 (by decide) ?_
          have h := Option.some.inj h
          subst h
          exact hE _ _ _ _ (some (.int ((q3.1 - q3.1 / (12 : Int32) * (12 : Int32))))) hJ ⟨_, rfl⟩ rfl dX6_crowdOf_100
      · have h := ip h hc10
        refine lv_iload_n hx hb dX6_crowdOf_80 rfl (lv_at hl 1 rfl) ?_
        refine lv_bipush hx hb dX6_crowdOf_81 kb_12 ?_
        refine lv_idiv hx hb dX6_crowdOf_83 (by decide) ?_
        refine lv_goto (tgt := 100) hx hb dX6_crowdOf_84 (by decide) ?_
        have h := Option.some.inj h
        subst h
        exact hE _ _ _ _ (some (.int ((q3.1 / (12 : Int32))))) hJ ⟨_, rfl⟩ rfl dX6_crowdOf_100
    · have h := ip h hc9
      refine lv_iconst hx hb dX6_crowdOf_72 kc_m1 ?_
      refine lv_goto (tgt := 100) hx hb dX6_crowdOf_73 (by decide) ?_
      have h := Option.some.inj h
      subst h
      exact hE _ _ _ _ (some (.int ((-1 : Int32)))) hJ ⟨_, rfl⟩ rfl dX6_crowdOf_100
  refine lp_ind (P := fun (w2 : Int32 × Int32 × Int32) => ∀ (H : Heap) (locs : List Loc) (ls : Array Slot), MJ K c1 s.heap H locs → lv_has ls 6 [(0, .ref (kO K)), (1, .int v1), (2, .int w2.1), (3, .int w2.2.1), (4, .int w2.2.2)] → W p l e (rmd 9) s m args below meth c H locs 0 0 Q (F0 m 11 ls [])) ?_ _ _ hq3 _ _ _ hJ (lv_sub hl [3, 4, 2, 1, 0] rfl)
  intro nw2 w2 ihw2 zw2 hzw2 hqw2 H locs ls hJ hl
  refine lv_iload hx hb dX6_crowdOf_11 (lv_at hl 4 rfl) ?_
  refine lv_sipush hx hb dX6_crowdOf_13 ks_240 ?_
  refine lv_icmp_ge (tgt := 67) hx hb dX6_crowdOf_16 (by decide) (fun hc4 => ?_) (fun hc4 => ?_)
  · have hzw2 := ip hzw2 hc4
    have hzw2 := Option.some.inj hzw2
    subst hzw2
    have hqw2 : _ = q3 := hqw2
    subst hqw2
    exact hxq3 _ _ _ hJ (lv_sub hl [1, 2, 3] rfl)
  · have hzw2 := im hzw2 hc4
    refine lv_aload_n hx hb dX6_crowdOf_19 rfl (lv_at hl 0 rfl) ?_
    refine lv_iload hx hb dX6_crowdOf_20 (lv_at hl 4 rfl) ?_
    refine lv_bipush hx hb dX6_crowdOf_22 kb_12 ?_
    refine lv_idiv hx hb dX6_crowdOf_24 (by decide) ?_
    refine lv_iload hx hb dX6_crowdOf_25 (lv_at hl 4 rfl) ?_
    refine lv_bipush hx hb dX6_crowdOf_27 kb_12 ?_
    refine lv_irem hx hb dX6_crowdOf_29 (by decide) ?_
    obtain ⟨c5, hc5, hzw2⟩ := ob hzw2
    refine mc_V (As := [.int (w2.2.2 / (12 : Int32)), .int (w2.2.2 - w2.2.2 / (12 : Int32) * (12 : Int32))]) (rest := []) C hJ (metM_manyAt l c1 (w2.2.2 / (12 : Int32)) (w2.2.2 - w2.2.2 / (12 : Int32) * (12 : Int32)) c5 hc5) (cwV 2 hts (lw_V q1517 q1519 qs76 q118 q1520) rfl rfl rfl hdM_manyAt ⟨Nat.le_of_ble_eq_true rfl, Nat.le_of_ble_eq_true rfl⟩) rfl hl.1 rfl (lv_room (Nat.le_of_ble_eq_true rfl)) dX6_crowdOf_30 (fun H locs hJ => ?_)
    refine lv_istore (lv' := [(5, .int c5), (0, .ref (kO K)), (1, .int v1), (2, .int w2.1), (3, .int w2.2.1), (4, .int w2.2.2)]) hx hb dX6_crowdOf_33 hl (Nat.le_of_ble_eq_true rfl) rfl (fun ls hl => ?_)
    refine lv_iload hx hb dX6_crowdOf_35 (lv_at hl 0 rfl) ?_
    refine lv_iload_n hx hb dX6_crowdOf_37 rfl (lv_at hl 4 rfl) ?_
    obtain ⟨q7, hq7, hzw2⟩ := ob hzw2
    have hjq7 : ∀ (H : Heap) (locs : List Loc) (ls : Array Slot), MJ K c1 s.heap H locs → lv_has ls 6 [(0, .ref (kO K)), (1, .int v1), (3, .int w2.2.1), (4, .int w2.2.2), (5, .int c5)] → W p l e (rmd 9) s m args below meth c H locs 0 0 Q (F0 m 47 ls [.int q7]) := by
      intro H locs ls hJ hl
      refine lv_istore_n (lv' := [(2, .int q7), (0, .ref (kO K)), (1, .int v1), (3, .int w2.2.1), (4, .int w2.2.2), (5, .int c5)]) hx hb dX6_crowdOf_47 rfl hl (Nat.le_of_ble_eq_true rfl) rfl (fun ls hl => ?_)
      refine lv_iload hx hb dX6_crowdOf_48 (lv_at hl 5 rfl) ?_
      refine lv_iload_n hx hb dX6_crowdOf_50 rfl (lv_at hl 3 rfl) ?_
      refine lv_icmp_le (tgt := 59) hx hb dX6_crowdOf_51 (by decide) (fun hc8 => ?_) (fun hc8 => ?_)
      · have hzw2 := ip hzw2 hc8
        refine lv_iload_n hx hb dX6_crowdOf_59 rfl (lv_at hl 3 rfl) ?_
        refine lv_istore_n (lv' := [(3, .int w2.2.1), (2, .int q7), (0, .ref (kO K)), (1, .int v1), (4, .int w2.2.2), (5, .int c5)]) hx hb dX6_crowdOf_60 rfl hl (Nat.le_of_ble_eq_true rfl) rfl (fun ls hl => ?_)
        refine lv_iinc (v := (w2.2.2 + 1)) (lv' := [(4, .int (w2.2.2 + 1)), (3, .int w2.2.1), (2, .int q7), (0, .ref (kO K)), (1, .int v1), (5, .int c5)]) hx hb dX6_crowdOf_61 hl (k := 4) rfl rfl (Nat.le_of_ble_eq_true rfl) rfl (fun ls hl => ?_)
        refine lv_goto (tgt := 11) hx hb dX6_crowdOf_64 (by decide) ?_
        have hzw2 := Option.some.inj hzw2
        subst hzw2
        exact ihw2 _ hqw2 _ _ _ hJ (lv_sub hl [3, 4, 2, 1, 0] rfl)
      · have hzw2 := im hzw2 hc8
        refine lv_iload hx hb dX6_crowdOf_54 (lv_at hl 5 rfl) ?_
        refine lv_goto (tgt := 60) hx hb dX6_crowdOf_56 (by decide) ?_
        refine lv_istore_n (lv' := [(3, .int c5), (2, .int q7), (0, .ref (kO K)), (1, .int v1), (4, .int w2.2.2), (5, .int c5)]) hx hb dX6_crowdOf_60 rfl hl (Nat.le_of_ble_eq_true rfl) rfl (fun ls hl => ?_)
        refine lv_iinc (v := (w2.2.2 + 1)) (lv' := [(4, .int (w2.2.2 + 1)), (3, .int c5), (2, .int q7), (0, .ref (kO K)), (1, .int v1), (5, .int c5)]) hx hb dX6_crowdOf_61 hl (k := 4) rfl rfl (Nat.le_of_ble_eq_true rfl) rfl (fun ls hl => ?_)
        refine lv_goto (tgt := 11) hx hb dX6_crowdOf_64 (by decide) ?_
        have hzw2 := Option.some.inj hzw2
        subst hzw2
        exact ihw2 _ hqw2 _ _ _ hJ (lv_sub hl [3, 4, 2, 1, 0] rfl)
    refine lv_icmp_le (tgt := 46) hx hb dX6_crowdOf_38 (by decide) (fun hc6 => ?_) (fun hc6 => ?_)
    · have hq7 := ip hq7 hc6
      refine lv_iload_n hx hb dX6_crowdOf_46 rfl (lv_at hl 3 rfl) ?_
      have hq7 := Option.some.inj hq7
      subst hq7
      exact hjq7 _ _ _ hJ (lv_sub hl [1, 2, 4, 5, 0] rfl)
    · have hq7 := im hq7 hc6
      refine lv_iload hx hb dX6_crowdOf_41 (lv_at hl 5 rfl) ?_
      refine lv_goto (tgt := 47) hx hb dX6_crowdOf_43 (by decide) ?_
      have hq7 := Option.some.inj hq7
      subst hq7
      exact hjq7 _ _ _ hJ (lv_sub hl [1, 2, 4, 5, 0] rfl)
def M_oratorOf (σ : MM) : Option (Int32 × MM) :=
  (M_runsTold σ).bind fun c1 =>
  (lp (S := Int32 × Int32) (T := Int32) (fun w2 =>
    if (c1 4 0) ≤ w2.2 then
        some (.inr w2.1)
      else
        if w2.1 = (-1 : Int32) then
          some (.inl (w2.2, (w2.2 + 1)))
        else
          (mld c1 21 w2.2).bind fun x6 =>
          (mld c1 21 w2.1).bind fun x7 =>
          if x6 ≤ x7 then
            some (.inl (w2.1, (w2.2 + 1)))
          else
            some (.inl (w2.2, (w2.2 + 1)))) 2000 ((-1 : Int32), (0 : Int32))).bind fun q3 =>
  some (q3, c1)
theorem hdM_oratorOf : yX6_oratorOf.cls = RX6 ∧ yX6_oratorOf.cls ≠ "java/lang/invoke/MethodHandle" ∧ yX6_oratorOf.cls ≠ "java/lang/invoke/VarHandle" ∧ (parseMethodDescriptor yX6_oratorOf.desc).map (fun d => d.parameters.length) = some 0 := by decide +kernel
set_option maxHeartbeats 4000000 in
theorem metM_oratorOf (l : Launch) (σ : MM) (res : Int32 × MM) (h : M_oratorOf σ = some res) : MetM l yX6_oratorOf cX6_oratorOf 3 (some .int) 9 (fun K => [.ref (kO K)]) σ (some (.int res.1)) res.2 := by
  refine met_walk rfl (by simp [mRt]) (fun _ => Nat.le_of_ble_eq_true rfl) (fun K p e s m args below meth c Q C hE ls hl hJ => ?_)
  have hx := C.1.1
  have hb := C.1.2.1
  have hown := C.1.2.2.2.1
  have hts := C.1.2.2.2.2
  have hl : lv_has ls 3 [(0, .ref (kO K))] := hl
  unfold M_oratorOf at h
  refine lv_aload_n hx hb dX6_oratorOf_0 rfl (lv_at hl 0 rfl) ?_
  obtain ⟨c1, hc1, h⟩ := ob h
  refine mc_V (As := []) (rest := []) C hJ (metM_runsTold l σ c1 hc1) (cwV 0 hts (lw_V q1462 q1464 qs63 q118 q1465) rfl rfl rfl hdM_runsTold ⟨Nat.le_of_ble_eq_true rfl, Nat.le_of_ble_eq_true rfl⟩) rfl hl.1 rfl (lv_room (Nat.le_of_ble_eq_true rfl)) dX6_oratorOf_1 (fun H locs hJ => ?_)
  refine lv_iconst hx hb dX6_oratorOf_4 kc_m1 ?_
  refine lv_istore_n (lv' := [(1, .int (-1 : Int32)), (0, .ref (kO K))]) hx hb dX6_oratorOf_5 rfl hl (Nat.le_of_ble_eq_true rfl) rfl (fun ls hl => ?_)
  refine lv_iconst hx hb dX6_oratorOf_6 kc_0 ?_
  refine lv_istore_n (lv' := [(2, .int (0 : Int32)), (1, .int (-1 : Int32)), (0, .ref (kO K))]) hx hb dX6_oratorOf_7 rfl hl (Nat.le_of_ble_eq_true rfl) rfl (fun ls hl => ?_)
  obtain ⟨q3, hq3, h⟩ := ob h
  have hxq3 : ∀ (H : Heap) (locs : List Loc) (ls : Array Slot), MJ K c1 s.heap H locs → lv_has ls 3 [(1, .int q3)] → W p l e (rmd 9) s m args below meth c H locs 0 0 Q (F0 m 48 ls []) := by
    intro H locs ls hJ hl
    refine lv_iload_n hx hb dX6_oratorOf_48 rfl (lv_at hl 0 rfl) ?_
    have h := Option.some.inj h
    subst h
    exact hE _ _ _ _ (some (.int (q3))) hJ ⟨_, rfl⟩ rfl dX6_oratorOf_49
  refine lp_ind (P := fun (w2 : Int32 × Int32) => ∀ (H : Heap) (locs : List Loc) (ls : Array Slot), MJ K c1 s.heap H locs → lv_has ls 3 [(0, .ref (kO K)), (1, .int w2.1), (2, .int w2.2)] → W p l e (rmd 9) s m args below meth c H locs 0 0 Q (F0 m 8 ls [])) ?_ _ _ hq3 _ _ _ hJ (lv_sub hl [2, 1, 0] rfl)
  intro nw2 w2 ihw2 zw2 hzw2 hqw2 H locs ls hJ hl
  refine lv_iload_n hx hb dX6_oratorOf_8 rfl (lv_at hl 2 rfl) ?_
  refine lv_aload_n hx hb dX6_oratorOf_9 rfl (lv_at hl 0 rfl) ?_
  refine mx_gi C hJ 4 (Nat.le_of_ble_eq_true rfl) rfl lk4 dX6_oratorOf_10 ?_
  refine lv_icmp_ge (tgt := 48) hx hb dX6_oratorOf_13 (by decide) (fun hc4 => ?_) (fun hc4 => ?_)
  · have hzw2 := ip hzw2 hc4
    have hzw2 := Option.some.inj hzw2
    subst hzw2
    have hqw2 : _ = q3 := hqw2
    subst hqw2
    exact hxq3 _ _ _ hJ (lv_sub hl [1] rfl)
  · have hzw2 := im hzw2 hc4
    refine lv_iload_n hx hb dX6_oratorOf_16 rfl (lv_at hl 1 rfl) ?_
    refine lv_iconst hx hb dX6_oratorOf_17 kc_m1 ?_
    refine lv_icmp_eq (tgt := 36) hx hb dX6_oratorOf_18 (by decide) (fun hc5 => ?_) (fun hc5 => ?_)
    · have hzw2 := ip hzw2 hc5
      refine lv_iload_n hx hb dX6_oratorOf_36 rfl (lv_at hl 2 rfl) ?_
      refine lv_goto (tgt := 41) hx hb dX6_oratorOf_37 (by decide) ?_
      refine lv_istore_n (lv' := [(1, .int w2.2), (0, .ref (kO K)), (2, .int w2.2)]) hx hb dX6_oratorOf_41 rfl hl (Nat.le_of_ble_eq_true rfl) rfl (fun ls hl => ?_)
      refine lv_iinc (v := (w2.2 + 1)) (lv' := [(2, .int (w2.2 + 1)), (1, .int w2.2), (0, .ref (kO K))]) hx hb dX6_oratorOf_42 hl (k := 2) rfl rfl (Nat.le_of_ble_eq_true rfl) rfl (fun ls hl => ?_)
      refine lv_goto (tgt := 8) hx hb dX6_oratorOf_45 (by decide) ?_
      have hzw2 := Option.some.inj hzw2
      subst hzw2
      exact ihw2 _ hqw2 _ _ _ hJ (lv_sub hl [2, 1, 0] rfl)
    · have hzw2 := im hzw2 hc5
      refine lv_aload_n hx hb dX6_oratorOf_21 rfl (lv_at hl 0 rfl) ?_
      refine mx_ga C hJ 21 (Nat.le_of_ble_eq_true rfl) rfl lk21 dX6_oratorOf_22 ?_
      refine lv_iload_n hx hb dX6_oratorOf_25 rfl (lv_at hl 2 rfl) ?_
      obtain ⟨x6, hx6, hzw2⟩ := ob hzw2
      refine my_il C hJ 21 rfl hx6 dX6_oratorOf_26 ?_
      refine lv_aload_n hx hb dX6_oratorOf_27 rfl (lv_at hl 0 rfl) ?_
      refine mx_ga C hJ 21 (Nat.le_of_ble_eq_true rfl) rfl lk21 dX6_oratorOf_28 ?_
      refine lv_iload_n hx hb dX6_oratorOf_31 rfl (lv_at hl 1 rfl) ?_
      obtain ⟨x7, hx7, hzw2⟩ := ob hzw2
      refine my_il C hJ 21 rfl hx7 dX6_oratorOf_32 ?_
      refine lv_icmp_le (tgt := 40) hx hb dX6_oratorOf_33 (by decide) (fun hc8 => ?_) (fun hc8 => ?_)
      · have hzw2 := ip hzw2 hc8
        refine lv_iload_n hx hb dX6_oratorOf_40 rfl (lv_at hl 1 rfl) ?_
        refine lv_istore_n (lv' := [(1, .int w2.1), (0, .ref (kO K)), (2, .int w2.2)]) hx hb dX6_oratorOf_41 rfl hl (Nat.le_of_ble_eq_true rfl) rfl (fun ls hl => ?_)
        refine lv_iinc (v := (w2.2 + 1)) (lv' := [(2, .int (w2.2 + 1)), (1, .int w2.1), (0, .ref (kO K))]) hx hb dX6_oratorOf_42 hl (k := 2) rfl rfl (Nat.le_of_ble_eq_true rfl) rfl (fun ls hl => ?_)
        refine lv_goto (tgt := 8) hx hb dX6_oratorOf_45 (by decide) ?_
        have hzw2 := Option.some.inj hzw2
        subst hzw2
        exact ihw2 _ hqw2 _ _ _ hJ (lv_sub hl [2, 1, 0] rfl)
      · have hzw2 := im hzw2 hc8
        refine lv_iload_n hx hb dX6_oratorOf_36 rfl (lv_at hl 2 rfl) ?_
        refine lv_goto (tgt := 41) hx hb dX6_oratorOf_37 (by decide) ?_
        refine lv_istore_n (lv' := [(1, .int w2.2), (0, .ref (kO K)), (2, .int w2.2)]) hx hb dX6_oratorOf_41 rfl hl (Nat.le_of_ble_eq_true rfl) rfl (fun ls hl => ?_)
        refine lv_iinc (v := (w2.2 + 1)) (lv' := [(2, .int (w2.2 + 1)), (1, .int w2.2), (0, .ref (kO K))]) hx hb dX6_oratorOf_42 hl (k := 2) rfl rfl (Nat.le_of_ble_eq_true rfl) rfl (fun ls hl => ?_)
        refine lv_goto (tgt := 8) hx hb dX6_oratorOf_45 (by decide) ?_
        have hzw2 := Option.some.inj hzw2
        subst hzw2
        exact ihw2 _ hqw2 _ _ _ hJ (lv_sub hl [2, 1, 0] rfl)
def M_stillOf (σ : MM) : Option (Int32 × MM) :=
  (M_runsTold σ).bind fun c1 =>
  some (((((1 : Int32) <<< ((c1 4 0) &&& 31)) - (1 : Int32)) &&& ((c1 22 0) ^^^ (-1 : Int32))), c1)
theorem hdM_stillOf : yX6_stillOf.cls = RX6 ∧ yX6_stillOf.cls ≠ "java/lang/invoke/MethodHandle" ∧ yX6_stillOf.cls ≠ "java/lang/invoke/VarHandle" ∧ (parseMethodDescriptor yX6_stillOf.desc).map (fun d => d.parameters.length) = some 0 := by decide +kernel
set_option maxHeartbeats 4000000 in
theorem metM_stillOf (l : Launch) (σ : MM) (res : Int32 × MM) (h : M_stillOf σ = some res) : MetM l yX6_stillOf cX6_stillOf 1 (some .int) 9 (fun K => [.ref (kO K)]) σ (some (.int res.1)) res.2 := by
  refine met_walk rfl (by simp [mRt]) (fun _ => Nat.le_of_ble_eq_true rfl) (fun K p e s m args below meth c Q C hE ls hl hJ => ?_)
  have hx := C.1.1
  have hb := C.1.2.1
  have hown := C.1.2.2.2.1
  have hts := C.1.2.2.2.2
  have hl : lv_has ls 1 [(0, .ref (kO K))] := hl
  unfold M_stillOf at h
  refine lv_aload_n hx hb dX6_stillOf_0 rfl (lv_at hl 0 rfl) ?_
  obtain ⟨c1, hc1, h⟩ := ob h
  refine mc_V (As := []) (rest := []) C hJ (metM_runsTold l σ c1 hc1) (cwV 0 hts (lw_V q1462 q1464 qs63 q118 q1465) rfl rfl rfl hdM_runsTold ⟨Nat.le_of_ble_eq_true rfl, Nat.le_of_ble_eq_true rfl⟩) rfl hl.1 rfl (lv_room (Nat.le_of_ble_eq_true rfl)) dX6_stillOf_1 (fun H locs hJ => ?_)
  refine lv_iconst hx hb dX6_stillOf_4 kc_1 ?_
  refine lv_aload_n hx hb dX6_stillOf_5 rfl (lv_at hl 0 rfl) ?_
  refine mx_gi C hJ 4 (Nat.le_of_ble_eq_true rfl) rfl lk4 dX6_stillOf_6 ?_
  refine lv_ishl hx hb dX6_stillOf_9 ?_
  refine lv_iconst hx hb dX6_stillOf_10 kc_1 ?_
  refine lv_isub hx hb dX6_stillOf_11 ?_
  refine lv_aload_n hx hb dX6_stillOf_12 rfl (lv_at hl 0 rfl) ?_
  refine mx_gi C hJ 22 (Nat.le_of_ble_eq_true rfl) rfl lk22 dX6_stillOf_13 ?_
  refine lv_iconst hx hb dX6_stillOf_16 kc_m1 ?_
  refine lv_ixor hx hb dX6_stillOf_17 ?_
  refine lv_iand hx hb dX6_stillOf_18 ?_
  have h := Option.some.inj h
  subst h
  exact hE _ _ _ _ (some (.int (((((1 : Int32) <<< ((c1 4 0) &&& 31)) - (1 : Int32)) &&& ((c1 22 0) ^^^ (-1 : Int32)))))) hJ ⟨_, rfl⟩ rfl dX6_stillOf_19
def M_seat (σ : MM) (v1 : Int32) (v2 : Int32) : Option (Int32 × MM) :=
  (M_isMember σ v1).bind fun c1 =>
  if c1.1 = 0 then
    some ((-2 : Int32), c1.2)
  else
    (M_in c1.2 v2 (0 : Int32) (1 : Int32)).bind fun c3 =>
    if c3 = 0 then
      some ((-2 : Int32), c1.2)
    else
      (M_seatOf c1.2 v1 v2).bind fun c5 =>
      some (c5.1, c5.2)
theorem hdM_seat : yX6_seat.cls = RX6 ∧ yX6_seat.cls ≠ "java/lang/invoke/MethodHandle" ∧ yX6_seat.cls ≠ "java/lang/invoke/VarHandle" ∧ (parseMethodDescriptor yX6_seat.desc).map (fun d => d.parameters.length) = some 2 := by decide +kernel
set_option maxHeartbeats 4000000 in
theorem metM_seat (l : Launch) (σ : MM) (v1 : Int32) (v2 : Int32) (res : Int32 × MM) (h : M_seat σ v1 v2 = some res) : MetM l yX6_seat cX6_seat 3 (some .int) 9 (fun K => [.ref (kO K), .int v1, .int v2]) σ (some (.int res.1)) res.2 := by
  refine met_walk rfl (by simp [mRt]) (fun _ => Nat.le_of_ble_eq_true rfl) (fun K p e s m args below meth c Q C hE ls hl hJ => ?_)
  have hx := C.1.1
  have hb := C.1.2.1
  have hown := C.1.2.2.2.1
  have hts := C.1.2.2.2.2
  have hl : lv_has ls 3 [(0, .ref (kO K)), (1, .int v1), (2, .int v2)] := hl
  unfold M_seat at h
  refine lv_aload_n hx hb dX6_seat_0 rfl (lv_at hl 0 rfl) ?_
  refine lv_iload_n hx hb dX6_seat_1 rfl (lv_at hl 1 rfl) ?_
  obtain ⟨c1, hc1, h⟩ := ob h
  refine mc_V (As := [.int v1]) (rest := []) C hJ (metM_isMember l σ v1 c1 hc1) (cwV 1 hts (lw_V q1423 q1425 qs59 q118 q1426) rfl rfl rfl hdM_isMember ⟨Nat.le_of_ble_eq_true rfl, Nat.le_of_ble_eq_true rfl⟩) rfl hl.1 rfl (lv_room (Nat.le_of_ble_eq_true rfl)) dX6_seat_2 (fun H locs hJ => ?_)
  refine lv_if_eq (tgt := 26) hx hb dX6_seat_5 (by decide) (fun hc2 => ?_) (fun hc2 => ?_)
  · have h := ip h hc2
    refine lv_bipush hx hb dX6_seat_26 kb_m2 ?_
    have h := Option.some.inj h
    subst h
    exact hE _ _ _ _ (some (.int ((-2 : Int32)))) hJ ⟨_, rfl⟩ rfl dX6_seat_28
  · have h := im h hc2
    refine lv_iload_n hx hb dX6_seat_8 rfl (lv_at hl 2 rfl) ?_
    refine lv_iconst hx hb dX6_seat_9 kc_0 ?_
    refine lv_iconst hx hb dX6_seat_10 kc_1 ?_
    obtain ⟨c3, hc3, h⟩ := ob h
    refine mc_S (As := [.int v2, .int (0 : Int32), .int (1 : Int32)]) (rest := []) C hJ (metM_in l c1.2 v2 (0 : Int32) (1 : Int32) c3 hc3) (va_cwS 3 hts (lw_S q1365 q1366 q118 q1367) rfl rfl rfl hdM_in ⟨Nat.le_of_ble_eq_true rfl, Nat.le_of_ble_eq_true rfl⟩) rfl hl.1 rfl (lv_room (Nat.le_of_ble_eq_true rfl)) dX6_seat_11 (fun H locs hJ => ?_)
    refine lv_if_eq (tgt := 26) hx hb dX6_seat_14 (by decide) (fun hc4 => ?_) (fun hc4 => ?_)
    · have h := ip h hc4
      refine lv_bipush hx hb dX6_seat_26 kb_m2 ?_
      have h := Option.some.inj h
      subst h
      exact hE _ _ _ _ (some (.int ((-2 : Int32)))) hJ ⟨_, rfl⟩ rfl dX6_seat_28
    · have h := im h hc4
      refine lv_aload_n hx hb dX6_seat_17 rfl (lv_at hl 0 rfl) ?_
      refine lv_iload_n hx hb dX6_seat_18 rfl (lv_at hl 1 rfl) ?_
      refine lv_iload_n hx hb dX6_seat_19 rfl (lv_at hl 2 rfl) ?_
      obtain ⟨c5, hc5, h⟩ := ob h
      refine mc_V (As := [.int v1, .int v2]) (rest := []) C hJ (metM_seatOf l c1.2 v1 v2 c5 hc5) (cwV 2 hts (lw_V q1597 q1599 qs88 q118 q1600) rfl rfl rfl hdM_seatOf ⟨Nat.le_of_ble_eq_true rfl, Nat.le_of_ble_eq_true rfl⟩) rfl hl.1 rfl (lv_room (Nat.le_of_ble_eq_true rfl)) dX6_seat_20 (fun H locs hJ => ?_)
      refine lv_goto (tgt := 28) hx hb dX6_seat_23 (by decide) ?_
      have h := Option.some.inj h
      subst h
      exact hE _ _ _ _ (some (.int (c5.1))) hJ ⟨_, rfl⟩ rfl dX6_seat_28
def M_dustOf (σ : MM) (v1 : Int32) (v2 : Int32) : Option (Int32 × MM) :=
  (M_asTold σ).bind fun c1 =>
  (lp (S := Int32 × Int32 × Int32 × MM) (T := Int32 × Int32 × MM) (fun w2 =>
    if (12 : Int32) ≤ w2.2.2.1 then
        some (.inr (w2.1, w2.2.1, w2.2.2.2))
      else
        (M_more w2.2.2.2 (1 : Int32) v1 w2.2.2.1).bind fun c5 =>
        (M_carriedNow c5).bind fun c6 =>
        (if c6 ≤ w2.2.1 then
            some w2.1
          else
            some w2.2.2.1 : Option (Int32)).bind fun q8 =>
        if c6 ≤ w2.2.1 then
          some (.inl (q8, w2.2.1, (w2.2.2.1 + 1), c5))
        else
          some (.inl (q8, c6, (w2.2.2.1 + 1), c5))) 2000 ((-1 : Int32), (-1 : Int32), (0 : Int32), c1)).bind fun q3 =>
  if v2 = 0 then
    some (q3.1, q3.2.2)
  else
    some (q3.2.1, q3.2.2)
theorem hdM_dustOf : yX6_dustOf.cls = RX6 ∧ yX6_dustOf.cls ≠ "java/lang/invoke/MethodHandle" ∧ yX6_dustOf.cls ≠ "java/lang/invoke/VarHandle" ∧ (parseMethodDescriptor yX6_dustOf.desc).map (fun d => d.parameters.length) = some 2 := by decide +kernel
set_option maxHeartbeats 4000000 in
theorem metM_dustOf (l : Launch) (σ : MM) (v1 : Int32) (v2 : Int32) (res : Int32 × MM) (h : M_dustOf σ v1 v2 = some res) : MetM l yX6_dustOf cX6_dustOf 7 (some .int) 9 (fun K => [.ref (kO K), .int v1, .int v2]) σ (some (.int res.1)) res.2 := by
  refine met_walk rfl (by simp [mRt]) (fun _ => Nat.le_of_ble_eq_true rfl) (fun K p e s m args below meth c Q C hE ls hl hJ => ?_)
  have hx := C.1.1
  have hb := C.1.2.1
  have hown := C.1.2.2.2.1
  have hts := C.1.2.2.2.2
  have hl : lv_has ls 7 [(0, .ref (kO K)), (1, .int v1), (2, .int v2)] := hl
  unfold M_dustOf at h
  refine lv_aload_n hx hb dX6_dustOf_0 rfl (lv_at hl 0 rfl) ?_
  obtain ⟨c1, hc1, h⟩ := ob h
  refine mc_V (As := []) (rest := []) C hJ (metM_asTold l σ c1 hc1) (cwV 0 hts (lw_V q1466 q1468 qs64 q118 q1469) rfl rfl rfl hdM_asTold ⟨Nat.le_of_ble_eq_true rfl, Nat.le_of_ble_eq_true rfl⟩) rfl hl.1 rfl (lv_room (Nat.le_of_ble_eq_true rfl)) dX6_dustOf_1 (fun H locs hJ => ?_)
  refine lv_iconst hx hb dX6_dustOf_4 kc_m1 ?_
  refine lv_istore_n (lv' := [(3, .int (-1 : Int32)), (0, .ref (kO K)), (1, .int v1), (2, .int v2)]) hx hb dX6_dustOf_5 rfl hl (Nat.le_of_ble_eq_true rfl) rfl (fun ls hl => ?_)
  refine lv_iconst hx hb dX6_dustOf_6 kc_m1 ?_
  refine lv_istore (lv' := [(4, .int (-1 : Int32)), (3, .int (-1 : Int32)), (0, .ref (kO K)), (1, .int v1), (2, .int v2)]) hx hb dX6_dustOf_7 hl (Nat.le_of_ble_eq_true rfl) rfl (fun ls hl => ?_)
  refine lv_iconst hx hb dX6_dustOf_9 kc_0 ?_
  refine lv_istore (lv' := [(5, .int (0 : Int32)), (4, .int (-1 : Int32)), (3, .int (-1 : Int32)), (0, .ref (kO K)), (1, .int v1), (2, .int v2)]) hx hb dX6_dustOf_10 hl (Nat.le_of_ble_eq_true rfl) rfl (fun ls hl => ?_)
  obtain ⟨q3, hq3, h⟩ := ob h
  have hxq3 : ∀ (H : Heap) (locs : List Loc) (ls : Array Slot), MJ K q3.2.2 s.heap H locs → lv_has ls 7 [(2, .int v2), (3, .int q3.1), (4, .int q3.2.1)] → W p l e (rmd 9) s m args below meth c H locs 0 0 Q (F0 m 69 ls []) := by
    intro H locs ls hJ hl
    refine lv_iload_n hx hb dX6_dustOf_69 rfl (lv_at hl 0 rfl) ?_
    refine lv_if_ne (tgt := 77) hx hb dX6_dustOf_70 (by decide) (fun hc10 => ?_) (fun hc10 => ?_)
    · have h := im h hc10
      refine lv_iload hx hb dX6_dustOf_77 (lv_at hl 2 rfl) ?_
      have h := Option.some.inj h
      subst h
      exact hE _ _ _ _ (some (.int (q3.2.1))) hJ ⟨_, rfl⟩ rfl dX6_dustOf_79
    · have h := ip h hc10
      refine lv_iload_n hx hb dX6_dustOf_73 rfl (lv_at hl 1 rfl) ?_
      refine lv_goto (tgt := 79) hx hb dX6_dustOf_74 (by decide) ?_
      have h := Option.some.inj h
      subst h
      exact hE _ _ _ _ (some (.int (q3.1))) hJ ⟨_, rfl⟩ rfl dX6_dustOf_79
  refine lp_ind (P := fun (w2 : Int32 × Int32 × Int32 × MM) => ∀ (H : Heap) (locs : List Loc) (ls : Array Slot), MJ K w2.2.2.2 s.heap H locs → lv_has ls 7 [(0, .ref (kO K)), (1, .int v1), (2, .int v2), (3, .int w2.1), (4, .int w2.2.1), (5, .int w2.2.2.1)] → W p l e (rmd 9) s m args below meth c H locs 0 0 Q (F0 m 12 ls [])) ?_ _ _ hq3 _ _ _ hJ (lv_sub hl [3, 4, 5, 2, 1, 0] rfl)
  intro nw2 w2 ihw2 zw2 hzw2 hqw2 H locs ls hJ hl
  refine lv_iload hx hb dX6_dustOf_12 (lv_at hl 5 rfl) ?_
  refine lv_bipush hx hb dX6_dustOf_14 kb_12 ?_
  refine lv_icmp_ge (tgt := 69) hx hb dX6_dustOf_16 (by decide) (fun hc4 => ?_) (fun hc4 => ?_)
  · have hzw2 := ip hzw2 hc4
    have hzw2 := Option.some.inj hzw2
    subst hzw2
    have hqw2 : _ = q3 := hqw2
    subst hqw2
    exact hxq3 _ _ _ hJ (lv_sub hl [2, 3, 4] rfl)
  · have hzw2 := im hzw2 hc4
    refine lv_aload_n hx hb dX6_dustOf_19 rfl (lv_at hl 0 rfl) ?_
    refine lv_iconst hx hb dX6_dustOf_20 kc_1 ?_
    refine lv_iload_n hx hb dX6_dustOf_21 rfl (lv_at hl 1 rfl) ?_
    refine lv_iload hx hb dX6_dustOf_22 (lv_at hl 5 rfl) ?_
    obtain ⟨c5, hc5, hzw2⟩ := ob hzw2
    refine mc_V (As := [.int (1 : Int32), .int v1, .int w2.2.2.1]) (rest := []) C hJ (metM_more l w2.2.2.2 (1 : Int32) v1 w2.2.2.1 c5 hc5) (cwV 3 hts (lw_V q1609 q1611 qs90 q118 q1612) rfl rfl rfl hdM_more ⟨Nat.le_of_ble_eq_true rfl, Nat.le_of_ble_eq_true rfl⟩) rfl hl.1 rfl (lv_room (Nat.le_of_ble_eq_true rfl)) dX6_dustOf_24 (fun H locs hJ => ?_)
    refine lv_aload_n hx hb dX6_dustOf_27 rfl (lv_at hl 0 rfl) ?_
    obtain ⟨c6, hc6, hzw2⟩ := ob hzw2
    refine mc_V (As := []) (rest := []) C hJ (metM_carriedNow l c5 c6 hc6) (cwV 0 hts (lw_V q1565 q1567 qs84 q118 q1568) rfl rfl rfl hdM_carriedNow ⟨Nat.le_of_ble_eq_true rfl, Nat.le_of_ble_eq_true rfl⟩) rfl hl.1 rfl (lv_room (Nat.le_of_ble_eq_true rfl)) dX6_dustOf_28 (fun H locs hJ => ?_)
    refine lv_istore (lv' := [(6, .int c6), (0, .ref (kO K)), (1, .int v1), (2, .int v2), (3, .int w2.1), (4, .int w2.2.1), (5, .int w2.2.2.1)]) hx hb dX6_dustOf_31 hl (Nat.le_of_ble_eq_true rfl) rfl (fun ls hl => ?_)
    refine lv_iload hx hb dX6_dustOf_33 (lv_at hl 0 rfl) ?_
    refine lv_iload hx hb dX6_dustOf_35 (lv_at hl 5 rfl) ?_
    obtain ⟨q8, hq8, hzw2⟩ := ob hzw2
    have hjq8 : ∀ (H : Heap) (locs : List Loc) (ls : Array Slot), MJ K c5 s.heap H locs → lv_has ls 7 [(0, .ref (kO K)), (1, .int v1), (2, .int v2), (4, .int w2.2.1), (5, .int w2.2.2.1), (6, .int c6)] → W p l e (rmd 9) s m args below meth c H locs 0 0 Q (F0 m 46 ls [.int q8]) := by
      intro H locs ls hJ hl
      refine lv_istore_n (lv' := [(3, .int q8), (0, .ref (kO K)), (1, .int v1), (2, .int v2), (4, .int w2.2.1), (5, .int w2.2.2.1), (6, .int c6)]) hx hb dX6_dustOf_46 rfl hl (Nat.le_of_ble_eq_true rfl) rfl (fun ls hl => ?_)
      refine lv_iload hx hb dX6_dustOf_47 (lv_at hl 6 rfl) ?_
      refine lv_iload hx hb dX6_dustOf_49 (lv_at hl 4 rfl) ?_
      refine lv_icmp_le (tgt := 59) hx hb dX6_dustOf_51 (by decide) (fun hc9 => ?_) (fun hc9 => ?_)
      · have hzw2 := ip hzw2 hc9
        refine lv_iload hx hb dX6_dustOf_59 (lv_at hl 4 rfl) ?_
        refine lv_istore (lv' := [(4, .int w2.2.1), (3, .int q8), (0, .ref (kO K)), (1, .int v1), (2, .int v2), (5, .int w2.2.2.1), (6, .int c6)]) hx hb dX6_dustOf_61 hl (Nat.le_of_ble_eq_true rfl) rfl (fun ls hl => ?_)
        refine lv_iinc (v := (w2.2.2.1 + 1)) (lv' := [(5, .int (w2.2.2.1 + 1)), (4, .int w2.2.1), (3, .int q8), (0, .ref (kO K)), (1, .int v1), (2, .int v2), (6, .int c6)]) hx hb dX6_dustOf_63 hl (k := 5) rfl rfl (Nat.le_of_ble_eq_true rfl) rfl (fun ls hl => ?_)
        refine lv_goto (tgt := 12) hx hb dX6_dustOf_66 (by decide) ?_
        have hzw2 := Option.some.inj hzw2
        subst hzw2
        exact ihw2 _ hqw2 _ _ _ hJ (lv_sub hl [3, 4, 5, 2, 1, 0] rfl)
      · have hzw2 := im hzw2 hc9
        refine lv_iload hx hb dX6_dustOf_54 (lv_at hl 6 rfl) ?_
        refine lv_goto (tgt := 61) hx hb dX6_dustOf_56 (by decide) ?_
        refine lv_istore (lv' := [(4, .int c6), (3, .int q8), (0, .ref (kO K)), (1, .int v1), (2, .int v2), (5, .int w2.2.2.1), (6, .int c6)]) hx hb dX6_dustOf_61 hl (Nat.le_of_ble_eq_true rfl) rfl (fun ls hl => ?_)
        refine lv_iinc (v := (w2.2.2.1 + 1)) (lv' := [(5, .int (w2.2.2.1 + 1)), (4, .int c6), (3, .int q8), (0, .ref (kO K)), (1, .int v1), (2, .int v2), (6, .int c6)]) hx hb dX6_dustOf_63 hl (k := 5) rfl rfl (Nat.le_of_ble_eq_true rfl) rfl (fun ls hl => ?_)
        refine lv_goto (tgt := 12) hx hb dX6_dustOf_66 (by decide) ?_
        have hzw2 := Option.some.inj hzw2
        subst hzw2
        exact ihw2 _ hqw2 _ _ _ hJ (lv_sub hl [3, 4, 5, 2, 1, 0] rfl)
    refine lv_icmp_le (tgt := 45) hx hb dX6_dustOf_37 (by decide) (fun hc7 => ?_) (fun hc7 => ?_)
    · have hq8 := ip hq8 hc7
      refine lv_iload_n hx hb dX6_dustOf_45 rfl (lv_at hl 4 rfl) ?_
      have hq8 := Option.some.inj hq8
      subst hq8
      exact hjq8 _ _ _ hJ (lv_sub hl [1, 2, 3, 5, 6, 0] rfl)
    · have hq8 := im hq8 hc7
      refine lv_iload hx hb dX6_dustOf_40 (lv_at hl 6 rfl) ?_
      refine lv_goto (tgt := 46) hx hb dX6_dustOf_42 (by decide) ?_
      have hq8 := Option.some.inj hq8
      subst hq8
      exact hjq8 _ _ _ hJ (lv_sub hl [1, 2, 3, 5, 6, 0] rfl)
def M_boyOf (σ : MM) (v1 : Int32) : Option (Int32 × MM) :=
  (M_asTold σ).bind fun c1 =>
  (lp (S := Int32 × Int32 × Int32 × MM) (T := Int32 × Int32 × MM) (fun w2 =>
    if (20 : Int32) ≤ w2.2.2.1 then
        some (.inr (w2.1, w2.2.1, w2.2.2.2))
      else
        (M_more w2.2.2.2 (0 : Int32) w2.2.2.1 (0 : Int32)).bind fun c5 =>
        (M_governmentsNow c5).bind fun c6 =>
        (if c6 ≤ w2.2.1 then
            some w2.1
          else
            some w2.2.2.1 : Option (Int32)).bind fun q8 =>
        if c6 ≤ w2.2.1 then
          some (.inl (q8, w2.2.1, (w2.2.2.1 + 1), c5))
        else
          some (.inl (q8, c6, (w2.2.2.1 + 1), c5))) 2000 ((-1 : Int32), (-1 : Int32), (0 : Int32), c1)).bind fun q3 =>
  if v1 = 0 then
    some (q3.1, q3.2.2)
  else
    some (q3.2.1, q3.2.2)
theorem hdM_boyOf : yX6_boyOf.cls = RX6 ∧ yX6_boyOf.cls ≠ "java/lang/invoke/MethodHandle" ∧ yX6_boyOf.cls ≠ "java/lang/invoke/VarHandle" ∧ (parseMethodDescriptor yX6_boyOf.desc).map (fun d => d.parameters.length) = some 1 := by decide +kernel
set_option maxHeartbeats 4000000 in
theorem metM_boyOf (l : Launch) (σ : MM) (v1 : Int32) (res : Int32 × MM) (h : M_boyOf σ v1 = some res) : MetM l yX6_boyOf cX6_boyOf 6 (some .int) 9 (fun K => [.ref (kO K), .int v1]) σ (some (.int res.1)) res.2 := by
  refine met_walk rfl (by simp [mRt]) (fun _ => Nat.le_of_ble_eq_true rfl) (fun K p e s m args below meth c Q C hE ls hl hJ => ?_)
  have hx := C.1.1
  have hb := C.1.2.1
  have hown := C.1.2.2.2.1
  have hts := C.1.2.2.2.2
  have hl : lv_has ls 6 [(0, .ref (kO K)), (1, .int v1)] := hl
  unfold M_boyOf at h
  refine lv_aload_n hx hb dX6_boyOf_0 rfl (lv_at hl 0 rfl) ?_
  obtain ⟨c1, hc1, h⟩ := ob h
  refine mc_V (As := []) (rest := []) C hJ (metM_asTold l σ c1 hc1) (cwV 0 hts (lw_V q1466 q1468 qs64 q118 q1469) rfl rfl rfl hdM_asTold ⟨Nat.le_of_ble_eq_true rfl, Nat.le_of_ble_eq_true rfl⟩) rfl hl.1 rfl (lv_room (Nat.le_of_ble_eq_true rfl)) dX6_boyOf_1 (fun H locs hJ => ?_)
  refine lv_iconst hx hb dX6_boyOf_4 kc_m1 ?_
  refine lv_istore_n (lv' := [(2, .int (-1 : Int32)), (0, .ref (kO K)), (1, .int v1)]) hx hb dX6_boyOf_5 rfl hl (Nat.le_of_ble_eq_true rfl) rfl (fun ls hl => ?_)
  refine lv_iconst hx hb dX6_boyOf_6 kc_m1 ?_
  refine lv_istore_n (lv' := [(3, .int (-1 : Int32)), (2, .int (-1 : Int32)), (0, .ref (kO K)), (1, .int v1)]) hx hb dX6_boyOf_7 rfl hl (Nat.le_of_ble_eq_true rfl) rfl (fun ls hl => ?_)
  refine lv_iconst hx hb dX6_boyOf_8 kc_0 ?_
  refine lv_istore (lv' := [(4, .int (0 : Int32)), (3, .int (-1 : Int32)), (2, .int (-1 : Int32)), (0, .ref (kO K)), (1, .int v1)]) hx hb dX6_boyOf_9 hl (Nat.le_of_ble_eq_true rfl) rfl (fun ls hl => ?_)
  obtain ⟨q3, hq3, h⟩ := ob h
  have hxq3 : ∀ (H : Heap) (locs : List Loc) (ls : Array Slot), MJ K q3.2.2 s.heap H locs → lv_has ls 6 [(1, .int v1), (2, .int q3.1), (3, .int q3.2.1)] → W p l e (rmd 9) s m args below meth c H locs 0 0 Q (F0 m 64 ls []) := by
    intro H locs ls hJ hl
    refine lv_iload_n hx hb dX6_boyOf_64 rfl (lv_at hl 0 rfl) ?_
    refine lv_if_ne (tgt := 72) hx hb dX6_boyOf_65 (by decide) (fun hc10 => ?_) (fun hc10 => ?_)
    · have h := im h hc10
      refine lv_iload_n hx hb dX6_boyOf_72 rfl (lv_at hl 2 rfl) ?_
      have h := Option.some.inj h
      subst h
      exact hE _ _ _ _ (some (.int (q3.2.1))) hJ ⟨_, rfl⟩ rfl dX6_boyOf_73
    · have h := ip h hc10
      refine lv_iload_n hx hb dX6_boyOf_68 rfl (lv_at hl 1 rfl) ?_
      refine lv_goto (tgt := 73) hx hb dX6_boyOf_69 (by decide) ?_
      have h := Option.some.inj h
      subst h
      exact hE _ _ _ _ (some (.int (q3.1))) hJ ⟨_, rfl⟩ rfl dX6_boyOf_73
  refine lp_ind (P := fun (w2 : Int32 × Int32 × Int32 × MM) => ∀ (H : Heap) (locs : List Loc) (ls : Array Slot), MJ K w2.2.2.2 s.heap H locs → lv_has ls 6 [(0, .ref (kO K)), (1, .int v1), (2, .int w2.1), (3, .int w2.2.1), (4, .int w2.2.2.1)] → W p l e (rmd 9) s m args below meth c H locs 0 0 Q (F0 m 11 ls [])) ?_ _ _ hq3 _ _ _ hJ (lv_sub hl [3, 4, 2, 1, 0] rfl)
  intro nw2 w2 ihw2 zw2 hzw2 hqw2 H locs ls hJ hl
  refine lv_iload hx hb dX6_boyOf_11 (lv_at hl 4 rfl) ?_
  refine lv_bipush hx hb dX6_boyOf_13 kb_20 ?_
  refine lv_icmp_ge (tgt := 64) hx hb dX6_boyOf_15 (by decide) (fun hc4 => ?_) (fun hc4 => ?_)
  · have hzw2 := ip hzw2 hc4
    have hzw2 := Option.some.inj hzw2
    subst hzw2
    have hqw2 : _ = q3 := hqw2
    subst hqw2
    exact hxq3 _ _ _ hJ (lv_sub hl [1, 2, 3] rfl)
  · have hzw2 := im hzw2 hc4
    refine lv_aload_n hx hb dX6_boyOf_18 rfl (lv_at hl 0 rfl) ?_
    refine lv_iconst hx hb dX6_boyOf_19 kc_0 ?_
    refine lv_iload hx hb dX6_boyOf_20 (lv_at hl 4 rfl) ?_
    refine lv_iconst hx hb dX6_boyOf_22 kc_0 ?_
    obtain ⟨c5, hc5, hzw2⟩ := ob hzw2
    refine mc_V (As := [.int (0 : Int32), .int w2.2.2.1, .int (0 : Int32)]) (rest := []) C hJ (metM_more l w2.2.2.2 (0 : Int32) w2.2.2.1 (0 : Int32) c5 hc5) (cwV 3 hts (lw_V q1609 q1611 qs90 q118 q1612) rfl rfl rfl hdM_more ⟨Nat.le_of_ble_eq_true rfl, Nat.le_of_ble_eq_true rfl⟩) rfl hl.1 rfl (lv_room (Nat.le_of_ble_eq_true rfl)) dX6_boyOf_23 (fun H locs hJ => ?_)
    refine lv_aload_n hx hb dX6_boyOf_26 rfl (lv_at hl 0 rfl) ?_
    obtain ⟨c6, hc6, hzw2⟩ := ob hzw2
    refine mc_V (As := []) (rest := []) C hJ (metM_governmentsNow l c5 c6 hc6) (cwV 0 hts (lw_V q1553 q1555 qs82 q118 q1556) rfl rfl rfl hdM_governmentsNow ⟨Nat.le_of_ble_eq_true rfl, Nat.le_of_ble_eq_true rfl⟩) rfl hl.1 rfl (lv_room (Nat.le_of_ble_eq_true rfl)) dX6_boyOf_27 (fun H locs hJ => ?_)
    refine lv_istore (lv' := [(5, .int c6), (0, .ref (kO K)), (1, .int v1), (2, .int w2.1), (3, .int w2.2.1), (4, .int w2.2.2.1)]) hx hb dX6_boyOf_30 hl (Nat.le_of_ble_eq_true rfl) rfl (fun ls hl => ?_)
    refine lv_iload hx hb dX6_boyOf_32 (lv_at hl 0 rfl) ?_
    refine lv_iload_n hx hb dX6_boyOf_34 rfl (lv_at hl 4 rfl) ?_
    obtain ⟨q8, hq8, hzw2⟩ := ob hzw2
    have hjq8 : ∀ (H : Heap) (locs : List Loc) (ls : Array Slot), MJ K c5 s.heap H locs → lv_has ls 6 [(0, .ref (kO K)), (1, .int v1), (3, .int w2.2.1), (4, .int w2.2.2.1), (5, .int c6)] → W p l e (rmd 9) s m args below meth c H locs 0 0 Q (F0 m 44 ls [.int q8]) := by
      intro H locs ls hJ hl
      refine lv_istore_n (lv' := [(2, .int q8), (0, .ref (kO K)), (1, .int v1), (3, .int w2.2.1), (4, .int w2.2.2.1), (5, .int c6)]) hx hb dX6_boyOf_44 rfl hl (Nat.le_of_ble_eq_true rfl) rfl (fun ls hl => ?_)
      refine lv_iload hx hb dX6_boyOf_45 (lv_at hl 5 rfl) ?_
      refine lv_iload_n hx hb dX6_boyOf_47 rfl (lv_at hl 3 rfl) ?_
      refine lv_icmp_le (tgt := 56) hx hb dX6_boyOf_48 (by decide) (fun hc9 => ?_) (fun hc9 => ?_)
      · have hzw2 := ip hzw2 hc9
        refine lv_iload_n hx hb dX6_boyOf_56 rfl (lv_at hl 3 rfl) ?_
        refine lv_istore_n (lv' := [(3, .int w2.2.1), (2, .int q8), (0, .ref (kO K)), (1, .int v1), (4, .int w2.2.2.1), (5, .int c6)]) hx hb dX6_boyOf_57 rfl hl (Nat.le_of_ble_eq_true rfl) rfl (fun ls hl => ?_)
        refine lv_iinc (v := (w2.2.2.1 + 1)) (lv' := [(4, .int (w2.2.2.1 + 1)), (3, .int w2.2.1), (2, .int q8), (0, .ref (kO K)), (1, .int v1), (5, .int c6)]) hx hb dX6_boyOf_58 hl (k := 4) rfl rfl (Nat.le_of_ble_eq_true rfl) rfl (fun ls hl => ?_)
        refine lv_goto (tgt := 11) hx hb dX6_boyOf_61 (by decide) ?_
        have hzw2 := Option.some.inj hzw2
        subst hzw2
        exact ihw2 _ hqw2 _ _ _ hJ (lv_sub hl [3, 4, 2, 1, 0] rfl)
      · have hzw2 := im hzw2 hc9
        refine lv_iload hx hb dX6_boyOf_51 (lv_at hl 5 rfl) ?_
        refine lv_goto (tgt := 57) hx hb dX6_boyOf_53 (by decide) ?_
        refine lv_istore_n (lv' := [(3, .int c6), (2, .int q8), (0, .ref (kO K)), (1, .int v1), (4, .int w2.2.2.1), (5, .int c6)]) hx hb dX6_boyOf_57 rfl hl (Nat.le_of_ble_eq_true rfl) rfl (fun ls hl => ?_)
        refine lv_iinc (v := (w2.2.2.1 + 1)) (lv' := [(4, .int (w2.2.2.1 + 1)), (3, .int c6), (2, .int q8), (0, .ref (kO K)), (1, .int v1), (5, .int c6)]) hx hb dX6_boyOf_58 hl (k := 4) rfl rfl (Nat.le_of_ble_eq_true rfl) rfl (fun ls hl => ?_)
        refine lv_goto (tgt := 11) hx hb dX6_boyOf_61 (by decide) ?_
        have hzw2 := Option.some.inj hzw2
        subst hzw2
        exact ihw2 _ hqw2 _ _ _ hJ (lv_sub hl [3, 4, 2, 1, 0] rfl)
    refine lv_icmp_le (tgt := 43) hx hb dX6_boyOf_35 (by decide) (fun hc7 => ?_) (fun hc7 => ?_)
    · have hq8 := ip hq8 hc7
      refine lv_iload_n hx hb dX6_boyOf_43 rfl (lv_at hl 3 rfl) ?_
      have hq8 := Option.some.inj hq8
      subst hq8
      exact hjq8 _ _ _ hJ (lv_sub hl [1, 2, 4, 5, 0] rfl)
    · have hq8 := im hq8 hc7
      refine lv_iload hx hb dX6_boyOf_38 (lv_at hl 5 rfl) ?_
      refine lv_goto (tgt := 44) hx hb dX6_boyOf_40 (by decide) ?_
      have hq8 := Option.some.inj hq8
      subst hq8
      exact hjq8 _ _ _ hJ (lv_sub hl [1, 2, 4, 5, 0] rfl)
def M_calmBy (σ : MM) : Option (Int32 × MM) :=
  (M_asTold σ).bind fun c1 =>
  (M_isCalm c1 (0 : Int32)).bind fun c2 =>
  if c2.1 = 0 then
    (lp (S := Int32 × MM) (T := (MM) ⊕ (Int32 × MM)) (fun w4 =>
      if (w4.2 8 0) ≤ w4.1 then
          some (.inr (.inl w4.2))
        else
          (mst w4.2 30 (0 : Int32) w4.1).bind fun σ7 =>
          (M_isCalm σ7 ((1 : Int32) <<< (w4.1 &&& 31))).bind fun c8 =>
          if c8.1 = 0 then
            some (.inl ((w4.1 + 1), c8.2))
          else
            some (.inr (.inr ((1 : Int32), c8.2)))) 2000 ((0 : Int32), c2.2)).bind fun q5 =>
    lpo q5 (fun q5' =>
      (lp (S := Int32 × MM) (T := (MM) ⊕ (Int32 × MM)) (fun w10 =>
        if (w10.2 8 0) ≤ w10.1 then
            some (.inr (.inl w10.2))
          else
            (lp (S := Int32 × MM) (T := (MM) ⊕ (Int32 × MM)) (fun w13 =>
              if (w13.2 8 0) ≤ w13.1 then
                  some (.inr (.inl w13.2))
                else
                  (mst w13.2 30 (0 : Int32) w10.1).bind fun σ16 =>
                  (mst σ16 30 (1 : Int32) w13.1).bind fun σ17 =>
                  (M_isCalm σ17 (((1 : Int32) <<< (w10.1 &&& 31)) ||| ((1 : Int32) <<< (w13.1 &&& 31)))).bind fun c18 =>
                  if c18.1 = 0 then
                    some (.inl ((w13.1 + 1), c18.2))
                  else
                    some (.inr (.inr ((2 : Int32), c18.2)))) 2000 ((w10.1 + (1 : Int32)), w10.2)).bind fun q14 =>
            lpo q14 (fun q14' =>
              some (.inl ((w10.1 + 1), q14'))) (fun r => some (.inr (.inr r)))) 2000 ((0 : Int32), q5')).bind fun q11 =>
      lpo q11 (fun q11' =>
        some ((-1 : Int32), q11')) (fun r => some r)) (fun r => some r)
  else
    some ((0 : Int32), c2.2)
theorem hdM_calmBy : yX6_calmBy.cls = RX6 ∧ yX6_calmBy.cls ≠ "java/lang/invoke/MethodHandle" ∧ yX6_calmBy.cls ≠ "java/lang/invoke/VarHandle" ∧ (parseMethodDescriptor yX6_calmBy.desc).map (fun d => d.parameters.length) = some 0 := by decide +kernel
set_option maxHeartbeats 4000000 in
theorem metM_calmBy (l : Launch) (σ : MM) (res : Int32 × MM) (h : M_calmBy σ = some res) : MetM l yX6_calmBy cX6_calmBy 3 (some .int) 9 (fun K => [.ref (kO K)]) σ (some (.int res.1)) res.2 := by
  refine met_walk rfl (by simp [mRt]) (fun _ => Nat.le_of_ble_eq_true rfl) (fun K p e s m args below meth c Q C hE ls hl hJ => ?_)
  have hx := C.1.1
  have hb := C.1.2.1
  have hown := C.1.2.2.2.1
  have hts := C.1.2.2.2.2
  have hl : lv_has ls 3 [(0, .ref (kO K))] := hl
  unfold M_calmBy at h
  refine lv_aload_n hx hb dX6_calmBy_0 rfl (lv_at hl 0 rfl) ?_
  obtain ⟨c1, hc1, h⟩ := ob h
  refine mc_V (As := []) (rest := []) C hJ (metM_asTold l σ c1 hc1) (cwV 0 hts (lw_V q1466 q1468 qs64 q118 q1469) rfl rfl rfl hdM_asTold ⟨Nat.le_of_ble_eq_true rfl, Nat.le_of_ble_eq_true rfl⟩) rfl hl.1 rfl (lv_room (Nat.le_of_ble_eq_true rfl)) dX6_calmBy_1 (fun H locs hJ => ?_)
  refine lv_aload_n hx hb dX6_calmBy_4 rfl (lv_at hl 0 rfl) ?_
  refine lv_iconst hx hb dX6_calmBy_5 kc_0 ?_
  obtain ⟨c2, hc2, h⟩ := ob h
  refine mc_V (As := [.int (0 : Int32)]) (rest := []) C hJ (metM_isCalm l c1 (0 : Int32) c2 hc2) (cwV 1 hts (lw_V q1629 q1631 qs93 q118 q1632) rfl rfl rfl hdM_isCalm ⟨Nat.le_of_ble_eq_true rfl, Nat.le_of_ble_eq_true rfl⟩) rfl hl.1 rfl (lv_room (Nat.le_of_ble_eq_true rfl)) dX6_calmBy_6 (fun H locs hJ => ?_)
  refine lv_if_eq (tgt := 14) hx hb dX6_calmBy_9 (by decide) (fun hc3 => ?_) (fun hc3 => ?_)
  · have h := ip h hc3
    refine lv_iconst hx hb dX6_calmBy_14 kc_0 ?_
    refine lv_istore_n (lv' := [(1, .int (0 : Int32)), (0, .ref (kO K))]) hx hb dX6_calmBy_15 rfl hl (Nat.le_of_ble_eq_true rfl) rfl (fun ls hl => ?_)
    obtain ⟨q5, hq5, h⟩ := ob h
    have hxq5 : ∀ q5', q5 = .inl q5' → ∀ (H : Heap) (locs : List Loc) (ls : Array Slot), MJ K q5' s.heap H locs → lv_has ls 3 [(0, .ref (kO K))] → W p l e (rmd 9) s m args below meth c H locs 0 0 Q (F0 m 49 ls []) := by
      intro q5' heq5
      subst heq5
      have h := lpo_l h
      intro H locs ls hJ hl
      refine lv_iconst hx hb dX6_calmBy_49 kc_0 ?_
      refine lv_istore_n (lv' := [(1, .int (0 : Int32)), (0, .ref (kO K))]) hx hb dX6_calmBy_50 rfl hl (Nat.le_of_ble_eq_true rfl) rfl (fun ls hl => ?_)
      obtain ⟨q11, hq11, h⟩ := ob h
      have hxq11 : ∀ q11', q11 = .inl q11' → ∀ (H : Heap) (locs : List Loc) (ls : Array Slot), MJ K q11' s.heap H locs → lv_has ls 3 [] → W p l e (rmd 9) s m args below meth c H locs 0 0 Q (F0 m 113 ls []) := by
        intro q11' heq11
        subst heq11
        have h := lpo_l h
        intro H locs ls hJ hl
        refine lv_iconst hx hb dX6_calmBy_113 kc_m1 ?_
        have h := Option.some.inj h
        subst h
        exact hE _ _ _ _ (some (.int ((-1 : Int32)))) hJ ⟨_, rfl⟩ rfl dX6_calmBy_114
      refine lp_ind (P := fun (w10 : Int32 × MM) => ∀ (H : Heap) (locs : List Loc) (ls : Array Slot), MJ K w10.2 s.heap H locs → lv_has ls 3 [(0, .ref (kO K)), (1, .int w10.1)] → W p l e (rmd 9) s m args below meth c H locs 0 0 Q (F0 m 51 ls [])) ?_ _ _ hq11 _ _ _ hJ (lv_sub hl [1, 0] rfl)
      intro nw10 w10 ihw10 zw10 hzw10 hqw10 H locs ls hJ hl
      refine lv_iload_n hx hb dX6_calmBy_51 rfl (lv_at hl 1 rfl) ?_
      refine lv_aload_n hx hb dX6_calmBy_52 rfl (lv_at hl 0 rfl) ?_
      refine mx_gi C hJ 8 (Nat.le_of_ble_eq_true rfl) rfl lk8 dX6_calmBy_53 ?_
      refine lv_icmp_ge (tgt := 113) hx hb dX6_calmBy_56 (by decide) (fun hc12 => ?_) (fun hc12 => ?_)
      · have hzw10 := ip hzw10 hc12
        have hzw10 := Option.some.inj hzw10
        subst hzw10
        have hqw10 : _ = q11 := hqw10
        subst hqw10
        exact hxq11 _ rfl _ _ _ hJ (lv_sub hl [] rfl)
      · have hzw10 := im hzw10 hc12
        refine lv_iload_n hx hb dX6_calmBy_59 rfl (lv_at hl 1 rfl) ?_
        refine lv_iconst hx hb dX6_calmBy_60 kc_1 ?_
        refine lv_iadd hx hb dX6_calmBy_61 ?_
        refine lv_istore_n (lv' := [(2, .int (w10.1 + (1 : Int32))), (0, .ref (kO K)), (1, .int w10.1)]) hx hb dX6_calmBy_62 rfl hl (Nat.le_of_ble_eq_true rfl) rfl (fun ls hl => ?_)
        obtain ⟨q14, hq14, hzw10⟩ := ob hzw10
        have hxq14 : ∀ q14', q14 = .inl q14' → ∀ (H : Heap) (locs : List Loc) (ls : Array Slot), MJ K q14' s.heap H locs → lv_has ls 3 [(0, .ref (kO K)), (1, .int w10.1)] → W p l e (rmd 9) s m args below meth c H locs 0 0 Q (F0 m 107 ls []) := by
          intro q14' heq14
          subst heq14
          have hzw10 := lpo_l hzw10
          intro H locs ls hJ hl
          refine lv_iinc (v := (w10.1 + 1)) (lv' := [(1, .int (w10.1 + 1)), (0, .ref (kO K))]) hx hb dX6_calmBy_107 hl (k := 1) rfl rfl (Nat.le_of_ble_eq_true rfl) rfl (fun ls hl => ?_)
          refine lv_goto (tgt := 51) hx hb dX6_calmBy_110 (by decide) ?_
          have hzw10 := Option.some.inj hzw10
          subst hzw10
          exact ihw10 _ hqw10 _ _ _ hJ (lv_sub hl [1, 0] rfl)
        refine lp_ind (P := fun (w13 : Int32 × MM) => ∀ (H : Heap) (locs : List Loc) (ls : Array Slot), MJ K w13.2 s.heap H locs → lv_has ls 3 [(0, .ref (kO K)), (1, .int w10.1), (2, .int w13.1)] → W p l e (rmd 9) s m args below meth c H locs 0 0 Q (F0 m 63 ls [])) ?_ _ _ hq14 _ _ _ hJ (lv_sub hl [1, 2, 0] rfl)
        intro nw13 w13 ihw13 zw13 hzw13 hqw13 H locs ls hJ hl
        refine lv_iload_n hx hb dX6_calmBy_63 rfl (lv_at hl 2 rfl) ?_
        refine lv_aload_n hx hb dX6_calmBy_64 rfl (lv_at hl 0 rfl) ?_
        refine mx_gi C hJ 8 (Nat.le_of_ble_eq_true rfl) rfl lk8 dX6_calmBy_65 ?_
        refine lv_icmp_ge (tgt := 107) hx hb dX6_calmBy_68 (by decide) (fun hc15 => ?_) (fun hc15 => ?_)
        · have hzw13 := ip hzw13 hc15
          have hzw13 := Option.some.inj hzw13
          subst hzw13
          have hqw13 : _ = q14 := hqw13
          subst hqw13
          exact hxq14 _ rfl _ _ _ hJ (lv_sub hl [0, 1] rfl)
        · have hzw13 := im hzw13 hc15
          refine lv_aload_n hx hb dX6_calmBy_71 rfl (lv_at hl 0 rfl) ?_
          refine mx_ga C hJ 30 (Nat.le_of_ble_eq_true rfl) rfl lk30 dX6_calmBy_72 ?_
          refine lv_iconst hx hb dX6_calmBy_75 kc_0 ?_
          refine lv_iload_n hx hb dX6_calmBy_76 rfl (lv_at hl 1 rfl) ?_
          obtain ⟨σ16, hσ16, hzw13⟩ := ob hzw13
          refine my_is C hJ 30 rfl hσ16 dX6_calmBy_77 (fun H locs hJ => ?_)
          refine lv_aload_n hx hb dX6_calmBy_78 rfl (lv_at hl 0 rfl) ?_
          refine mx_ga C hJ 30 (Nat.le_of_ble_eq_true rfl) rfl lk30 dX6_calmBy_79 ?_
          refine lv_iconst hx hb dX6_calmBy_82 kc_1 ?_
          refine lv_iload_n hx hb dX6_calmBy_83 rfl (lv_at hl 2 rfl) ?_
          obtain ⟨σ17, hσ17, hzw13⟩ := ob hzw13
          refine my_is C hJ 30 rfl hσ17 dX6_calmBy_84 (fun H locs hJ => ?_)
          refine lv_aload_n hx hb dX6_calmBy_85 rfl (lv_at hl 0 rfl) ?_
          refine lv_iconst hx hb dX6_calmBy_86 kc_1 ?_
          refine lv_iload_n hx hb dX6_calmBy_87 rfl (lv_at hl 1 rfl) ?_
          refine lv_ishl hx hb dX6_calmBy_88 ?_
          refine lv_iconst hx hb dX6_calmBy_89 kc_1 ?_
          refine lv_iload_n hx hb dX6_calmBy_90 rfl (lv_at hl 2 rfl) ?_
          refine lv_ishl hx hb dX6_calmBy_91 ?_
          refine lv_ior hx hb dX6_calmBy_92 ?_
          obtain ⟨c18, hc18, hzw13⟩ := ob hzw13
          refine mc_V (As := [.int (((1 : Int32) <<< (w10.1 &&& 31)) ||| ((1 : Int32) <<< (w13.1 &&& 31)))]) (rest := []) C hJ (metM_isCalm l σ17 (((1 : Int32) <<< (w10.1 &&& 31)) ||| ((1 : Int32) <<< (w13.1 &&& 31))) c18 hc18) (cwV 1 hts (lw_V q1629 q1631 qs93 q118 q1632) rfl rfl rfl hdM_isCalm ⟨Nat.le_of_ble_eq_true rfl, Nat.le_of_ble_eq_true rfl⟩) rfl hl.1 rfl (lv_room (Nat.le_of_ble_eq_true rfl)) dX6_calmBy_93 (fun H locs hJ => ?_)
          refine lv_if_eq (tgt := 101) hx hb dX6_calmBy_96 (by decide) (fun hc19 => ?_) (fun hc19 => ?_)
          · have hzw13 := ip hzw13 hc19
            refine lv_iinc (v := (w13.1 + 1)) (lv' := [(2, .int (w13.1 + 1)), (0, .ref (kO K)), (1, .int w10.1)]) hx hb dX6_calmBy_101 hl (k := 2) rfl rfl (Nat.le_of_ble_eq_true rfl) rfl (fun ls hl => ?_)
            refine lv_goto (tgt := 63) hx hb dX6_calmBy_104 (by decide) ?_
            have hzw13 := Option.some.inj hzw13
            subst hzw13
            exact ihw13 _ hqw13 _ _ _ hJ (lv_sub hl [1, 2, 0] rfl)
          · have hzw13 := im hzw13 hc19
            refine lv_iconst hx hb dX6_calmBy_99 kc_2 ?_
            have hzw13 := Option.some.inj hzw13
            subst hzw13
            have hqw13 : _ = q14 := hqw13
            subst hqw13
            have hzw10 := lpo_r hzw10
            have hzw10 := Option.some.inj hzw10
            subst hzw10
            have hqw10 : _ = q11 := hqw10
            subst hqw10
            have h := lpo_r h
            have h := Option.some.inj h
            subst h
            exact hE _ _ _ _ (some (.int ((2 : Int32)))) hJ ⟨_, rfl⟩ rfl dX6_calmBy_100
    refine lp_ind (P := fun (w4 : Int32 × MM) => ∀ (H : Heap) (locs : List Loc) (ls : Array Slot), MJ K w4.2 s.heap H locs → lv_has ls 3 [(0, .ref (kO K)), (1, .int w4.1)] → W p l e (rmd 9) s m args below meth c H locs 0 0 Q (F0 m 16 ls [])) ?_ _ _ hq5 _ _ _ hJ (lv_sub hl [1, 0] rfl)
    intro nw4 w4 ihw4 zw4 hzw4 hqw4 H locs ls hJ hl
    refine lv_iload_n hx hb dX6_calmBy_16 rfl (lv_at hl 1 rfl) ?_
    refine lv_aload_n hx hb dX6_calmBy_17 rfl (lv_at hl 0 rfl) ?_
    refine mx_gi C hJ 8 (Nat.le_of_ble_eq_true rfl) rfl lk8 dX6_calmBy_18 ?_
    refine lv_icmp_ge (tgt := 49) hx hb dX6_calmBy_21 (by decide) (fun hc6 => ?_) (fun hc6 => ?_)
    · have hzw4 := ip hzw4 hc6
      have hzw4 := Option.some.inj hzw4
      subst hzw4
      have hqw4 : _ = q5 := hqw4
      subst hqw4
      exact hxq5 _ rfl _ _ _ hJ (lv_sub hl [0] rfl)
    · have hzw4 := im hzw4 hc6
      refine lv_aload_n hx hb dX6_calmBy_24 rfl (lv_at hl 0 rfl) ?_
      refine mx_ga C hJ 30 (Nat.le_of_ble_eq_true rfl) rfl lk30 dX6_calmBy_25 ?_
      refine lv_iconst hx hb dX6_calmBy_28 kc_0 ?_
      refine lv_iload_n hx hb dX6_calmBy_29 rfl (lv_at hl 1 rfl) ?_
      obtain ⟨σ7, hσ7, hzw4⟩ := ob hzw4
      refine my_is C hJ 30 rfl hσ7 dX6_calmBy_30 (fun H locs hJ => ?_)
      refine lv_aload_n hx hb dX6_calmBy_31 rfl (lv_at hl 0 rfl) ?_
      refine lv_iconst hx hb dX6_calmBy_32 kc_1 ?_
      refine lv_iload_n hx hb dX6_calmBy_33 rfl (lv_at hl 1 rfl) ?_
      refine lv_ishl hx hb dX6_calmBy_34 ?_
      obtain ⟨c8, hc8, hzw4⟩ := ob hzw4
      refine mc_V (As := [.int ((1 : Int32) <<< (w4.1 &&& 31))]) (rest := []) C hJ (metM_isCalm l σ7 ((1 : Int32) <<< (w4.1 &&& 31)) c8 hc8) (cwV 1 hts (lw_V q1629 q1631 qs93 q118 q1632) rfl rfl rfl hdM_isCalm ⟨Nat.le_of_ble_eq_true rfl, Nat.le_of_ble_eq_true rfl⟩) rfl hl.1 rfl (lv_room (Nat.le_of_ble_eq_true rfl)) dX6_calmBy_35 (fun H locs hJ => ?_)
      refine lv_if_eq (tgt := 43) hx hb dX6_calmBy_38 (by decide) (fun hc9 => ?_) (fun hc9 => ?_)
      · have hzw4 := ip hzw4 hc9
        refine lv_iinc (v := (w4.1 + 1)) (lv' := [(1, .int (w4.1 + 1)), (0, .ref (kO K))]) hx hb dX6_calmBy_43 hl (k := 1) rfl rfl (Nat.le_of_ble_eq_true rfl) rfl (fun ls hl => ?_)
        refine lv_goto (tgt := 16) hx hb dX6_calmBy_46 (by decide) ?_
        have hzw4 := Option.some.inj hzw4
        subst hzw4
        exact ihw4 _ hqw4 _ _ _ hJ (lv_sub hl [1, 0] rfl)
      · have hzw4 := im hzw4 hc9
        refine lv_iconst hx hb dX6_calmBy_41 kc_1 ?_
        have hzw4 := Option.some.inj hzw4
        subst hzw4
        have hqw4 : _ = q5 := hqw4
        subst hqw4
        have h := lpo_r h
        have h := Option.some.inj h
        subst h
        exact hE _ _ _ _ (some (.int ((1 : Int32)))) hJ ⟨_, rfl⟩ rfl dX6_calmBy_42
  · have h := im h hc3
    refine lv_iconst hx hb dX6_calmBy_12 kc_0 ?_
    have h := Option.some.inj h
    subst h
    exact hE _ _ _ _ (some (.int ((0 : Int32)))) hJ ⟨_, rfl⟩ rfl dX6_calmBy_13
