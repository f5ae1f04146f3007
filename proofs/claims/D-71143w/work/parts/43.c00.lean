/-! the component, walked (printed by tool/gen_c.py) -/
set_option maxRecDepth 100000
def C_stone (σ : CM) (v1 : Int32) : Option (Int32) :=
  (C_isPlace σ v1).bind fun c1 =>
  if c1 = 0 then
    some (-2 : Int32)
  else
    (C_stoneAt σ v1).bind fun c4 =>
    some c4
theorem hdC_stone : yX0_stone.cls = RX0 ∧ yX0_stone.cls ≠ "java/lang/invoke/MethodHandle" ∧ yX0_stone.cls ≠ "java/lang/invoke/VarHandle" ∧ (parseMethodDescriptor yX0_stone.desc).map (fun d => d.parameters.length) = some 1 := by decide +kernel
set_option maxHeartbeats 4000000 in
theorem metC_stone (l : Launch) (σ : CM) (v1 : Int32) (res : Int32) (h : C_stone σ v1 = some res) : MetC l yX0_stone (ws_ yX0_stone cX0_stone 2 (some .int)) 17 0 true false false false false false (fun G => [.ref (gA G 0 0), .int v1]) σ (fun _ => (some (.int res))) σ := by
  refine met_wC (own := RX0) (by decide +kernel) rfl (by simp [cRt]) (fun _ => Nat.le_of_ble_eq_true rfl) (fun G p e s m args below meth c Q hr1 hr2 C hE ls hl hJ => ?_)
  have hx := C.1.1
  have hb := C.1.2.1
  have hown := C.1.2.2.2.1
  have hts := C.1.2.2.2.2
  have hl : lv_has ls 2 [(0, .ref (gA G 0 0)), (1, .int v1)] := hl
  unfold C_stone at h
  refine lv_iload_n hx hb dX0_stone_0 rfl (lv_at hl 1 rfl) ?_
  obtain ⟨c1, hc1, h⟩ := ob h
  refine cc_S (As := [.int v1]) (rest := []) C hJ (metC_isPlace l σ v1 c1 hc1) rfl rfl (show 0 + 0 ≤ 0 from Nat.le_of_ble_eq_true rfl) (cost_ok false false true false _ _ (fun h => by cases h) (fun h => by cases h)) (fun h => by cases h) (fun h => by cases h) (va_cwS 1 hts (lw_S q501 q502 q109 q503) rfl rfl rfl hdC_isPlace ⟨(Nat.le_of_ble_eq_true rfl), (Nat.le_of_ble_eq_true rfl)⟩) rfl hl.1 rfl (lv_room (Nat.le_of_ble_eq_true rfl)) dX0_stone_1 (fun D2 H locs _ hJ => ?_)
  refine lv_if_eq (tgt := 15) hx hb dX0_stone_4 (by decide) (fun hc3 => ?_) (fun hc3 => ?_)
  · have h := ip h hc3
    refine lv_bipush hx hb dX0_stone_15 kb_m2 ?_
    have h := Option.some.inj h
    subst h
    exact hE _ _ _ _ _ _ _ _ _ _ _ _ (some (.int ((-2 : Int32)))) hJ (fun h => by cases h) (fun h => by cases h) ⟨_, rfl⟩ rfl dX0_stone_17
  · have h := im h hc3
    refine lv_aload_n hx hb dX0_stone_7 rfl (lv_at hl 0 rfl) ?_
    refine lv_iload_n hx hb dX0_stone_8 rfl (lv_at hl 1 rfl) ?_
    obtain ⟨c4, hc4, h⟩ := ob h
    refine cc_V (As := [.int v1]) (rest := []) C hJ (metC_stoneAt l σ v1 c4 hc4) rfl rfl (show 0 + 0 ≤ 0 from Nat.le_of_ble_eq_true rfl) (cost_ok true false true false _ _ (fun _ => Or.inl rfl) (fun h => by cases h)) (fun h => by cases h) (fun h => by cases h) (cj_recv C hJ 0 0 (ad_s rfl) (Nat.le_of_ble_eq_true rfl) rfl rfl) (cwV 1 hts (lw_V q505 q507 qs5 q109 q508) rfl rfl rfl hdC_stoneAt ⟨(Nat.le_of_ble_eq_true rfl), (Nat.le_of_ble_eq_true rfl)⟩) rfl hl.1 rfl (lv_room (Nat.le_of_ble_eq_true rfl)) dX0_stone_9 (fun D5 H locs _ hJ => ?_)
    refine lv_goto (tgt := 17) hx hb dX0_stone_12 (by decide) ?_
    have h := Option.some.inj h
    subst h
    exact hE _ _ _ _ _ _ _ _ _ _ _ _ (some (.int (c4))) hJ (fun h => by cases h) (fun h => by cases h) ⟨_, rfl⟩ rfl dX0_stone_17
def C_X8_by (σ : CM) (v0 : Nat) (v1 : Int32) : Option (Int32) :=
  if v1 = 0 then
    (cget σ 5 v0 0).bind fun x6 =>
    (snumber x6.toNatClampNeg).bind fun x7 =>
    some x7
  else
    if v1 = (1 : Int32) then
      (cget σ 5 v0 1).bind fun x5 =>
      some x5
    else
      (cget σ 5 v0 2).bind fun x3 =>
      if x3 = 0 then
        some (0 : Int32)
      else
        some (1 : Int32)
theorem hdC_X8_by : yX8_by.cls = RX8 ∧ yX8_by.cls ≠ "java/lang/invoke/MethodHandle" ∧ yX8_by.cls ≠ "java/lang/invoke/VarHandle" ∧ (parseMethodDescriptor yX8_by.desc).map (fun d => d.parameters.length) = some 1 := by decide +kernel
set_option maxHeartbeats 4000000 in
theorem metC_X8_by (l : Launch) (σ : CM) (v0 : Nat) (v1 : Int32) (res : Int32) (h : C_X8_by σ v0 v1 = some res) : MetC l yX8_by (ws_ yX8_by cX8_by 2 (some .int)) 5 0 false false false false false true (fun G => [.ref (G.2.2.2 5 v0), .int v1]) σ (fun _ => (some (.int res))) σ := by
  refine met_wC (own := RX8) (by decide +kernel) rfl (by simp [cRt]) (fun _ => Nat.le_of_ble_eq_true rfl) (fun G p e s m args below meth c Q hr1 hr2 C hE ls hl hJ => ?_)
  have hx := C.1.1
  have hb := C.1.2.1
  have hown := C.1.2.2.2.1
  have hts := C.1.2.2.2.2
  have hl : lv_has ls 2 [(0, .ref (G.2.2.2 5 v0)), (1, .int v1)] := hl
  have hJ := CJ.s2 (hr2 rfl) hJ
  unfold C_X8_by at h
  refine lv_iload_n hx hb dX8_by_0 rfl (lv_at hl 1 rfl) ?_
  refine lv_if_ne (tgt := 14) hx hb dX8_by_1 (by decide) (fun hc1 => ?_) (fun hc1 => ?_)
  · have h := im h hc1
    refine lv_iload_n hx hb dX8_by_14 rfl (lv_at hl 1 rfl) ?_
    refine lv_iconst hx hb dX8_by_15 kc_1 ?_
    refine lv_icmp_ne (tgt := 26) hx hb dX8_by_16 (by decide) (fun hc2 => ?_) (fun hc2 => ?_)
    · have h := im h hc2
      refine lv_aload_n hx hb dX8_by_26 rfl (lv_at hl 0 rfl) ?_
      obtain ⟨x3, hx3, h⟩ := ob h
      refine cj_gi C hJ 5 v0 2 (ad_d rfl) (Nat.le_of_ble_eq_true rfl) (Nat.le_of_ble_eq_true rfl) rfl rfl rfl (fl_X8_17_5 C) hx3 dX8_by_27 ?_
      refine lv_if_eq (tgt := 37) hx hb dX8_by_30 (by decide) (fun hc4 => ?_) (fun hc4 => ?_)
      · have h := ip h hc4
        refine lv_iconst hx hb dX8_by_37 kc_0 ?_
        have h := Option.some.inj h
        subst h
        exact hE _ _ _ _ _ _ _ _ _ _ _ _ (some (.int ((0 : Int32)))) hJ (fun h => by cases h) (fun h => by cases h) ⟨_, rfl⟩ rfl dX8_by_38
      · have h := im h hc4
        refine lv_iconst hx hb dX8_by_33 kc_1 ?_
        refine lv_goto (tgt := 38) hx hb dX8_by_34 (by decide) ?_
        have h := Option.some.inj h
        subst h
        exact hE _ _ _ _ _ _ _ _ _ _ _ _ (some (.int ((1 : Int32)))) hJ (fun h => by cases h) (fun h => by cases h) ⟨_, rfl⟩ rfl dX8_by_38
    · have h := ip h hc2
      refine lv_aload_n hx hb dX8_by_19 rfl (lv_at hl 0 rfl) ?_
      obtain ⟨x5, hx5, h⟩ := ob h
      refine cj_gi C hJ 5 v0 1 (ad_d rfl) (Nat.le_of_ble_eq_true rfl) (Nat.le_of_ble_eq_true rfl) rfl rfl rfl (fl_X8_13_5 C) hx5 dX8_by_20 ?_
      refine lv_goto (tgt := 38) hx hb dX8_by_23 (by decide) ?_
      have h := Option.some.inj h
      subst h
      exact hE _ _ _ _ _ _ _ _ _ _ _ _ (some (.int (x5))) hJ (fun h => by cases h) (fun h => by cases h) ⟨_, rfl⟩ rfl dX8_by_38
  · have h := ip h hc1
    refine lv_aload_n hx hb dX8_by_4 rfl (lv_at hl 0 rfl) ?_
    obtain ⟨x6, hx6, h⟩ := ob h
    refine cj_gsort C hJ v0 (fl_X8_7_5 C) hx6 dX8_by_5 ?_
    obtain ⟨x7, hx7, h⟩ := ob h
    refine cj_number C hJ q549 ⟨(Nat.le_of_ble_eq_true rfl), (Nat.le_of_ble_eq_true rfl)⟩ hl.1 (Nat.le_of_ble_eq_true rfl) hx7 dX8_by_8 (fun H locs hJ => ?_)
    refine lv_goto (tgt := 38) hx hb dX8_by_11 (by decide) ?_
    have h := Option.some.inj h
    subst h
    exact hE _ _ _ _ _ _ _ _ _ _ _ _ (some (.int (x7))) hJ (fun h => by cases h) (fun h => by cases h) ⟨_, rfl⟩ rfl dX8_by_38
def C_member (σ : CM) (v1 : Int32) (v2 : Int32) : Option (Int32) :=
  (C_isMember σ v1).bind fun c1 =>
  if c1 = 0 then
    some (-2 : Int32)
  else
    (C_in σ v2.toInt64 (0 : Int64) (2 : Int64)).bind fun c5 =>
    if c5 = 0 then
      some (-2 : Int32)
    else
      (lget σ 3 v1).bind fun n7 =>
      (clk σ 5 n7).bind fun e9 =>
      (C_X8_by σ n7 v2).bind fun c8 =>
      some c8
theorem hdC_member : yX0_member.cls = RX0 ∧ yX0_member.cls ≠ "java/lang/invoke/MethodHandle" ∧ yX0_member.cls ≠ "java/lang/invoke/VarHandle" ∧ (parseMethodDescriptor yX0_member.desc).map (fun d => d.parameters.length) = some 2 := by decide +kernel
set_option maxHeartbeats 4000000 in
theorem metC_member (l : Launch) (σ : CM) (v1 : Int32) (v2 : Int32) (res : Int32) (h : C_member σ v1 v2 = some res) : MetC l yX0_member (ws_ yX0_member cX0_member 3 (some .int)) 18 0 false true false false false false (fun G => [.ref (gA G 0 0), .int v1, .int v2]) σ (fun _ => (some (.int res))) σ := by
  refine met_wC (own := RX0) (by decide +kernel) rfl (by simp [cRt]) (fun _ => Nat.le_of_ble_eq_true rfl) (fun G p e s m args below meth c Q hr1 hr2 C hE ls hl hJ => ?_)
  have hx := C.1.1
  have hb := C.1.2.1
  have hown := C.1.2.2.2.1
  have hts := C.1.2.2.2.2
  have hl : lv_has ls 3 [(0, .ref (gA G 0 0)), (1, .int v1), (2, .int v2)] := hl
  unfold C_member at h
  refine lv_aload_n hx hb dX0_member_0 rfl (lv_at hl 0 rfl) ?_
  refine lv_iload_n hx hb dX0_member_1 rfl (lv_at hl 1 rfl) ?_
  obtain ⟨c1, hc1, h⟩ := ob h
  refine cc_V (As := [.int v1]) (rest := []) C hJ (metC_isMember l σ v1 c1 hc1) rfl rfl (show 0 + 0 ≤ 0 from Nat.le_of_ble_eq_true rfl) (cost_ok false true false true _ _ (fun h => by cases h) (fun _ => Or.inl rfl)) (fun h => by cases h) (fun h => by cases h) (cj_recv C hJ 0 0 (ad_s rfl) (Nat.le_of_ble_eq_true rfl) rfl rfl) (cwV 1 hts (lw_V q517 q519 qs6 q109 q520) rfl rfl rfl hdC_isMember ⟨(Nat.le_of_ble_eq_true rfl), (Nat.le_of_ble_eq_true rfl)⟩) rfl hl.1 rfl (lv_room (Nat.le_of_ble_eq_true rfl)) dX0_member_2 (fun D2 H locs _ hJ => ?_)
  refine lv_if_eq (tgt := 41) hx hb dX0_member_5 (by decide) (fun hc4 => ?_) (fun hc4 => ?_)
  · have h := ip h hc4
    refine lv_bipush hx hb dX0_member_41 kb_m2 ?_
    have h := Option.some.inj h
    subst h
    exact hE _ _ _ _ _ _ _ _ _ _ _ _ (some (.int ((-2 : Int32)))) hJ (fun h => by cases h) (fun h => by cases h) ⟨_, rfl⟩ rfl dX0_member_43
  · have h := im h hc4
    refine lv_iload_n hx hb dX0_member_8 rfl (lv_at hl 2 rfl) ?_
    refine lv_i2l (v := v2.toInt64) hx hb dX0_member_9 rfl ?_
    refine lv_lconst (v := (0 : Int64)) hx hb dX0_member_10 rfl ?_
    refine lv_ldc2 (v := (2 : Int64)) hx hb hown (hts _ q529) dX0_member_11 ?_
    obtain ⟨c5, hc5, h⟩ := ob h
    refine cc_St (As := [.long v2.toInt64, .long (0 : Int64), .long (2 : Int64)]) (rest := []) C hJ (metC_in l σ v2.toInt64 (0 : Int64) (2 : Int64) c5 hc5) rfl rfl (show 0 + 0 ≤ 0 from Nat.le_of_ble_eq_true rfl) (cost_ok false false false true _ _ (fun h => by cases h) (fun h => by cases h)) (fun h => by cases h) (fun h => by cases h) (va_cwS 3 hts (lw_S q145 q146 q109 q147) rfl rfl rfl hdC_in ⟨(Nat.le_of_ble_eq_true rfl), (Nat.le_of_ble_eq_true rfl)⟩) rfl hl.1 rfl (lv_room (Nat.le_of_ble_eq_true rfl)) dX0_member_14 (fun H locs hJ => ?_)
    refine lv_if_eq (tgt := 41) hx hb dX0_member_17 (by decide) (fun hc6 => ?_) (fun hc6 => ?_)
    · have h := ip h hc6
      refine lv_bipush hx hb dX0_member_41 kb_m2 ?_
      have h := Option.some.inj h
      subst h
      exact hE _ _ _ _ _ _ _ _ _ _ _ _ (some (.int ((-2 : Int32)))) hJ (fun h => by cases h) (fun h => by cases h) ⟨_, rfl⟩ rfl dX0_member_43
    · have h := im h hc6
      refine lv_aload_n hx hb dX0_member_20 rfl (lv_at hl 0 rfl) ?_
      refine cj_gr (v := .ref (gA G 2 0)) C hJ 0 0 2 (ad_s rfl) (Nat.le_of_ble_eq_true rfl) (Nat.le_of_ble_eq_true rfl) rfl rfl (fl_X0_26_0 C) (fun _ _ => rfl) dX0_member_21 ?_
      refine cj_gr (v := .ref (gA G 6 3)) C hJ 2 0 5 (ad_s rfl) (Nat.le_of_ble_eq_true rfl) (Nat.le_of_ble_eq_true rfl) rfl rfl (fl_X0_72_2 C) (fun _ _ => rfl) dX0_member_24 ?_
      refine lv_iload_n hx hb dX0_member_27 rfl (lv_at hl 1 rfl) ?_
      obtain ⟨n7, hn7, h⟩ := ob h
      refine cj_get C hJ 3 (Nat.le_of_ble_eq_true rfl) (fun _ => rfl) q530 ⟨(Nat.le_of_ble_eq_true rfl), (Nat.le_of_ble_eq_true rfl)⟩ hl.1 (Nat.le_of_ble_eq_true rfl) hn7 dX0_member_28 (fun H locs hJ => ?_)
      refine cj_castM C hJ hn7 q544 dX0_member_31 ?_
      refine lv_iload_n hx hb dX0_member_34 rfl (lv_at hl 2 rfl) ?_
      obtain ⟨e9, he9, h⟩ := ob h
      obtain ⟨c8, hc8, h⟩ := ob h
      refine cc_Vt (As := [.int v2]) (rest := []) C hJ (metC_X8_by l σ n7 v2 c8 hc8) rfl rfl (show 0 + 0 ≤ 0 from Nat.le_of_ble_eq_true rfl) (cost_ok false false false true _ _ (fun h => by cases h) (fun h => by cases h)) (fun h => by cases h) (fun _ => rfl) (cj_recv C hJ 5 n7 (ad_d rfl) (Nat.le_of_ble_eq_true rfl) rfl (clk_l he9)) (cwV 1 hts (lw_V q545 q546 q547 q129 q548) rfl rfl rfl hdC_X8_by ⟨(Nat.le_of_ble_eq_true rfl), (Nat.le_of_ble_eq_true rfl)⟩) rfl hl.1 rfl (lv_room (Nat.le_of_ble_eq_true rfl)) dX0_member_35 (fun H locs hJ => ?_)
      refine lv_goto (tgt := 43) hx hb dX0_member_38 (by decide) ?_
      have h := Option.some.inj h
      subst h
      exact hE _ _ _ _ _ _ _ _ _ _ _ _ (some (.int (c8))) hJ (fun h => by cases h) (fun h => by cases h) ⟨_, rfl⟩ rfl dX0_member_43
def C_seatOf (σ : CM) (v1 : Int32) (v2 : Int32) : Option (Int32 × CM) :=
  (lget σ 3 v1).bind fun n1 =>
  (cget σ 5 n1 1).bind fun x2 =>
  (cst σ 5 n1 1 (0 : Int32)).bind fun σ3 =>
  (lp (S := Int32 × Int32 × CM) (T := Int32 × Int32 × CM) (fun w4 =>
    (cget w4.2.2 5 n1 1).bind fun x7 =>
      if (12 : Int32) ≤ x7 then
        some (.inr (w4.1, w4.2.1, w4.2.2))
      else
        (C_find w4.2.2).bind fun c9 =>
        (C_carriedNow c9).bind fun c11 =>
        (if w4.2.1 < c11 then
            (cget c9 5 n1 1).bind fun x14 =>
            (C_carriedNow c9).bind fun c15 =>
            some (x14, c15)
          else
            some (w4.1, w4.2.1) : Option (Int32 × Int32)).bind fun q17 =>
        (cget c9 5 n1 1).bind fun x18 =>
        (cst c9 5 n1 1 (x18 + (1 : Int32))).bind fun σ19 =>
        some (.inl (q17.1, q17.2, σ19))) 2000 ((-1 : Int32), (-1 : Int32), σ3)).bind fun q5 =>
  (cst q5.2.2 5 n1 1 x2).bind fun σ21 =>
  if v2 = 0 then
    some (q5.1, σ21)
  else
    some (q5.2.1, σ21)
theorem hdC_seatOf : yX0_seatOf.cls = RX0 ∧ yX0_seatOf.cls ≠ "java/lang/invoke/MethodHandle" ∧ yX0_seatOf.cls ≠ "java/lang/invoke/VarHandle" ∧ (parseMethodDescriptor yX0_seatOf.desc).map (fun d => d.parameters.length) = some 2 := by decide +kernel
set_option maxHeartbeats 4000000 in
theorem metC_seatOf (l : Launch) (σ : CM) (v1 : Int32) (v2 : Int32) (res : Int32 × CM) (h : C_seatOf σ v1 v2 = some res) : MetC l yX0_seatOf (wsW_ yX0_seatOf cX0_seatOf 8 (some .int) [((27 : Nat), (82 : Nat), (91 : Nat), (0 : Nat)), ((91 : Nat), (93 : Nat), (91 : Nat), (0 : Nat))]) 21 0 true false false false false true (fun G => [.ref (gA G 0 0), .int v1, .int v2]) σ (fun _ => (some (.int res.1))) res.2 := by
  refine met_wCW (own := RX0) (by decide +kernel) rfl (by simp [cRt]) (fun _ => Nat.le_of_ble_eq_true rfl) (fun G p e s m args below meth c Q hr1 hr2 C hE ls hl hJ => ?_)
  have hx := C.1.1
  have hb := C.1.2.1
  have hown := C.1.2.2.2.1
  have hts := C.1.2.2.2.2
  have hl : lv_has ls 8 [(0, .ref (gA G 0 0)), (1, .int v1), (2, .int v2)] := hl
  have hJ := CJ.s2 (hr2 rfl) hJ
  unfold C_seatOf at h
  refine lv_aload_n hx hb dX0_seatOf_0 rfl (lv_at hl 0 rfl) ?_
  refine cj_gr (v := .ref (gA G 2 0)) C hJ 0 0 2 (ad_s rfl) (Nat.le_of_ble_eq_true rfl) (Nat.le_of_ble_eq_true rfl) rfl rfl (fl_X0_26_0 C) (fun _ _ => rfl) dX0_seatOf_1 ?_
  refine cj_gr (v := .ref (gA G 6 3)) C hJ 2 0 5 (ad_s rfl) (Nat.le_of_ble_eq_true rfl) (Nat.le_of_ble_eq_true rfl) rfl rfl (fl_X0_72_2 C) (fun _ _ => rfl) dX0_seatOf_4 ?_
  refine lv_iload_n hx hb dX0_seatOf_7 rfl (lv_at hl 1 rfl) ?_
  obtain ⟨n1, hn1, h⟩ := ob h
  refine cj_get C hJ 3 (Nat.le_of_ble_eq_true rfl) (fun _ => rfl) q530 ⟨(Nat.le_of_ble_eq_true rfl), (Nat.le_of_ble_eq_true rfl)⟩ hl.1 (Nat.le_of_ble_eq_true rfl) hn1 dX0_seatOf_8 (fun H locs hJ => ?_)
  refine cj_castM C hJ hn1 q544 dX0_seatOf_11 ?_
  refine lv_astore_n (lv' := [(3, .ref (G.2.2.2 5 n1)), (0, .ref (gA G 0 0)), (1, .int v1), (2, .int v2)]) hx hb dX0_seatOf_14 rfl hl (Nat.le_of_ble_eq_true rfl) rfl (fun ls hl => ?_)
  refine lv_aload_n hx hb dX0_seatOf_15 rfl (lv_at hl 0 rfl) ?_
  obtain ⟨x2, hx2, h⟩ := ob h
  refine cj_gi C hJ 5 n1 1 (ad_d rfl) (Nat.le_of_ble_eq_true rfl) (Nat.le_of_ble_eq_true rfl) rfl rfl rfl (fl_X0_325_5 C) hx2 dX0_seatOf_16 ?_
  refine lv_istore (lv' := [(4, .int x2), (3, .ref (G.2.2.2 5 n1)), (0, .ref (gA G 0 0)), (1, .int v1), (2, .int v2)]) hx hb dX0_seatOf_19 hl (Nat.le_of_ble_eq_true rfl) rfl (fun ls hl => ?_)
  refine lv_iconst hx hb dX0_seatOf_21 kc_m1 ?_
  refine lv_istore (lv' := [(5, .int (-1 : Int32)), (4, .int x2), (3, .ref (G.2.2.2 5 n1)), (0, .ref (gA G 0 0)), (1, .int v1), (2, .int v2)]) hx hb dX0_seatOf_22 hl (Nat.le_of_ble_eq_true rfl) rfl (fun ls hl => ?_)
  refine lv_iconst hx hb dX0_seatOf_24 kc_m1 ?_
  refine lv_istore (lv' := [(6, .int (-1 : Int32)), (5, .int (-1 : Int32)), (4, .int x2), (3, .ref (G.2.2.2 5 n1)), (0, .ref (gA G 0 0)), (1, .int v1), (2, .int v2)]) hx hb dX0_seatOf_25 hl (Nat.le_of_ble_eq_true rfl) rfl (fun ls hl => ?_)
  refine lv_aload_n hx hb dX0_seatOf_27 rfl (lv_at hl 3 rfl) ?_
  refine lv_iconst hx hb dX0_seatOf_28 kc_0 ?_
  obtain ⟨σ3, hσ3, h⟩ := ob h
  refine cj_pi C hJ 5 n1 1 (ad_d rfl) (Nat.le_of_ble_eq_true rfl) (Nat.le_of_ble_eq_true rfl) rfl rfl rfl rfl rfl rfl (fl_X0_325_5 C) hσ3 dX0_seatOf_29 (fun H locs hJ => ?_)
  obtain ⟨q5, hq5, h⟩ := ob h
  have hxq5 : ∀ (u20 : Bool) (H : Heap) (locs : List Loc) (ce sl : Nat) (ls : Array Slot), CJ G s (RM 21 0 true false G) 0 true false u20 true G.2.2.2 q5.2.2 H locs ce sl → lv_has ls 8 [(2, .int v2), (3, .ref (G.2.2.2 5 n1)), (4, .int x2), (5, .int q5.1), (6, .int q5.2.1)] → W p l e (RM 21 0 true false G) s m args below meth c H locs ce sl Q (F0 m 82 ls []) := by
    intro u20 H locs ce sl ls hJ hl
    refine lv_aload_n hx hb dX0_seatOf_82 rfl (lv_at hl 1 rfl) ?_
    refine lv_iload hx hb dX0_seatOf_83 (lv_at hl 2 rfl) ?_
    obtain ⟨σ21, hσ21, h⟩ := ob h
    refine cj_pi C hJ 5 n1 1 (ad_d rfl) (Nat.le_of_ble_eq_true rfl) (Nat.le_of_ble_eq_true rfl) rfl rfl rfl rfl rfl rfl (fl_X0_325_5 C) hσ21 dX0_seatOf_85 (fun H locs hJ => ?_)
    refine lv_goto (tgt := 102) hx hb dX0_seatOf_88 (by decide) ?_
    refine lv_iload_n hx hb dX0_seatOf_102 rfl (lv_at hl 0 rfl) ?_
    refine lv_if_ne (tgt := 111) hx hb dX0_seatOf_103 (by decide) (fun hc22 => ?_) (fun hc22 => ?_)
    · have h := im h hc22
      refine lv_iload hx hb dX0_seatOf_111 (lv_at hl 4 rfl) ?_
      have h := Option.some.inj h
      subst h
      exact hE _ _ _ _ _ _ _ _ _ _ _ _ (some (.int (q5.2.1))) hJ (fun h => by cases h) (fun h => by cases h) ⟨_, rfl⟩ rfl dX0_seatOf_113
    · have h := ip h hc22
      refine lv_iload hx hb dX0_seatOf_106 (lv_at hl 3 rfl) ?_
      refine lv_goto (tgt := 113) hx hb dX0_seatOf_108 (by decide) ?_
      have h := Option.some.inj h
      subst h
      exact hE _ _ _ _ _ _ _ _ _ _ _ _ (some (.int (q5.1))) hJ (fun h => by cases h) (fun h => by cases h) ⟨_, rfl⟩ rfl dX0_seatOf_113
  refine lp_ind (P := fun (w4 : Int32 × Int32 × CM) => ∀ (u6 : Bool) (H : Heap) (locs : List Loc) (ce sl : Nat) (ls : Array Slot), CJ G s (RM 21 0 true false G) 0 true false u6 true G.2.2.2 w4.2.2 H locs ce sl → lv_has ls 8 [(0, .ref (gA G 0 0)), (2, .int v2), (3, .ref (G.2.2.2 5 n1)), (4, .int x2), (5, .int w4.1), (6, .int w4.2.1)] → W p l e (RM 21 0 true false G) s m args below meth c H locs ce sl Q (F0 m 32 ls [])) ?_ _ _ hq5 _ _ _ _ _ _ hJ (lv_sub hl [4, 6, 3, 2, 1, 0] rfl)
  intro nw4 w4 ihw4 zw4 hzw4 hqw4 u6 H locs ce sl ls hJ hl
  refine lv_aload_n hx hb dX0_seatOf_32 rfl (lv_at hl 2 rfl) ?_
  obtain ⟨x7, hx7, hzw4⟩ := ob hzw4
  refine cj_gi C hJ 5 n1 1 (ad_d rfl) (Nat.le_of_ble_eq_true rfl) (Nat.le_of_ble_eq_true rfl) rfl rfl rfl (fl_X0_325_5 C) hx7 dX0_seatOf_33 ?_
  refine lv_bipush hx hb dX0_seatOf_36 kb_12 ?_
  refine lv_icmp_ge (tgt := 82) hx hb dX0_seatOf_38 (by decide) (fun hc8 => ?_) (fun hc8 => ?_)
  · have hzw4 := ip hzw4 hc8
    have hzw4 := Option.some.inj hzw4
    subst hzw4
    have hqw4 : _ = q5 := hqw4
    subst hqw4
    exact hxq5 _ _ _ _ _ _ hJ (lv_sub hl [1, 2, 3, 4, 5] rfl)
  · have hzw4 := im hzw4 hc8
    refine lv_aload_n hx hb dX0_seatOf_41 rfl (lv_at hl 0 rfl) ?_
    obtain ⟨c9, hc9, hzw4⟩ := ob hzw4
    refine cc_Vt (As := []) (rest := []) C hJ (metC_find l w4.2.2 c9 hc9) rfl rfl (show 0 + 0 ≤ 0 from Nat.le_of_ble_eq_true rfl) (cost_ok true true true false _ _ (fun _ => Or.inl rfl) (fun _ => Or.inr rfl)) (fun h => by cases h) (fun h => by cases h) (cj_recv C hJ 0 0 (ad_s rfl) (Nat.le_of_ble_eq_true rfl) rfl rfl) (cwV 0 hts (lw_V q809 q811 qs10 q109 q812) rfl rfl rfl hdC_find ⟨(Nat.le_of_ble_eq_true rfl), (Nat.le_of_ble_eq_true rfl)⟩) rfl hl.1 rfl (lv_room (Nat.le_of_ble_eq_true rfl)) dX0_seatOf_42 (fun H locs hJ => ?_)
    refine lv_aload_n hx hb dX0_seatOf_45 rfl (lv_at hl 0 rfl) ?_
    obtain ⟨c11, hc11, hzw4⟩ := ob hzw4
    refine cc_Vt (As := []) (rest := []) C hJ (metC_carriedNow l c9 c11 hc11) rfl rfl (show 0 + 0 ≤ 0 from Nat.le_of_ble_eq_true rfl) (cost_ok false false true false _ _ (fun h => by cases h) (fun h => by cases h)) (fun _ => rfl) (fun _ => rfl) (cj_recv C hJ 0 0 (ad_s rfl) (Nat.le_of_ble_eq_true rfl) rfl rfl) (cwV 0 hts (lw_V q934 q936 qs26 q109 q937) rfl rfl rfl hdC_carriedNow ⟨(Nat.le_of_ble_eq_true rfl), (Nat.le_of_ble_eq_true rfl)⟩) rfl hl.1 rfl (lv_room (Nat.le_of_ble_eq_true rfl)) dX0_seatOf_46 (fun H locs hJ => ?_)
    refine lv_iload hx hb dX0_seatOf_49 (lv_at hl 5 rfl) ?_
    obtain ⟨q17, hq17, hzw4⟩ := ob hzw4
    have hjq17 : ∀ (H : Heap) (locs : List Loc) (ce sl : Nat) (ls : Array Slot), CJ G s (RM 21 0 true false G) 0 true false true true G.2.2.2 c9 H locs ce sl → lv_has ls 8 [(0, .ref (gA G 0 0)), (2, .int v2), (3, .ref (G.2.2.2 5 n1)), (4, .int x2), (5, .int q17.1), (6, .int q17.2)] → W p l e (RM 21 0 true false G) s m args below meth c H locs ce sl Q (F0 m 69 ls []) := by
      intro H locs ce sl ls hJ hl
      refine lv_aload_n hx hb dX0_seatOf_69 rfl (lv_at hl 2 rfl) ?_
      refine lv_dup hx hb dX0_seatOf_70 rfl ?_
      obtain ⟨x18, hx18, hzw4⟩ := ob hzw4
      refine cj_gi C hJ 5 n1 1 (ad_d rfl) (Nat.le_of_ble_eq_true rfl) (Nat.le_of_ble_eq_true rfl) rfl rfl rfl (fl_X0_325_5 C) hx18 dX0_seatOf_71 ?_
      refine lv_iconst hx hb dX0_seatOf_74 kc_1 ?_
      refine lv_iadd hx hb dX0_seatOf_75 ?_
      obtain ⟨σ19, hσ19, hzw4⟩ := ob hzw4
      refine cj_pi C hJ 5 n1 1 (ad_d rfl) (Nat.le_of_ble_eq_true rfl) (Nat.le_of_ble_eq_true rfl) rfl rfl rfl rfl rfl rfl (fl_X0_325_5 C) hσ19 dX0_seatOf_76 (fun H locs hJ => ?_)
      refine lv_goto (tgt := 32) hx hb dX0_seatOf_79 (by decide) ?_
      have hzw4 := Option.some.inj hzw4
      subst hzw4
      exact ihw4 _ hqw4 _ _ _ _ _ _ hJ (lv_sub hl [0, 1, 2, 3, 4, 5] rfl)
    refine lv_icmp_gt (tgt := 57) hx hb dX0_seatOf_51 (by decide) (fun hc13 => ?_) (fun hc13 => ?_)
    · have hq17 := ip hq17 hc13
      refine lv_aload_n hx hb dX0_seatOf_57 rfl (lv_at hl 2 rfl) ?_
      obtain ⟨x14, hx14, hq17⟩ := ob hq17
      refine cj_gi C hJ 5 n1 1 (ad_d rfl) (Nat.le_of_ble_eq_true rfl) (Nat.le_of_ble_eq_true rfl) rfl rfl rfl (fl_X0_325_5 C) hx14 dX0_seatOf_58 ?_
      refine lv_istore (lv' := [(5, .int x14), (0, .ref (gA G 0 0)), (2, .int v2), (3, .ref (G.2.2.2 5 n1)), (4, .int x2), (6, .int w4.2.1)]) hx hb dX0_seatOf_61 hl (Nat.le_of_ble_eq_true rfl) rfl (fun ls hl => ?_)
      refine lv_aload_n hx hb dX0_seatOf_63 rfl (lv_at hl 1 rfl) ?_
      obtain ⟨c15, hc15, hq17⟩ := ob hq17
      refine cc_Vt (As := []) (rest := []) C hJ (metC_carriedNow l c9 c15 hc15) rfl rfl (show 0 + 0 ≤ 0 from Nat.le_of_ble_eq_true rfl) (cost_ok false false true false _ _ (fun h => by cases h) (fun h => by cases h)) (fun _ => rfl) (fun _ => rfl) (cj_recv C hJ 0 0 (ad_s rfl) (Nat.le_of_ble_eq_true rfl) rfl rfl) (cwV 0 hts (lw_V q934 q936 qs26 q109 q937) rfl rfl rfl hdC_carriedNow ⟨(Nat.le_of_ble_eq_true rfl), (Nat.le_of_ble_eq_true rfl)⟩) rfl hl.1 rfl (lv_room (Nat.le_of_ble_eq_true rfl)) dX0_seatOf_64 (fun H locs hJ => ?_)
      refine lv_istore (lv' := [(6, .int c15), (5, .int x14), (0, .ref (gA G 0 0)), (2, .int v2), (3, .ref (G.2.2.2 5 n1)), (4, .int x2)]) hx hb dX0_seatOf_67 hl (Nat.le_of_ble_eq_true rfl) rfl (fun ls hl => ?_)
      have hq17 := Option.some.inj hq17
      subst hq17
      exact hjq17 _ _ _ _ _ hJ (lv_sub hl [2, 3, 4, 5, 1, 0] rfl)
    · have hq17 := im hq17 hc13
      refine lv_goto (tgt := 69) hx hb dX0_seatOf_54 (by decide) ?_
      have hq17 := Option.some.inj hq17
      subst hq17
      exact hjq17 _ _ _ _ _ hJ (lv_sub hl [0, 1, 2, 3, 4, 5] rfl)
def C_seat (σ : CM) (v1 : Int32) (v2 : Int32) : Option (Int32 × CM) :=
  (C_isMember σ v1).bind fun c1 =>
  if c1 = 0 then
    some ((-2 : Int32), σ)
  else
    (C_isTwo σ v2).bind fun c5 =>
    if c5 = 0 then
      some ((-2 : Int32), σ)
    else
      (C_seatOf σ v1 v2).bind fun c7 =>
      some (c7.1, c7.2)
theorem hdC_seat : yX0_seat.cls = RX0 ∧ yX0_seat.cls ≠ "java/lang/invoke/MethodHandle" ∧ yX0_seat.cls ≠ "java/lang/invoke/VarHandle" ∧ (parseMethodDescriptor yX0_seat.desc).map (fun d => d.parameters.length) = some 2 := by decide +kernel
set_option maxHeartbeats 4000000 in
theorem metC_seat (l : Launch) (σ : CM) (v1 : Int32) (v2 : Int32) (res : Int32 × CM) (h : C_seat σ v1 v2 = some res) : MetC l yX0_seat (ws_ yX0_seat cX0_seat 3 (some .int)) 22 0 true true false false false false (fun G => [.ref (gA G 0 0), .int v1, .int v2]) σ (fun _ => (some (.int res.1))) res.2 := by
  refine met_wC (own := RX0) (by decide +kernel) rfl (by simp [cRt]) (fun _ => Nat.le_of_ble_eq_true rfl) (fun G p e s m args below meth c Q hr1 hr2 C hE ls hl hJ => ?_)
  have hx := C.1.1
  have hb := C.1.2.1
  have hown := C.1.2.2.2.1
  have hts := C.1.2.2.2.2
  have hl : lv_has ls 3 [(0, .ref (gA G 0 0)), (1, .int v1), (2, .int v2)] := hl
  unfold C_seat at h
  refine lv_aload_n hx hb dX0_seat_0 rfl (lv_at hl 0 rfl) ?_
  refine lv_iload_n hx hb dX0_seat_1 rfl (lv_at hl 1 rfl) ?_
  obtain ⟨c1, hc1, h⟩ := ob h
  refine cc_V (As := [.int v1]) (rest := []) C hJ (metC_isMember l σ v1 c1 hc1) rfl rfl (show 0 + 0 ≤ 0 from Nat.le_of_ble_eq_true rfl) (cost_ok false true true true _ _ (fun h => by cases h) (fun _ => Or.inl rfl)) (fun h => by cases h) (fun h => by cases h) (cj_recv C hJ 0 0 (ad_s rfl) (Nat.le_of_ble_eq_true rfl) rfl rfl) (cwV 1 hts (lw_V q517 q519 qs6 q109 q520) rfl rfl rfl hdC_isMember ⟨(Nat.le_of_ble_eq_true rfl), (Nat.le_of_ble_eq_true rfl)⟩) rfl hl.1 rfl (lv_room (Nat.le_of_ble_eq_true rfl)) dX0_seat_2 (fun D2 H locs _ hJ => ?_)
  refine lv_if_eq (tgt := 24) hx hb dX0_seat_5 (by decide) (fun hc4 => ?_) (fun hc4 => ?_)
  · have h := ip h hc4
    refine lv_bipush hx hb dX0_seat_24 kb_m2 ?_
    have h := Option.some.inj h
    subst h
    exact hE _ _ _ _ _ _ _ _ _ _ _ _ (some (.int ((-2 : Int32)))) hJ (fun h => by cases h) (fun h => by cases h) ⟨_, rfl⟩ rfl dX0_seat_26
  · have h := im h hc4
    refine lv_iload_n hx hb dX0_seat_8 rfl (lv_at hl 2 rfl) ?_
    obtain ⟨c5, hc5, h⟩ := ob h
    refine cc_St (As := [.int v2]) (rest := []) C hJ (metC_isTwo l σ v2 c5 hc5) rfl rfl (show 0 + 0 ≤ 0 from Nat.le_of_ble_eq_true rfl) (cost_ok false false true true _ _ (fun h => by cases h) (fun h => by cases h)) (fun h => by cases h) (fun h => by cases h) (va_cwS 1 hts (lw_S q142 q143 q109 q144) rfl rfl rfl hdC_isTwo ⟨(Nat.le_of_ble_eq_true rfl), (Nat.le_of_ble_eq_true rfl)⟩) rfl hl.1 rfl (lv_room (Nat.le_of_ble_eq_true rfl)) dX0_seat_9 (fun H locs hJ => ?_)
    refine lv_if_eq (tgt := 24) hx hb dX0_seat_12 (by decide) (fun hc6 => ?_) (fun hc6 => ?_)
    · have h := ip h hc6
      refine lv_bipush hx hb dX0_seat_24 kb_m2 ?_
      have h := Option.some.inj h
      subst h
      exact hE _ _ _ _ _ _ _ _ _ _ _ _ (some (.int ((-2 : Int32)))) hJ (fun h => by cases h) (fun h => by cases h) ⟨_, rfl⟩ rfl dX0_seat_26
    · have h := im h hc6
      refine lv_aload_n hx hb dX0_seat_15 rfl (lv_at hl 0 rfl) ?_
      refine lv_iload_n hx hb dX0_seat_16 rfl (lv_at hl 1 rfl) ?_
      refine lv_iload_n hx hb dX0_seat_17 rfl (lv_at hl 2 rfl) ?_
      obtain ⟨c7, hc7, h⟩ := ob h
      refine cc_VWt (As := [.int v1, .int v2]) (rest := []) C hJ (metC_seatOf l σ v1 v2 c7 hc7) rfl rfl (show 0 + 0 ≤ 0 from Nat.le_of_ble_eq_true rfl) (cost_in true false true true _ _ (fun _ => Or.inl rfl) (fun h => by cases h)) (fun h => by cases h) (fun _ => rfl) (cj_recv C hJ 0 0 (ad_s rfl) (Nat.le_of_ble_eq_true rfl) rfl rfl) (lw_VW q966 q968 qs30 q109 q969) rfl hdC_seatOf ⟨(Nat.le_of_ble_eq_true rfl), (Nat.le_of_ble_eq_true rfl)⟩ rfl hl.1 rfl (lv_room (Nat.le_of_ble_eq_true rfl)) dX0_seat_18 (fun H locs hJ => ?_)
      refine lv_goto (tgt := 26) hx hb dX0_seat_21 (by decide) ?_
      have h := Option.some.inj h
      subst h
      exact hE _ _ _ _ _ _ _ _ _ _ _ _ (some (.int (c7.1))) hJ (fun h => by cases h) (fun h => by cases h) ⟨_, rfl⟩ rfl dX0_seat_26
def C_neverNow (σ : CM) : Option (Int32 × CM) :=
  (lp (S := Int32 × Int32 × CM) (T := Int32 × CM) (fun w1 =>
    if (w1.2.2 6 (evl (w1.2.2 0 0 3)) 2) ≤ w1.2.1 then
        some (.inr (w1.1, w1.2.2))
      else
        (some (cput w1.2.2 0 0 8 ((1 : Int32) <<< (w1.2.1 &&& 31)))).bind fun σ8 =>
        (C_isSeen σ8).bind fun c9 =>
        (if c9.1 = 0 then
            some (0 : Int32)
          else
            some ((1 : Int32) <<< (w1.2.1 &&& 31)) : Option (Int32)).bind fun q13 =>
        some (.inl ((w1.1 ||| q13), (w1.2.1 + 1), c9.2))) 2000 ((0 : Int32), (0 : Int32), σ)).bind fun q2 =>
  (some (cput q2.2 0 0 8 (0 : Int32))).bind fun σ17 =>
  some (q2.1, σ17)
theorem hdC_neverNow : yX0_neverNow.cls = RX0 ∧ yX0_neverNow.cls ≠ "java/lang/invoke/MethodHandle" ∧ yX0_neverNow.cls ≠ "java/lang/invoke/VarHandle" ∧ (parseMethodDescriptor yX0_neverNow.desc).map (fun d => d.parameters.length) = some 0 := by decide +kernel
set_option maxHeartbeats 4000000 in
theorem metC_neverNow (l : Launch) (σ : CM) (res : Int32 × CM) (h : C_neverNow σ = some res) : MetC l yX0_neverNow (wsW_ yX0_neverNow cX0_neverNow 4 (some .int) [((2 : Nat), (45 : Nat), (53 : Nat), (0 : Nat))]) 22 0 true true false false false false (fun G => [.ref (gA G 0 0)]) σ (fun _ => (some (.int res.1))) res.2 := by
  refine met_wCW (own := RX0) (by decide +kernel) rfl (by simp [cRt]) (fun _ => Nat.le_of_ble_eq_true rfl) (fun G p e s m args below meth c Q hr1 hr2 C hE ls hl hJ => ?_)
  have hx := C.1.1
  have hb := C.1.2.1
  have hown := C.1.2.2.2.1
  have hts := C.1.2.2.2.2
  have hl : lv_has ls 4 [(0, .ref (gA G 0 0))] := hl
  unfold C_neverNow at h
  refine lv_iconst hx hb dX0_neverNow_0 kc_0 ?_
  refine lv_istore_n (lv' := [(1, .int (0 : Int32)), (0, .ref (gA G 0 0))]) hx hb dX0_neverNow_1 rfl hl (Nat.le_of_ble_eq_true rfl) rfl (fun ls hl => ?_)
  refine lv_iconst hx hb dX0_neverNow_2 kc_0 ?_
  refine lv_istore_n (lv' := [(2, .int (0 : Int32)), (1, .int (0 : Int32)), (0, .ref (gA G 0 0))]) hx hb dX0_neverNow_3 rfl hl (Nat.le_of_ble_eq_true rfl) rfl (fun ls hl => ?_)
  obtain ⟨q2, hq2, h⟩ := ob h
  have hxq2 : ∀ (u14 : Bool) (u15 : Bool) (D16 : Nat → Nat → Nat) (H : Heap) (locs : List Loc) (ce sl : Nat) (ls : Array Slot), CJ G s (RM 22 0 true true G) 0 true true u14 u15 D16 q2.2 H locs ce sl → lv_has ls 4 [(0, .ref (gA G 0 0)), (1, .int q2.1)] → W p l e (RM 22 0 true true G) s m args below meth c H locs ce sl Q (F0 m 45 ls []) := by
    intro u14 u15 D16 H locs ce sl ls hJ hl
    refine lv_aload_n hx hb dX0_neverNow_45 rfl (lv_at hl 0 rfl) ?_
    refine lv_iconst hx hb dX0_neverNow_46 kc_0 ?_
    obtain ⟨σ17, hσ17, h⟩ := ob h
    refine cj_p0 C hJ 0 0 8 (ad_s rfl) (Nat.le_of_ble_eq_true rfl) (Nat.le_of_ble_eq_true rfl) rfl rfl rfl rfl rfl rfl rfl (fl_X0_251_0 C) hσ17 dX0_neverNow_47 (fun H locs hJ => ?_)
    refine lv_goto (tgt := 61) hx hb dX0_neverNow_50 (by decide) ?_
    refine lv_iload_n hx hb dX0_neverNow_61 rfl (lv_at hl 1 rfl) ?_
    have h := Option.some.inj h
    subst h
    exact hE _ _ _ _ _ _ _ _ _ _ _ _ (some (.int (q2.1))) hJ (fun h => by cases h) (fun h => by cases h) ⟨_, rfl⟩ rfl dX0_neverNow_62
  refine lp_ind (P := fun (w1 : Int32 × Int32 × CM) => ∀ (u3 : Bool) (u4 : Bool) (D5 : Nat → Nat → Nat) (H : Heap) (locs : List Loc) (ce sl : Nat) (ls : Array Slot), CJ G s (RM 22 0 true true G) 0 true true u3 u4 D5 w1.2.2 H locs ce sl → lv_has ls 4 [(0, .ref (gA G 0 0)), (1, .int w1.1), (2, .int w1.2.1)] → W p l e (RM 22 0 true true G) s m args below meth c H locs ce sl Q (F0 m 4 ls [])) ?_ _ _ hq2 _ _ _ _ _ _ _ _ hJ (lv_sub hl [2, 1, 0] rfl)
  intro nw1 w1 ihw1 zw1 hzw1 hqw1 u3 u4 D5 H locs ce sl ls hJ hl
  refine lv_iload_n hx hb dX0_neverNow_4 rfl (lv_at hl 2 rfl) ?_
  refine lv_aload_n hx hb dX0_neverNow_5 rfl (lv_at hl 0 rfl) ?_
  refine cj_gr (v := .ref (gA G 6 (evl (w1.2.2 0 0 3)))) C hJ 0 0 3 (ad_s rfl) (Nat.le_of_ble_eq_true rfl) (Nat.le_of_ble_eq_true rfl) rfl rfl (fl_X0_102_0 C) (fun _ hL => evq hL) dX0_neverNow_6 ?_
  refine cj_size C hJ (evl (w1.2.2 0 0 3)) (evl_4 _) (evl_3 _) q528 ⟨(Nat.le_of_ble_eq_true rfl), (Nat.le_of_ble_eq_true rfl)⟩ hl.1 (Nat.le_of_ble_eq_true rfl) dX0_neverNow_9 (fun D6 H locs _ hJ => ?_)
  refine lv_icmp_ge (tgt := 45) hx hb dX0_neverNow_12 (by decide) (fun hc7 => ?_) (fun hc7 => ?_)
  · have hzw1 := ip hzw1 hc7
    have hzw1 := Option.some.inj hzw1
    subst hzw1
    have hqw1 : _ = q2 := hqw1
    subst hqw1
    exact hxq2 _ _ _ _ _ _ _ _ hJ (lv_sub hl [0, 1] rfl)
  · have hzw1 := im hzw1 hc7
    refine lv_aload_n hx hb dX0_neverNow_15 rfl (lv_at hl 0 rfl) ?_
    refine lv_iconst hx hb dX0_neverNow_16 kc_1 ?_
    refine lv_iload_n hx hb dX0_neverNow_17 rfl (lv_at hl 2 rfl) ?_
    refine lv_ishl hx hb dX0_neverNow_18 ?_
    obtain ⟨σ8, hσ8, hzw1⟩ := ob hzw1
    refine cj_p0 C hJ 0 0 8 (ad_s rfl) (Nat.le_of_ble_eq_true rfl) (Nat.le_of_ble_eq_true rfl) rfl rfl rfl rfl rfl rfl rfl (fl_X0_251_0 C) hσ8 dX0_neverNow_19 (fun H locs hJ => ?_)
    refine lv_iload_n hx hb dX0_neverNow_22 rfl (lv_at hl 1 rfl) ?_
    refine lv_aload_n hx hb dX0_neverNow_23 rfl (lv_at hl 0 rfl) ?_
    obtain ⟨c9, hc9, hzw1⟩ := ob hzw1
    refine cc_V (As := []) (rest := [.int w1.1]) C hJ (metC_isSeen l σ8 c9 hc9) rfl rfl (show 0 + 0 ≤ 0 from Nat.le_of_ble_eq_true rfl) (cost_ok true true true true _ _ (fun _ => Or.inl rfl) (fun _ => Or.inl rfl)) (fun h => by cases h) (fun h => by cases h) (cj_recv C hJ 0 0 (ad_s rfl) (Nat.le_of_ble_eq_true rfl) rfl rfl) (cwV 0 hts (lw_V q1017 q1019 qs36 q109 q1020) rfl rfl rfl hdC_isSeen ⟨(Nat.le_of_ble_eq_true rfl), (Nat.le_of_ble_eq_true rfl)⟩) rfl hl.1 rfl (lv_room (Nat.le_of_ble_eq_true rfl)) dX0_neverNow_24 (fun D10 H locs _ hJ => ?_)
    obtain ⟨q13, hq13, hzw1⟩ := ob hzw1
    have hjq13 : ∀ (H : Heap) (locs : List Loc) (ce sl : Nat) (ls : Array Slot), CJ G s (RM 22 0 true true G) 0 true true true true D10 c9.2 H locs ce sl → lv_has ls 4 [(0, .ref (gA G 0 0)), (2, .int w1.2.1)] → W p l e (RM 22 0 true true G) s m args below meth c H locs ce sl Q (F0 m 37 ls [.int q13, .int w1.1]) := by
      intro H locs ce sl ls hJ hl
      refine lv_ior hx hb dX0_neverNow_37 ?_
      refine lv_istore_n (lv' := [(1, .int (w1.1 ||| q13)), (0, .ref (gA G 0 0)), (2, .int w1.2.1)]) hx hb dX0_neverNow_38 rfl hl (Nat.le_of_ble_eq_true rfl) rfl (fun ls hl => ?_)
      refine lv_iinc (v := (w1.2.1 + 1)) (lv' := [(2, .int (w1.2.1 + 1)), (1, .int (w1.1 ||| q13)), (0, .ref (gA G 0 0))]) hx hb dX0_neverNow_39 hl (k := 2) rfl rfl (Nat.le_of_ble_eq_true rfl) rfl (fun ls hl => ?_)
      refine lv_goto (tgt := 4) hx hb dX0_neverNow_42 (by decide) ?_
      have hzw1 := Option.some.inj hzw1
      subst hzw1
      exact ihw1 _ hqw1 _ _ _ _ _ _ _ _ hJ (lv_sub hl [2, 1, 0] rfl)
    refine lv_if_eq (tgt := 36) hx hb dX0_neverNow_27 (by decide) (fun hc12 => ?_) (fun hc12 => ?_)
    · have hq13 := ip hq13 hc12
      refine lv_iconst hx hb dX0_neverNow_36 kc_0 ?_
      have hq13 := Option.some.inj hq13
      subst hq13
      exact hjq13 _ _ _ _ _ hJ (lv_sub hl [0, 2] rfl)
    · have hq13 := im hq13 hc12
      refine lv_iconst hx hb dX0_neverNow_30 kc_1 ?_
      refine lv_iload_n hx hb dX0_neverNow_31 rfl (lv_at hl 2 rfl) ?_
      refine lv_ishl hx hb dX0_neverNow_32 ?_
      refine lv_goto (tgt := 37) hx hb dX0_neverNow_33 (by decide) ?_
      have hq13 := Option.some.inj hq13
      subst hq13
      exact hjq13 _ _ _ _ _ hJ (lv_sub hl [0, 2] rfl)
def C_never (σ : CM) : Option (Int32 × CM) :=
  (C_neverNow σ).bind fun c1 =>
  some (c1.1, c1.2)
theorem hdC_never : yX0_never.cls = RX0 ∧ yX0_never.cls ≠ "java/lang/invoke/MethodHandle" ∧ yX0_never.cls ≠ "java/lang/invoke/VarHandle" ∧ (parseMethodDescriptor yX0_never.desc).map (fun d => d.parameters.length) = some 0 := by decide +kernel
set_option maxHeartbeats 4000000 in
theorem metC_never (l : Launch) (σ : CM) (res : Int32 × CM) (h : C_never σ = some res) : MetC l yX0_never (ws_ yX0_never cX0_never 1 (some .int)) 23 0 true true false false false false (fun G => [.ref (gA G 0 0)]) σ (fun _ => (some (.int res.1))) res.2 := by
  refine met_wC (own := RX0) (by decide +kernel) rfl (by simp [cRt]) (fun _ => Nat.le_of_ble_eq_true rfl) (fun G p e s m args below meth c Q hr1 hr2 C hE ls hl hJ => ?_)
  have hx := C.1.1
  have hb := C.1.2.1
  have hown := C.1.2.2.2.1
  have hts := C.1.2.2.2.2
  have hl : lv_has ls 1 [(0, .ref (gA G 0 0))] := hl
  unfold C_never at h
  refine lv_aload_n hx hb dX0_never_0 rfl (lv_at hl 0 rfl) ?_
  obtain ⟨c1, hc1, h⟩ := ob h
  refine cc_VW (As := []) (rest := []) C hJ (metC_neverNow l σ c1 hc1) rfl rfl (show 0 + 0 ≤ 0 from Nat.le_of_ble_eq_true rfl) (cost_in true true true true _ _ (fun _ => Or.inl rfl) (fun _ => Or.inl rfl)) (fun h => by cases h) (fun h => by cases h) (cj_recv C hJ 0 0 (ad_s rfl) (Nat.le_of_ble_eq_true rfl) rfl rfl) (lw_VW q1013 q1015 qs35 q109 q1016) rfl hdC_neverNow ⟨(Nat.le_of_ble_eq_true rfl), (Nat.le_of_ble_eq_true rfl)⟩ rfl hl.1 rfl (lv_room (Nat.le_of_ble_eq_true rfl)) dX0_never_1 (fun D2 H locs _ hJ => ?_)
  have h := Option.some.inj h
  subst h
  exact hE _ _ _ _ _ _ _ _ _ _ _ _ (some (.int (c1.1))) hJ (fun h => by cases h) (fun h => by cases h) ⟨_, rfl⟩ rfl dX0_never_4
def C_sortOf (σ : CM) (v1 : Int32) : Option (Int32 × CM) :=
  (lget σ 3 v1).bind fun n1 =>
  (cget σ 5 n1 0).bind fun x2 =>
  (lp (S := Int32 × Int32 × CM) (T := Int32 × CM) (fun w3 =>
    if (3 : Int32) ≤ w3.2.1 then
        some (.inr (w3.1, w3.2.2))
      else
        (sok w3.2.1).bind fun e7 =>
        (sok w3.2.1).bind fun e9 =>
        (cst w3.2.2 5 n1 0 w3.2.1).bind fun σ8 =>
        (C_isSeen σ8).bind fun c10 =>
        (if c10.1 = 0 then
            some (0 : Int32)
          else
            some ((1 : Int32) <<< (w3.2.1 &&& 31)) : Option (Int32)).bind fun q13 =>
        some (.inl ((w3.1 ||| q13), (w3.2.1 + 1), c10.2))) 2000 ((0 : Int32), (0 : Int32), σ)).bind fun q4 =>
  (sok x2).bind fun e16 =>
  (cst q4.2 5 n1 0 x2).bind fun σ15 =>
  some (q4.1, σ15)
theorem hdC_sortOf : yX0_sortOf.cls = RX0 ∧ yX0_sortOf.cls ≠ "java/lang/invoke/MethodHandle" ∧ yX0_sortOf.cls ≠ "java/lang/invoke/VarHandle" ∧ (parseMethodDescriptor yX0_sortOf.desc).map (fun d => d.parameters.length) = some 1 := by decide +kernel
set_option maxHeartbeats 4000000 in
theorem metC_sortOf (l : Launch) (σ : CM) (v1 : Int32) (res : Int32 × CM) (h : C_sortOf σ v1 = some res) : MetC l yX0_sortOf (wsW_ yX0_sortOf cX0_sortOf 7 (some .int) [((23 : Nat), (68 : Nat), (76 : Nat), (0 : Nat)), ((76 : Nat), (78 : Nat), (76 : Nat), (0 : Nat))]) 22 0 true false false false false true (fun G => [.ref (gA G 0 0), .int v1]) σ (fun _ => (some (.int res.1))) res.2 := by
  refine met_wCW (own := RX0) (by decide +kernel) rfl (by simp [cRt]) (fun _ => Nat.le_of_ble_eq_true rfl) (fun G p e s m args below meth c Q hr1 hr2 C hE ls hl hJ => ?_)
  have hx := C.1.1
  have hb := C.1.2.1
  have hown := C.1.2.2.2.1
  have hts := C.1.2.2.2.2
  have hl : lv_has ls 7 [(0, .ref (gA G 0 0)), (1, .int v1)] := hl
  have hJ := CJ.s2 (hr2 rfl) hJ
  unfold C_sortOf at h
  refine lv_aload_n hx hb dX0_sortOf_0 rfl (lv_at hl 0 rfl) ?_
  refine cj_gr (v := .ref (gA G 2 0)) C hJ 0 0 2 (ad_s rfl) (Nat.le_of_ble_eq_true rfl) (Nat.le_of_ble_eq_true rfl) rfl rfl (fl_X0_26_0 C) (fun _ _ => rfl) dX0_sortOf_1 ?_
  refine cj_gr (v := .ref (gA G 6 3)) C hJ 2 0 5 (ad_s rfl) (Nat.le_of_ble_eq_true rfl) (Nat.le_of_ble_eq_true rfl) rfl rfl (fl_X0_72_2 C) (fun _ _ => rfl) dX0_sortOf_4 ?_
  refine lv_iload_n hx hb dX0_sortOf_7 rfl (lv_at hl 1 rfl) ?_
  obtain ⟨n1, hn1, h⟩ := ob h
  refine cj_get C hJ 3 (Nat.le_of_ble_eq_true rfl) (fun _ => rfl) q530 ⟨(Nat.le_of_ble_eq_true rfl), (Nat.le_of_ble_eq_true rfl)⟩ hl.1 (Nat.le_of_ble_eq_true rfl) hn1 dX0_sortOf_8 (fun H locs hJ => ?_)
  refine cj_castM C hJ hn1 q544 dX0_sortOf_11 ?_
  refine lv_astore_n (lv' := [(2, .ref (G.2.2.2 5 n1)), (0, .ref (gA G 0 0)), (1, .int v1)]) hx hb dX0_sortOf_14 rfl hl (Nat.le_of_ble_eq_true rfl) rfl (fun ls hl => ?_)
  refine lv_aload_n hx hb dX0_sortOf_15 rfl (lv_at hl 0 rfl) ?_
  obtain ⟨x2, hx2, h⟩ := ob h
  refine cj_gsort C hJ n1 (fl_X0_192_5 C) hx2 dX0_sortOf_16 ?_
  refine lv_astore_n (lv' := [(3, .ref (cSo G.1 x2.toNatClampNeg)), (2, .ref (G.2.2.2 5 n1)), (0, .ref (gA G 0 0)), (1, .int v1)]) hx hb dX0_sortOf_19 rfl hl (Nat.le_of_ble_eq_true rfl) rfl (fun ls hl => ?_)
  refine lv_iconst hx hb dX0_sortOf_20 kc_0 ?_
  refine lv_istore (lv' := [(4, .int (0 : Int32)), (3, .ref (cSo G.1 x2.toNatClampNeg)), (2, .ref (G.2.2.2 5 n1)), (0, .ref (gA G 0 0)), (1, .int v1)]) hx hb dX0_sortOf_21 hl (Nat.le_of_ble_eq_true rfl) rfl (fun ls hl => ?_)
  refine lv_iconst hx hb dX0_sortOf_23 kc_0 ?_
  refine lv_istore (lv' := [(5, .int (0 : Int32)), (4, .int (0 : Int32)), (3, .ref (cSo G.1 x2.toNatClampNeg)), (2, .ref (G.2.2.2 5 n1)), (0, .ref (gA G 0 0)), (1, .int v1)]) hx hb dX0_sortOf_24 hl (Nat.le_of_ble_eq_true rfl) rfl (fun ls hl => ?_)
  obtain ⟨q4, hq4, h⟩ := ob h
  have hxq4 : ∀ (u14 : Bool) (H : Heap) (locs : List Loc) (ce sl : Nat) (ls : Array Slot), CJ G s (RM 22 0 true false G) 0 true false u14 true G.2.2.2 q4.2 H locs ce sl → lv_has ls 7 [(2, .ref (G.2.2.2 5 n1)), (3, .ref (cSo G.1 x2.toNatClampNeg)), (4, .int q4.1)] → W p l e (RM 22 0 true false G) s m args below meth c H locs ce sl Q (F0 m 68 ls []) := by
    intro u14 H locs ce sl ls hJ hl
    refine lv_aload_n hx hb dX0_sortOf_68 rfl (lv_at hl 0 rfl) ?_
    refine lv_aload_n hx hb dX0_sortOf_69 rfl (lv_at hl 1 rfl) ?_
    obtain ⟨e16, he16, h⟩ := ob h
    obtain ⟨σ15, hσ15, h⟩ := ob h
    refine cj_psort C hJ n1 (fl_X0_192_5 C) (sok_lt he16) hσ15 dX0_sortOf_70 (fun H locs hJ => ?_)
    refine lv_goto (tgt := 86) hx hb dX0_sortOf_73 (by decide) ?_
    refine lv_iload hx hb dX0_sortOf_86 (lv_at hl 2 rfl) ?_
    have h := Option.some.inj h
    subst h
    exact hE _ _ _ _ _ _ _ _ _ _ _ _ (some (.int (q4.1))) hJ (fun h => by cases h) (fun h => by cases h) ⟨_, rfl⟩ rfl dX0_sortOf_88
  refine lp_ind (P := fun (w3 : Int32 × Int32 × CM) => ∀ (u5 : Bool) (H : Heap) (locs : List Loc) (ce sl : Nat) (ls : Array Slot), CJ G s (RM 22 0 true false G) 0 true false u5 true G.2.2.2 w3.2.2 H locs ce sl → lv_has ls 7 [(0, .ref (gA G 0 0)), (2, .ref (G.2.2.2 5 n1)), (3, .ref (cSo G.1 x2.toNatClampNeg)), (4, .int w3.1), (5, .int w3.2.1)] → W p l e (RM 22 0 true false G) s m args below meth c H locs ce sl Q (F0 m 26 ls [])) ?_ _ _ hq4 _ _ _ _ _ _ hJ (lv_sub hl [4, 3, 2, 1, 0] rfl)
  intro nw3 w3 ihw3 zw3 hzw3 hqw3 u5 H locs ce sl ls hJ hl
  refine lv_iload hx hb dX0_sortOf_26 (lv_at hl 4 rfl) ?_
  refine lv_iconst hx hb dX0_sortOf_28 kc_3 ?_
  refine lv_icmp_ge (tgt := 68) hx hb dX0_sortOf_29 (by decide) (fun hc6 => ?_) (fun hc6 => ?_)
  · have hzw3 := ip hzw3 hc6
    have hzw3 := Option.some.inj hzw3
    subst hzw3
    have hqw3 : _ = q4 := hqw3
    subst hqw3
    exact hxq4 _ _ _ _ _ _ hJ (lv_sub hl [1, 2, 3] rfl)
  · have hzw3 := im hzw3 hc6
    refine lv_aload_n hx hb dX0_sortOf_32 rfl (lv_at hl 1 rfl) ?_
    refine cj_gS C hJ q1029 dX0_sortOf_33 ?_
    refine lv_iload hx hb dX0_sortOf_36 (lv_at hl 4 rfl) ?_
    obtain ⟨e7, he7, hzw3⟩ := ob hzw3
    refine cj_aS C hJ he7 dX0_sortOf_38 ?_
    obtain ⟨e9, he9, hzw3⟩ := ob hzw3
    obtain ⟨σ8, hσ8, hzw3⟩ := ob hzw3
    refine cj_psort C hJ n1 (fl_X0_192_5 C) (sok_lt he9) hσ8 dX0_sortOf_39 (fun H locs hJ => ?_)
    refine lv_iload hx hb dX0_sortOf_42 (lv_at hl 3 rfl) ?_
    refine lv_aload_n hx hb dX0_sortOf_44 rfl (lv_at hl 0 rfl) ?_
    obtain ⟨c10, hc10, hzw3⟩ := ob hzw3
    refine cc_Vt (As := []) (rest := [.int w3.1]) C hJ (metC_isSeen l σ8 c10 hc10) rfl rfl (show 0 + 0 ≤ 0 from Nat.le_of_ble_eq_true rfl) (cost_ok true true true false _ _ (fun _ => Or.inl rfl) (fun _ => Or.inr rfl)) (fun h => by cases h) (fun h => by cases h) (cj_recv C hJ 0 0 (ad_s rfl) (Nat.le_of_ble_eq_true rfl) rfl rfl) (cwV 0 hts (lw_V q1017 q1019 qs36 q109 q1020) rfl rfl rfl hdC_isSeen ⟨(Nat.le_of_ble_eq_true rfl), (Nat.le_of_ble_eq_true rfl)⟩) rfl hl.1 rfl (lv_room (Nat.le_of_ble_eq_true rfl)) dX0_sortOf_45 (fun H locs hJ => ?_)
    obtain ⟨q13, hq13, hzw3⟩ := ob hzw3
    have hjq13 : ∀ (H : Heap) (locs : List Loc) (ce sl : Nat) (ls : Array Slot), CJ G s (RM 22 0 true false G) 0 true false true true G.2.2.2 c10.2 H locs ce sl → lv_has ls 7 [(0, .ref (gA G 0 0)), (2, .ref (G.2.2.2 5 n1)), (3, .ref (cSo G.1 x2.toNatClampNeg)), (5, .int w3.2.1)] → W p l e (RM 22 0 true false G) s m args below meth c H locs ce sl Q (F0 m 59 ls [.int q13, .int w3.1]) := by
      intro H locs ce sl ls hJ hl
      refine lv_ior hx hb dX0_sortOf_59 ?_
      refine lv_istore (lv' := [(4, .int (w3.1 ||| q13)), (0, .ref (gA G 0 0)), (2, .ref (G.2.2.2 5 n1)), (3, .ref (cSo G.1 x2.toNatClampNeg)), (5, .int w3.2.1)]) hx hb dX0_sortOf_60 hl (Nat.le_of_ble_eq_true rfl) rfl (fun ls hl => ?_)
      refine lv_iinc (v := (w3.2.1 + 1)) (lv' := [(5, .int (w3.2.1 + 1)), (4, .int (w3.1 ||| q13)), (0, .ref (gA G 0 0)), (2, .ref (G.2.2.2 5 n1)), (3, .ref (cSo G.1 x2.toNatClampNeg))]) hx hb dX0_sortOf_62 hl (k := 4) rfl rfl (Nat.le_of_ble_eq_true rfl) rfl (fun ls hl => ?_)
      refine lv_goto (tgt := 26) hx hb dX0_sortOf_65 (by decide) ?_
      have hzw3 := Option.some.inj hzw3
      subst hzw3
      exact ihw3 _ hqw3 _ _ _ _ _ _ hJ (lv_sub hl [2, 3, 4, 1, 0] rfl)
    refine lv_if_eq (tgt := 58) hx hb dX0_sortOf_48 (by decide) (fun hc12 => ?_) (fun hc12 => ?_)
    · have hq13 := ip hq13 hc12
      refine lv_iconst hx hb dX0_sortOf_58 kc_0 ?_
      have hq13 := Option.some.inj hq13
      subst hq13
      exact hjq13 _ _ _ _ _ hJ (lv_sub hl [0, 1, 2, 4] rfl)
    · have hq13 := im hq13 hc12
      refine lv_iconst hx hb dX0_sortOf_51 kc_1 ?_
      refine lv_iload hx hb dX0_sortOf_52 (lv_at hl 4 rfl) ?_
      refine lv_ishl hx hb dX0_sortOf_54 ?_
      refine lv_goto (tgt := 59) hx hb dX0_sortOf_55 (by decide) ?_
      have hq13 := Option.some.inj hq13
      subst hq13
      exact hjq13 _ _ _ _ _ hJ (lv_sub hl [0, 1, 2, 4] rfl)
def C_sort (σ : CM) (v1 : Int32) : Option (Int32 × CM) :=
  (C_isMember σ v1).bind fun c1 =>
  if c1 = 0 then
    some ((-2 : Int32), σ)
  else
    (C_sortOf σ v1).bind fun c5 =>
    some (c5.1, c5.2)
theorem hdC_sort : yX0_sort.cls = RX0 ∧ yX0_sort.cls ≠ "java/lang/invoke/MethodHandle" ∧ yX0_sort.cls ≠ "java/lang/invoke/VarHandle" ∧ (parseMethodDescriptor yX0_sort.desc).map (fun d => d.parameters.length) = some 1 := by decide +kernel
set_option maxHeartbeats 4000000 in
theorem metC_sort (l : Launch) (σ : CM) (v1 : Int32) (res : Int32 × CM) (h : C_sort σ v1 = some res) : MetC l yX0_sort (ws_ yX0_sort cX0_sort 2 (some .int)) 23 0 true true false false false false (fun G => [.ref (gA G 0 0), .int v1]) σ (fun _ => (some (.int res.1))) res.2 := by
  refine met_wC (own := RX0) (by decide +kernel) rfl (by simp [cRt]) (fun _ => Nat.le_of_ble_eq_true rfl) (fun G p e s m args below meth c Q hr1 hr2 C hE ls hl hJ => ?_)
  have hx := C.1.1
  have hb := C.1.2.1
  have hown := C.1.2.2.2.1
  have hts := C.1.2.2.2.2
  have hl : lv_has ls 2 [(0, .ref (gA G 0 0)), (1, .int v1)] := hl
  unfold C_sort at h
  refine lv_aload_n hx hb dX0_sort_0 rfl (lv_at hl 0 rfl) ?_
  refine lv_iload_n hx hb dX0_sort_1 rfl (lv_at hl 1 rfl) ?_
  obtain ⟨c1, hc1, h⟩ := ob h
  refine cc_V (As := [.int v1]) (rest := []) C hJ (metC_isMember l σ v1 c1 hc1) rfl rfl (show 0 + 0 ≤ 0 from Nat.le_of_ble_eq_true rfl) (cost_ok false true true true _ _ (fun h => by cases h) (fun _ => Or.inl rfl)) (fun h => by cases h) (fun h => by cases h) (cj_recv C hJ 0 0 (ad_s rfl) (Nat.le_of_ble_eq_true rfl) rfl rfl) (cwV 1 hts (lw_V q517 q519 qs6 q109 q520) rfl rfl rfl hdC_isMember ⟨(Nat.le_of_ble_eq_true rfl), (Nat.le_of_ble_eq_true rfl)⟩) rfl hl.1 rfl (lv_room (Nat.le_of_ble_eq_true rfl)) dX0_sort_2 (fun D2 H locs _ hJ => ?_)
  refine lv_if_eq (tgt := 16) hx hb dX0_sort_5 (by decide) (fun hc4 => ?_) (fun hc4 => ?_)
  · have h := ip h hc4
    refine lv_bipush hx hb dX0_sort_16 kb_m2 ?_
    have h := Option.some.inj h
    subst h
    exact hE _ _ _ _ _ _ _ _ _ _ _ _ (some (.int ((-2 : Int32)))) hJ (fun h => by cases h) (fun h => by cases h) ⟨_, rfl⟩ rfl dX0_sort_18
  · have h := im h hc4
    refine lv_aload_n hx hb dX0_sort_8 rfl (lv_at hl 0 rfl) ?_
    refine lv_iload_n hx hb dX0_sort_9 rfl (lv_at hl 1 rfl) ?_
    obtain ⟨c5, hc5, h⟩ := ob h
    refine cc_VWt (As := [.int v1]) (rest := []) C hJ (metC_sortOf l σ v1 c5 hc5) rfl rfl (show 0 + 0 ≤ 0 from Nat.le_of_ble_eq_true rfl) (cost_in true false true true _ _ (fun _ => Or.inl rfl) (fun h => by cases h)) (fun h => by cases h) (fun _ => rfl) (cj_recv C hJ 0 0 (ad_s rfl) (Nat.le_of_ble_eq_true rfl) rfl rfl) (lw_VW q1025 q1027 qs37 q109 q1028) rfl hdC_sortOf ⟨(Nat.le_of_ble_eq_true rfl), (Nat.le_of_ble_eq_true rfl)⟩ rfl hl.1 rfl (lv_room (Nat.le_of_ble_eq_true rfl)) dX0_sort_10 (fun H locs hJ => ?_)
    refine lv_goto (tgt := 18) hx hb dX0_sort_13 (by decide) ?_
    have h := Option.some.inj h
    subst h
    exact hE _ _ _ _ _ _ _ _ _ _ _ _ (some (.int (c5.1))) hJ (fun h => by cases h) (fun h => by cases h) ⟨_, rfl⟩ rfl dX0_sort_18
def C_wetOf (σ : CM) (v1 : Int32) : Option (Int32 × CM) :=
  (rdS σ).bind fun x1 =>
  (cld σ 9 0 v1).bind fun x2 =>
  (cas σ 9 0 v1 (0 : Int32)).bind fun σ3 =>
  (lp (S := Int32 × CM) (T := Int32 × CM) (fun w4 =>
    (cld w4.2 9 0 v1).bind fun x8 =>
      if (9 : Int32) < x8 then
        some (.inr (w4.1, w4.2))
      else
        (C_isSeen w4.2).bind fun c10 =>
        (if c10.1 = 0 then
            some (0 : Int32)
          else
            (cld c10.2 9 0 v1).bind fun x14 =>
            some ((1 : Int32) <<< (x14 &&& 31)) : Option (Int32)).bind fun q15 =>
        (lp (S := Int32 × CM) (T := CM) (fun w16 =>
          if (20 : Int32) ≤ w16.1 then
              some (.inr w16.2)
            else
              (cld w16.2 9 0 v1).bind fun x19 =>
              (cix w16.2 14 0 x19).bind fun n20 =>
              (cix w16.2 12 0 w16.1).bind fun n21 =>
              (cld w16.2 11 n21 v1).bind fun x22 =>
              (cas w16.2 13 n20 w16.1 x22).bind fun σ23 =>
              some (.inl ((w16.1 + 1), σ23))) 2000 ((0 : Int32), c10.2)).bind fun q17 =>
        (cld q17 9 0 v1).bind fun x24 =>
        (cas q17 9 0 v1 (x24 + (1 : Int32))).bind fun σ25 =>
        some (.inl ((w4.1 ||| q15), σ25))) 2000 ((0 : Int32), σ3)).bind fun q5 =>
  (cas q5.2 9 0 v1 x2).bind fun σ28 =>
  some (q5.1, σ28)
theorem hdC_wetOf : yX0_wetOf.cls = RX0 ∧ yX0_wetOf.cls ≠ "java/lang/invoke/MethodHandle" ∧ yX0_wetOf.cls ≠ "java/lang/invoke/VarHandle" ∧ (parseMethodDescriptor yX0_wetOf.desc).map (fun d => d.parameters.length) = some 1 := by decide +kernel
set_option maxHeartbeats 4000000 in
theorem metC_wetOf (l : Launch) (σ : CM) (v1 : Int32) (res : Int32 × CM) (h : C_wetOf σ v1 = some res) : MetC l yX0_wetOf (wsW_ yX0_wetOf cX0_wetOf 6 (some .int) [((20 : Nat), (127 : Nat), (140 : Nat), (0 : Nat)), ((140 : Nat), (142 : Nat), (140 : Nat), (0 : Nat))]) 22 0 true true false false false false (fun G => [.ref (gA G 0 0), .int v1]) σ (fun _ => (some (.int res.1))) res.2 := by
  refine met_wCW (own := RX0) (by decide +kernel) rfl (by simp [cRt]) (fun _ => Nat.le_of_ble_eq_true rfl) (fun G p e s m args below meth c Q hr1 hr2 C hE ls hl hJ => ?_)
  have hx := C.1.1
  have hb := C.1.2.1
  have hown := C.1.2.2.2.1
  have hts := C.1.2.2.2.2
  have hl : lv_has ls 6 [(0, .ref (gA G 0 0)), (1, .int v1)] := hl
  unfold C_wetOf at h
  refine lv_aload_n hx hb dX0_wetOf_0 rfl (lv_at hl 0 rfl) ?_
  refine cj_gr (v := .ref (gA G 1 0)) C hJ 0 0 1 (ad_s rfl) (Nat.le_of_ble_eq_true rfl) (Nat.le_of_ble_eq_true rfl) rfl rfl (fl_X0_22_0 C) (fun _ _ => rfl) dX0_wetOf_1 ?_
  obtain ⟨x1, hx1, h⟩ := ob h
  refine cj_readS C hJ (Or.inl rfl) q509 ⟨(Nat.le_of_ble_eq_true rfl), (Nat.le_of_ble_eq_true rfl)⟩ hl.1 (Nat.le_of_ble_eq_true rfl) hx1 dX0_wetOf_4 (fun H locs ce sl hJ => ?_)
  refine lv_pop hx hb dX0_wetOf_7 rfl ?_
  refine lv_aload_n hx hb dX0_wetOf_8 rfl (lv_at hl 0 rfl) ?_
  refine cj_gr (v := .ref (gA G 1 0)) C hJ 0 0 1 (ad_s rfl) (Nat.le_of_ble_eq_true rfl) (Nat.le_of_ble_eq_true rfl) rfl rfl (fl_X0_22_0 C) (fun _ _ => rfl) dX0_wetOf_9 ?_
  refine cj_gr (v := .ref (gA G 9 0)) C hJ 1 0 5 (ad_s rfl) (Nat.le_of_ble_eq_true rfl) (Nat.le_of_ble_eq_true rfl) rfl rfl (fl_X0_59_1 C) (fun _ _ => rfl) dX0_wetOf_12 ?_
  refine lv_iload_n hx hb dX0_wetOf_15 rfl (lv_at hl 1 rfl) ?_
  obtain ⟨x2, hx2, h⟩ := ob h
  refine cj_il C hJ 9 0 (ad_s rfl) rfl rfl rfl hx2 dX0_wetOf_16 ?_
  refine lv_istore_n (lv' := [(2, .int x2), (0, .ref (gA G 0 0)), (1, .int v1)]) hx hb dX0_wetOf_17 rfl hl (Nat.le_of_ble_eq_true rfl) rfl (fun ls hl => ?_)
  refine lv_iconst hx hb dX0_wetOf_18 kc_0 ?_
  refine lv_istore_n (lv' := [(3, .int (0 : Int32)), (2, .int x2), (0, .ref (gA G 0 0)), (1, .int v1)]) hx hb dX0_wetOf_19 rfl hl (Nat.le_of_ble_eq_true rfl) rfl (fun ls hl => ?_)
  refine lv_aload_n hx hb dX0_wetOf_20 rfl (lv_at hl 2 rfl) ?_
  refine cj_gr (v := .ref (gA G 1 0)) C hJ 0 0 1 (ad_s rfl) (Nat.le_of_ble_eq_true rfl) (Nat.le_of_ble_eq_true rfl) rfl rfl (fl_X0_22_0 C) (fun _ _ => rfl) dX0_wetOf_21 ?_
  refine cj_gr (v := .ref (gA G 9 0)) C hJ 1 0 5 (ad_s rfl) (Nat.le_of_ble_eq_true rfl) (Nat.le_of_ble_eq_true rfl) rfl rfl (fl_X0_59_1 C) (fun _ _ => rfl) dX0_wetOf_24 ?_
  refine lv_iload_n hx hb dX0_wetOf_27 rfl (lv_at hl 3 rfl) ?_
  refine lv_iconst hx hb dX0_wetOf_28 kc_0 ?_
  obtain ⟨σ3, hσ3, h⟩ := ob h
  refine cj_is C hJ 9 0 (ad_s rfl) rfl rfl rfl hσ3 dX0_wetOf_29 (fun H locs hJ => ?_)
  obtain ⟨q5, hq5, h⟩ := ob h
  have hxq5 : ∀ (u26 : Bool) (D27 : Nat → Nat → Nat) (H : Heap) (locs : List Loc) (ce sl : Nat) (ls : Array Slot), CJ G s (RM 22 0 true true G) 0 true true true u26 D27 q5.2 H locs ce sl → lv_has ls 6 [(0, .ref (gA G 0 0)), (1, .int v1), (2, .int x2), (3, .int q5.1)] → W p l e (RM 22 0 true true G) s m args below meth c H locs ce sl Q (F0 m 127 ls []) := by
    intro u26 D27 H locs ce sl ls hJ hl
    refine lv_aload_n hx hb dX0_wetOf_127 rfl (lv_at hl 0 rfl) ?_
    refine cj_gr (v := .ref (gA G 1 0)) C hJ 0 0 1 (ad_s rfl) (Nat.le_of_ble_eq_true rfl) (Nat.le_of_ble_eq_true rfl) rfl rfl (fl_X0_22_0 C) (fun _ _ => rfl) dX0_wetOf_128 ?_
    refine cj_gr (v := .ref (gA G 9 0)) C hJ 1 0 5 (ad_s rfl) (Nat.le_of_ble_eq_true rfl) (Nat.le_of_ble_eq_true rfl) rfl rfl (fl_X0_59_1 C) (fun _ _ => rfl) dX0_wetOf_131 ?_
    refine lv_iload_n hx hb dX0_wetOf_134 rfl (lv_at hl 1 rfl) ?_
    refine lv_iload_n hx hb dX0_wetOf_135 rfl (lv_at hl 2 rfl) ?_
    obtain ⟨σ28, hσ28, h⟩ := ob h
    refine cj_is C hJ 9 0 (ad_s rfl) rfl rfl rfl hσ28 dX0_wetOf_136 (fun H locs hJ => ?_)
    refine lv_goto (tgt := 155) hx hb dX0_wetOf_137 (by decide) ?_
    refine lv_iload_n hx hb dX0_wetOf_155 rfl (lv_at hl 3 rfl) ?_
    have h := Option.some.inj h
    subst h
    exact hE _ _ _ _ _ _ _ _ _ _ _ _ (some (.int (q5.1))) hJ (fun h => by cases h) (fun h => by cases h) ⟨_, rfl⟩ rfl dX0_wetOf_156
  refine lp_ind (P := fun (w4 : Int32 × CM) => ∀ (u6 : Bool) (D7 : Nat → Nat → Nat) (H : Heap) (locs : List Loc) (ce sl : Nat) (ls : Array Slot), CJ G s (RM 22 0 true true G) 0 true true true u6 D7 w4.2 H locs ce sl → lv_has ls 6 [(0, .ref (gA G 0 0)), (1, .int v1), (2, .int x2), (3, .int w4.1)] → W p l e (RM 22 0 true true G) s m args below meth c H locs ce sl Q (F0 m 30 ls [])) ?_ _ _ hq5 _ _ _ _ _ _ _ hJ (lv_sub hl [2, 3, 1, 0] rfl)
  intro nw4 w4 ihw4 zw4 hzw4 hqw4 u6 D7 H locs ce sl ls hJ hl
  refine lv_aload_n hx hb dX0_wetOf_30 rfl (lv_at hl 0 rfl) ?_
  refine cj_gr (v := .ref (gA G 1 0)) C hJ 0 0 1 (ad_s rfl) (Nat.le_of_ble_eq_true rfl) (Nat.le_of_ble_eq_true rfl) rfl rfl (fl_X0_22_0 C) (fun _ _ => rfl) dX0_wetOf_31 ?_
  refine cj_gr (v := .ref (gA G 9 0)) C hJ 1 0 5 (ad_s rfl) (Nat.le_of_ble_eq_true rfl) (Nat.le_of_ble_eq_true rfl) rfl rfl (fl_X0_59_1 C) (fun _ _ => rfl) dX0_wetOf_34 ?_
  refine lv_iload_n hx hb dX0_wetOf_37 rfl (lv_at hl 1 rfl) ?_
  obtain ⟨x8, hx8, hzw4⟩ := ob hzw4
  refine cj_il C hJ 9 0 (ad_s rfl) rfl rfl rfl hx8 dX0_wetOf_38 ?_
  refine lv_bipush hx hb dX0_wetOf_39 kb_9 ?_
  refine lv_icmp_gt (tgt := 127) hx hb dX0_wetOf_41 (by decide) (fun hc9 => ?_) (fun hc9 => ?_)
  · have hzw4 := ip hzw4 hc9
    have hzw4 := Option.some.inj hzw4
    subst hzw4
    have hqw4 : _ = q5 := hqw4
    subst hqw4
    exact hxq5 _ _ _ _ _ _ _ hJ (lv_sub hl [0, 1, 2, 3] rfl)
  · have hzw4 := im hzw4 hc9
    refine lv_iload_n hx hb dX0_wetOf_44 rfl (lv_at hl 3 rfl) ?_
    refine lv_aload_n hx hb dX0_wetOf_45 rfl (lv_at hl 0 rfl) ?_
    obtain ⟨c10, hc10, hzw4⟩ := ob hzw4
    refine cc_V (As := []) (rest := [.int w4.1]) C hJ (metC_isSeen l w4.2 c10 hc10) rfl rfl (show 0 + 0 ≤ 0 from Nat.le_of_ble_eq_true rfl) (cost_ok true true true true _ _ (fun _ => Or.inr rfl) (fun _ => Or.inl rfl)) (fun h => by cases h) (fun h => by cases h) (cj_recv C hJ 0 0 (ad_s rfl) (Nat.le_of_ble_eq_true rfl) rfl rfl) (cwV 0 hts (lw_V q1017 q1019 qs36 q109 q1020) rfl rfl rfl hdC_isSeen ⟨(Nat.le_of_ble_eq_true rfl), (Nat.le_of_ble_eq_true rfl)⟩) rfl hl.1 rfl (lv_room (Nat.le_of_ble_eq_true rfl)) dX0_wetOf_46 (fun D11 H locs _ hJ => ?_)
    obtain ⟨q15, hq15, hzw4⟩ := ob hzw4
    have hjq15 : ∀ (H : Heap) (locs : List Loc) (ce sl : Nat) (ls : Array Slot), CJ G s (RM 22 0 true true G) 0 true true true true D11 c10.2 H locs ce sl → lv_has ls 6 [(0, .ref (gA G 0 0)), (1, .int v1), (2, .int x2)] → W p l e (RM 22 0 true true G) s m args below meth c H locs ce sl Q (F0 m 67 ls [.int q15, .int w4.1]) := by
      intro H locs ce sl ls hJ hl
      refine lv_ior hx hb dX0_wetOf_67 ?_
      refine lv_istore_n (lv' := [(3, .int (w4.1 ||| q15)), (0, .ref (gA G 0 0)), (1, .int v1), (2, .int x2)]) hx hb dX0_wetOf_68 rfl hl (Nat.le_of_ble_eq_true rfl) rfl (fun ls hl => ?_)
      refine lv_iconst hx hb dX0_wetOf_69 kc_0 ?_
      refine lv_istore (lv' := [(4, .int (0 : Int32)), (3, .int (w4.1 ||| q15)), (0, .ref (gA G 0 0)), (1, .int v1), (2, .int x2)]) hx hb dX0_wetOf_70 hl (Nat.le_of_ble_eq_true rfl) rfl (fun ls hl => ?_)
      obtain ⟨q17, hq17, hzw4⟩ := ob hzw4
      have hxq17 : ∀ (H : Heap) (locs : List Loc) (ce sl : Nat) (ls : Array Slot), CJ G s (RM 22 0 true true G) 0 true true true true D11 q17 H locs ce sl → lv_has ls 6 [(0, .ref (gA G 0 0)), (1, .int v1), (2, .int x2), (3, .int (w4.1 ||| q15))] → W p l e (RM 22 0 true true G) s m args below meth c H locs ce sl Q (F0 m 111 ls []) := by
        intro H locs ce sl ls hJ hl
        refine lv_aload_n hx hb dX0_wetOf_111 rfl (lv_at hl 0 rfl) ?_
        refine cj_gr (v := .ref (gA G 1 0)) C hJ 0 0 1 (ad_s rfl) (Nat.le_of_ble_eq_true rfl) (Nat.le_of_ble_eq_true rfl) rfl rfl (fl_X0_22_0 C) (fun _ _ => rfl) dX0_wetOf_112 ?_
        refine cj_gr (v := .ref (gA G 9 0)) C hJ 1 0 5 (ad_s rfl) (Nat.le_of_ble_eq_true rfl) (Nat.le_of_ble_eq_true rfl) rfl rfl (fl_X0_59_1 C) (fun _ _ => rfl) dX0_wetOf_115 ?_
        refine lv_iload_n hx hb dX0_wetOf_118 rfl (lv_at hl 1 rfl) ?_
        refine lv_dup2_11 hx hb dX0_wetOf_119 rfl rfl ?_
        obtain ⟨x24, hx24, hzw4⟩ := ob hzw4
        refine cj_il C hJ 9 0 (ad_s rfl) rfl rfl rfl hx24 dX0_wetOf_120 ?_
        refine lv_iconst hx hb dX0_wetOf_121 kc_1 ?_
        refine lv_iadd hx hb dX0_wetOf_122 ?_
        obtain ⟨σ25, hσ25, hzw4⟩ := ob hzw4
        refine cj_is C hJ 9 0 (ad_s rfl) rfl rfl rfl hσ25 dX0_wetOf_123 (fun H locs hJ => ?_)
        refine lv_goto (tgt := 30) hx hb dX0_wetOf_124 (by decide) ?_
        have hzw4 := Option.some.inj hzw4
        subst hzw4
        exact ihw4 _ hqw4 _ _ _ _ _ _ _ hJ (lv_sub hl [0, 1, 2, 3] rfl)
      refine lp_ind (P := fun (w16 : Int32 × CM) => ∀ (H : Heap) (locs : List Loc) (ce sl : Nat) (ls : Array Slot), CJ G s (RM 22 0 true true G) 0 true true true true D11 w16.2 H locs ce sl → lv_has ls 6 [(0, .ref (gA G 0 0)), (1, .int v1), (2, .int x2), (3, .int (w4.1 ||| q15)), (4, .int w16.1)] → W p l e (RM 22 0 true true G) s m args below meth c H locs ce sl Q (F0 m 72 ls [])) ?_ _ _ hq17 _ _ _ _ _ hJ (lv_sub hl [2, 3, 4, 1, 0] rfl)
      intro nw16 w16 ihw16 zw16 hzw16 hqw16 H locs ce sl ls hJ hl
      refine lv_iload hx hb dX0_wetOf_72 (lv_at hl 4 rfl) ?_
      refine lv_bipush hx hb dX0_wetOf_74 kb_20 ?_
      refine lv_icmp_ge (tgt := 111) hx hb dX0_wetOf_76 (by decide) (fun hc18 => ?_) (fun hc18 => ?_)
      · have hzw16 := ip hzw16 hc18
        have hzw16 := Option.some.inj hzw16
        subst hzw16
        have hqw16 : _ = q17 := hqw16
        subst hqw16
        exact hxq17 _ _ _ _ _ hJ (lv_sub hl [0, 1, 2, 3] rfl)
      · have hzw16 := im hzw16 hc18
        refine lv_aload_n hx hb dX0_wetOf_79 rfl (lv_at hl 0 rfl) ?_
        refine cj_gr (v := .ref (gA G 14 0)) C hJ 0 0 13 (ad_s rfl) (Nat.le_of_ble_eq_true rfl) (Nat.le_of_ble_eq_true rfl) rfl rfl (fl_X0_182_0 C) (fun _ _ => rfl) dX0_wetOf_80 ?_
        refine lv_aload_n hx hb dX0_wetOf_83 rfl (lv_at hl 0 rfl) ?_
        refine cj_gr (v := .ref (gA G 1 0)) C hJ 0 0 1 (ad_s rfl) (Nat.le_of_ble_eq_true rfl) (Nat.le_of_ble_eq_true rfl) rfl rfl (fl_X0_22_0 C) (fun _ _ => rfl) dX0_wetOf_84 ?_
        refine cj_gr (v := .ref (gA G 9 0)) C hJ 1 0 5 (ad_s rfl) (Nat.le_of_ble_eq_true rfl) (Nat.le_of_ble_eq_true rfl) rfl rfl (fl_X0_59_1 C) (fun _ _ => rfl) dX0_wetOf_87 ?_
        refine lv_iload_n hx hb dX0_wetOf_90 rfl (lv_at hl 1 rfl) ?_
        obtain ⟨x19, hx19, hzw16⟩ := ob hzw16
        refine cj_il C hJ 9 0 (ad_s rfl) rfl rfl rfl hx19 dX0_wetOf_91 ?_
        obtain ⟨n20, hn20, hzw16⟩ := ob hzw16
        refine cj_al (v := .ref (gA G 13 n20)) C hJ 14 0 (ad_s rfl) rfl rfl hn20 rfl dX0_wetOf_92 ?_
        refine lv_iload hx hb dX0_wetOf_93 (lv_at hl 4 rfl) ?_
        refine lv_aload_n hx hb dX0_wetOf_95 rfl (lv_at hl 0 rfl) ?_
        refine cj_gr (v := .ref (gA G 12 0)) C hJ 0 0 7 (ad_s rfl) (Nat.le_of_ble_eq_true rfl) (Nat.le_of_ble_eq_true rfl) rfl rfl (fl_X0_173_0 C) (fun _ _ => rfl) dX0_wetOf_96 ?_
        refine lv_iload hx hb dX0_wetOf_99 (lv_at hl 4 rfl) ?_
        obtain ⟨n21, hn21, hzw16⟩ := ob hzw16
        refine cj_al (v := .ref (gA G 11 n21)) C hJ 12 0 (ad_s rfl) rfl rfl hn21 rfl dX0_wetOf_101 ?_
        refine lv_iload_n hx hb dX0_wetOf_102 rfl (lv_at hl 1 rfl) ?_
        obtain ⟨x22, hx22, hzw16⟩ := ob hzw16
        refine cj_il C hJ 11 n21 (ad_s rfl) rfl rfl rfl hx22 dX0_wetOf_103 ?_
        obtain ⟨σ23, hσ23, hzw16⟩ := ob hzw16
        refine cj_is C hJ 13 n20 (ad_s rfl) rfl rfl rfl hσ23 dX0_wetOf_104 (fun H locs hJ => ?_)
        refine lv_iinc (v := (w16.1 + 1)) (lv' := [(4, .int (w16.1 + 1)), (0, .ref (gA G 0 0)), (1, .int v1), (2, .int x2), (3, .int (w4.1 ||| q15))]) hx hb dX0_wetOf_105 hl (k := 4) rfl rfl (Nat.le_of_ble_eq_true rfl) rfl (fun ls hl => ?_)
        refine lv_goto (tgt := 72) hx hb dX0_wetOf_108 (by decide) ?_
        have hzw16 := Option.some.inj hzw16
        subst hzw16
        exact ihw16 _ hqw16 _ _ _ _ _ hJ (lv_sub hl [1, 2, 3, 4, 0] rfl)
    refine lv_if_eq (tgt := 66) hx hb dX0_wetOf_49 (by decide) (fun hc13 => ?_) (fun hc13 => ?_)
    · have hq15 := ip hq15 hc13
      refine lv_iconst hx hb dX0_wetOf_66 kc_0 ?_
      have hq15 := Option.some.inj hq15
      subst hq15
      exact hjq15 _ _ _ _ _ hJ (lv_sub hl [0, 1, 2] rfl)
    · have hq15 := im hq15 hc13
      refine lv_iconst hx hb dX0_wetOf_52 kc_1 ?_
      refine lv_aload_n hx hb dX0_wetOf_53 rfl (lv_at hl 0 rfl) ?_
      refine cj_gr (v := .ref (gA G 1 0)) C hJ 0 0 1 (ad_s rfl) (Nat.le_of_ble_eq_true rfl) (Nat.le_of_ble_eq_true rfl) rfl rfl (fl_X0_22_0 C) (fun _ _ => rfl) dX0_wetOf_54 ?_
      refine cj_gr (v := .ref (gA G 9 0)) C hJ 1 0 5 (ad_s rfl) (Nat.le_of_ble_eq_true rfl) (Nat.le_of_ble_eq_true rfl) rfl rfl (fl_X0_59_1 C) (fun _ _ => rfl) dX0_wetOf_57 ?_
      refine lv_iload_n hx hb dX0_wetOf_60 rfl (lv_at hl 1 rfl) ?_
      obtain ⟨x14, hx14, hq15⟩ := ob hq15
      refine cj_il C hJ 9 0 (ad_s rfl) rfl rfl rfl hx14 dX0_wetOf_61 ?_
      refine lv_ishl hx hb dX0_wetOf_62 ?_
      refine lv_goto (tgt := 67) hx hb dX0_wetOf_63 (by decide) ?_
      have hq15 := Option.some.inj hq15
      subst hq15
      exact hjq15 _ _ _ _ _ hJ (lv_sub hl [0, 1, 2] rfl)
def C_wet (σ : CM) (v1 : Int32) : Option (Int32 × CM) :=
  (C_isPlace σ v1).bind fun c1 =>
  if c1 = 0 then
    some ((-2 : Int32), σ)
  else
    (C_wetOf σ v1).bind fun c4 =>
    some (c4.1, c4.2)
theorem hdC_wet : yX0_wet.cls = RX0 ∧ yX0_wet.cls ≠ "java/lang/invoke/MethodHandle" ∧ yX0_wet.cls ≠ "java/lang/invoke/VarHandle" ∧ (parseMethodDescriptor yX0_wet.desc).map (fun d => d.parameters.length) = some 1 := by decide +kernel
set_option maxHeartbeats 4000000 in
theorem metC_wet (l : Launch) (σ : CM) (v1 : Int32) (res : Int32 × CM) (h : C_wet σ v1 = some res) : MetC l yX0_wet (ws_ yX0_wet cX0_wet 2 (some .int)) 23 0 true true false false false false (fun G => [.ref (gA G 0 0), .int v1]) σ (fun _ => (some (.int res.1))) res.2 := by
  refine met_wC (own := RX0) (by decide +kernel) rfl (by simp [cRt]) (fun _ => Nat.le_of_ble_eq_true rfl) (fun G p e s m args below meth c Q hr1 hr2 C hE ls hl hJ => ?_)
  have hx := C.1.1
  have hb := C.1.2.1
  have hown := C.1.2.2.2.1
  have hts := C.1.2.2.2.2
  have hl : lv_has ls 2 [(0, .ref (gA G 0 0)), (1, .int v1)] := hl
  unfold C_wet at h
  refine lv_iload_n hx hb dX0_wet_0 rfl (lv_at hl 1 rfl) ?_
  obtain ⟨c1, hc1, h⟩ := ob h
  refine cc_S (As := [.int v1]) (rest := []) C hJ (metC_isPlace l σ v1 c1 hc1) rfl rfl (show 0 + 0 ≤ 0 from Nat.le_of_ble_eq_true rfl) (cost_ok false false true true _ _ (fun h => by cases h) (fun h => by cases h)) (fun h => by cases h) (fun h => by cases h) (va_cwS 1 hts (lw_S q501 q502 q109 q503) rfl rfl rfl hdC_isPlace ⟨(Nat.le_of_ble_eq_true rfl), (Nat.le_of_ble_eq_true rfl)⟩) rfl hl.1 rfl (lv_room (Nat.le_of_ble_eq_true rfl)) dX0_wet_1 (fun D2 H locs _ hJ => ?_)
  refine lv_if_eq (tgt := 15) hx hb dX0_wet_4 (by decide) (fun hc3 => ?_) (fun hc3 => ?_)
  · have h := ip h hc3
    refine lv_bipush hx hb dX0_wet_15 kb_m2 ?_
    have h := Option.some.inj h
    subst h
    exact hE _ _ _ _ _ _ _ _ _ _ _ _ (some (.int ((-2 : Int32)))) hJ (fun h => by cases h) (fun h => by cases h) ⟨_, rfl⟩ rfl dX0_wet_17
  · have h := im h hc3
    refine lv_aload_n hx hb dX0_wet_7 rfl (lv_at hl 0 rfl) ?_
    refine lv_iload_n hx hb dX0_wet_8 rfl (lv_at hl 1 rfl) ?_
    obtain ⟨c4, hc4, h⟩ := ob h
    refine cc_VW (As := [.int v1]) (rest := []) C hJ (metC_wetOf l σ v1 c4 hc4) rfl rfl (show 0 + 0 ≤ 0 from Nat.le_of_ble_eq_true rfl) (cost_in true true true true _ _ (fun _ => Or.inl rfl) (fun _ => Or.inl rfl)) (fun h => by cases h) (fun h => by cases h) (cj_recv C hJ 0 0 (ad_s rfl) (Nat.le_of_ble_eq_true rfl) rfl rfl) (lw_VW q1034 q1036 qs38 q109 q1037) rfl hdC_wetOf ⟨(Nat.le_of_ble_eq_true rfl), (Nat.le_of_ble_eq_true rfl)⟩ rfl hl.1 rfl (lv_room (Nat.le_of_ble_eq_true rfl)) dX0_wet_9 (fun D5 H locs _ hJ => ?_)
    refine lv_goto (tgt := 17) hx hb dX0_wet_12 (by decide) ?_
    have h := Option.some.inj h
    subst h
    exact hE _ _ _ _ _ _ _ _ _ _ _ _ (some (.int (c4.1))) hJ (fun h => by cases h) (fun h => by cases h) ⟨_, rfl⟩ rfl dX0_wet_17
