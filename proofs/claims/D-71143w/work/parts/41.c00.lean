/-! the component, walked (printed by tool/gen_c.py) -/
set_option maxRecDepth 100000
def C_J8_max (σ : CM) (v0 : Int32) (v1 : Int32) : Option (Int32) :=
  if v0 < v1 then
    some v1
  else
    some v0
theorem hdC_J8_max : yJ8_max.cls ≠ "java/lang/invoke/MethodHandle" ∧ yJ8_max.cls ≠ "java/lang/invoke/VarHandle" ∧ (parseMethodDescriptor yJ8_max.desc).map (fun d => d.parameters.length) = some 2 := by decide +kernel
set_option maxHeartbeats 4000000 in
theorem metC_J8_max (l : Launch) (σ : CM) (v0 : Int32) (v1 : Int32) (res : Int32) (h : C_J8_max σ v0 v1 = some res) : MetC l yJ8_max (ws_ yJ8_max cJ8_max 2 (some .int)) 1 0 false false false false false false (fun G => [.int v0, .int v1]) σ (fun _ => (some (.int res))) σ := by
  refine met_wC (own := RJ8) (by decide +kernel) rfl (by simp [cRt]) (fun _ => Nat.le_of_ble_eq_true rfl) (fun G p e s m args below meth c Q hr1 hr2 C hE ls hl hJ => ?_)
  have hx := C.1.1
  have hb := C.1.2.1
  have hown := C.1.2.2.2.1
  have hts := C.1.2.2.2.2
  have hl : lv_has ls 2 [(0, .int v0), (1, .int v1)] := hl
  unfold C_J8_max at h
  refine lv_iload_n hx hb dJ8_max_0 rfl (lv_at hl 0 rfl) ?_
  refine lv_iload_n hx hb dJ8_max_1 rfl (lv_at hl 1 rfl) ?_
  refine lv_icmp_lt (tgt := 9) hx hb dJ8_max_2 (by decide) (fun hc1 => ?_) (fun hc1 => ?_)
  · have h := ip h hc1
    refine lv_iload_n hx hb dJ8_max_9 rfl (lv_at hl 1 rfl) ?_
    have h := Option.some.inj h
    subst h
    exact hE _ _ _ _ _ _ _ _ _ _ _ _ (some (.int (v1))) hJ (fun h => by cases h) (fun h => by cases h) ⟨_, rfl⟩ rfl dJ8_max_10
  · have h := im h hc1
    refine lv_iload_n hx hb dJ8_max_5 rfl (lv_at hl 0 rfl) ?_
    refine lv_goto (tgt := 10) hx hb dJ8_max_6 (by decide) ?_
    have h := Option.some.inj h
    subst h
    exact hE _ _ _ _ _ _ _ _ _ _ _ _ (some (.int (v0))) hJ (fun h => by cases h) (fun h => by cases h) ⟨_, rfl⟩ rfl dJ8_max_10
def C_J8_min (σ : CM) (v0 : Int32) (v1 : Int32) : Option (Int32) :=
  if v1 < v0 then
    some v1
  else
    some v0
theorem hdC_J8_min : yJ8_min.cls ≠ "java/lang/invoke/MethodHandle" ∧ yJ8_min.cls ≠ "java/lang/invoke/VarHandle" ∧ (parseMethodDescriptor yJ8_min.desc).map (fun d => d.parameters.length) = some 2 := by decide +kernel
set_option maxHeartbeats 4000000 in
theorem metC_J8_min (l : Launch) (σ : CM) (v0 : Int32) (v1 : Int32) (res : Int32) (h : C_J8_min σ v0 v1 = some res) : MetC l yJ8_min (ws_ yJ8_min cJ8_min 2 (some .int)) 1 0 false false false false false false (fun G => [.int v0, .int v1]) σ (fun _ => (some (.int res))) σ := by
  refine met_wC (own := RJ8) (by decide +kernel) rfl (by simp [cRt]) (fun _ => Nat.le_of_ble_eq_true rfl) (fun G p e s m args below meth c Q hr1 hr2 C hE ls hl hJ => ?_)
  have hx := C.1.1
  have hb := C.1.2.1
  have hown := C.1.2.2.2.1
  have hts := C.1.2.2.2.2
  have hl : lv_has ls 2 [(0, .int v0), (1, .int v1)] := hl
  unfold C_J8_min at h
  refine lv_iload_n hx hb dJ8_min_0 rfl (lv_at hl 0 rfl) ?_
  refine lv_iload_n hx hb dJ8_min_1 rfl (lv_at hl 1 rfl) ?_
  refine lv_icmp_gt (tgt := 9) hx hb dJ8_min_2 (by decide) (fun hc1 => ?_) (fun hc1 => ?_)
  · have h := ip h hc1
    refine lv_iload_n hx hb dJ8_min_9 rfl (lv_at hl 1 rfl) ?_
    have h := Option.some.inj h
    subst h
    exact hE _ _ _ _ _ _ _ _ _ _ _ _ (some (.int (v1))) hJ (fun h => by cases h) (fun h => by cases h) ⟨_, rfl⟩ rfl dJ8_min_10
  · have h := im h hc1
    refine lv_iload_n hx hb dJ8_min_5 rfl (lv_at hl 0 rfl) ?_
    refine lv_goto (tgt := 10) hx hb dJ8_min_6 (by decide) ?_
    have h := Option.some.inj h
    subst h
    exact hE _ _ _ _ _ _ _ _ _ _ _ _ (some (.int (v0))) hJ (fun h => by cases h) (fun h => by cases h) ⟨_, rfl⟩ rfl dJ8_min_10
def C_in (σ : CM) (v0 : Int64) (v2 : Int64) (v4 : Int64) : Option (Int32) :=
  if (lg_cmp v0 v2) < 0 then
    some (0 : Int32)
  else
    if (0 : Int32) < (lg_cmp v0 v4) then
      some (0 : Int32)
    else
      some (1 : Int32)
theorem hdC_in : yX0_in.cls ≠ "java/lang/invoke/MethodHandle" ∧ yX0_in.cls ≠ "java/lang/invoke/VarHandle" ∧ (parseMethodDescriptor yX0_in.desc).map (fun d => d.parameters.length) = some 3 := by decide +kernel
set_option maxHeartbeats 4000000 in
theorem metC_in (l : Launch) (σ : CM) (v0 : Int64) (v2 : Int64) (v4 : Int64) (res : Int32) (h : C_in σ v0 v2 v4 = some res) : MetC l yX0_in (ws_ yX0_in cX0_in 6 (some .boolean)) 1 0 false false false false false false (fun G => [.long v0, .long v2, .long v4]) σ (fun _ => (some (.int res))) σ := by
  refine met_wC (own := RX0) (by decide +kernel) rfl (by simp [cRt]) (fun _ => Nat.le_of_ble_eq_true rfl) (fun G p e s m args below meth c Q hr1 hr2 C hE ls hl hJ => ?_)
  have hx := C.1.1
  have hb := C.1.2.1
  have hown := C.1.2.2.2.1
  have hts := C.1.2.2.2.2
  have hl : lv_has ls 6 [(0, .long v0), (2, .long v2), (4, .long v4)] := hl
  unfold C_in at h
  refine lv_lload_n hx hb dX0_in_0 rfl (lv_at hl 0 rfl) ?_
  refine lv_lload_n hx hb dX0_in_1 rfl (lv_at hl 1 rfl) ?_
  refine W.lcmp hx hb dX0_in_2 ?_
  refine lv_if_lt (tgt := 17) hx hb dX0_in_3 (by decide) (fun hc1 => ?_) (fun hc1 => ?_)
  · have h := ip h hc1
    refine lv_iconst hx hb dX0_in_17 kc_0 ?_
    have h := Option.some.inj h
    subst h
    exact hE _ _ _ _ _ _ _ _ _ _ _ _ (some (.int (0 : Int32))) hJ (fun h => by cases h) (fun h => by cases h) ⟨_, rfl⟩ mz0 dX0_in_18
  · have h := im h hc1
    refine lv_lload_n hx hb dX0_in_6 rfl (lv_at hl 0 rfl) ?_
    refine lv_lload hx hb dX0_in_7 (lv_at hl 2 rfl) ?_
    refine W.lcmp hx hb dX0_in_9 ?_
    refine lv_if_gt (tgt := 17) hx hb dX0_in_10 (by decide) (fun hc2 => ?_) (fun hc2 => ?_)
    · have h := ip h hc2
      refine lv_iconst hx hb dX0_in_17 kc_0 ?_
      have h := Option.some.inj h
      subst h
      exact hE _ _ _ _ _ _ _ _ _ _ _ _ (some (.int (0 : Int32))) hJ (fun h => by cases h) (fun h => by cases h) ⟨_, rfl⟩ mz0 dX0_in_18
    · have h := im h hc2
      refine lv_iconst hx hb dX0_in_13 kc_1 ?_
      refine lv_goto (tgt := 18) hx hb dX0_in_14 (by decide) ?_
      have h := Option.some.inj h
      subst h
      exact hE _ _ _ _ _ _ _ _ _ _ _ _ (some (.int (1 : Int32))) hJ (fun h => by cases h) (fun h => by cases h) ⟨_, rfl⟩ mz1 dX0_in_18
def C_no (σ : CM) (v0 : Int32) : Option (Int64) :=
  some ((-9223372036854775808 : Int64) - v0.toInt64)
theorem hdC_no : yX0_no.cls ≠ "java/lang/invoke/MethodHandle" ∧ yX0_no.cls ≠ "java/lang/invoke/VarHandle" ∧ (parseMethodDescriptor yX0_no.desc).map (fun d => d.parameters.length) = some 1 := by decide +kernel
set_option maxHeartbeats 4000000 in
theorem metC_no (l : Launch) (σ : CM) (v0 : Int32) (res : Int64) (h : C_no σ v0 = some res) : MetC l yX0_no (ws_ yX0_no cX0_no 1 (some .long)) 1 0 false false false false false false (fun G => [.int v0]) σ (fun _ => (some (.long res))) σ := by
  refine met_wC (own := RX0) (by decide +kernel) rfl (by simp [cRt]) (fun _ => Nat.le_of_ble_eq_true rfl) (fun G p e s m args below meth c Q hr1 hr2 C hE ls hl hJ => ?_)
  have hx := C.1.1
  have hb := C.1.2.1
  have hown := C.1.2.2.2.1
  have hts := C.1.2.2.2.2
  have hl : lv_has ls 1 [(0, .int v0)] := hl
  unfold C_no at h
  refine lv_ldc2 (v := (-9223372036854775808 : Int64)) hx hb hown (hts _ q1068) dX0_no_0 ?_
  refine lv_iload_n hx hb dX0_no_3 rfl (lv_at hl 0 rfl) ?_
  refine lv_i2l (v := v0.toInt64) hx hb dX0_no_4 rfl ?_
  refine lv_lsub hx hb dX0_no_5 ?_
  have h := Option.some.inj h
  subst h
  exact hE _ _ _ _ _ _ _ _ _ _ _ _ (some (.long (((-9223372036854775808 : Int64) - v0.toInt64)))) hJ (fun h => by cases h) (fun h => by cases h) ⟨_, rfl⟩ rfl dX0_no_6
def C_met (σ : CM) (v1 : Int32) : Option (Int32 × CM) :=
  (some (cput σ 0 0 0 v1)).bind fun σ1 =>
  some (((-10 : Int32) - v1), σ1)
theorem hdC_met : yX0_met.cls = RX0 ∧ yX0_met.cls ≠ "java/lang/invoke/MethodHandle" ∧ yX0_met.cls ≠ "java/lang/invoke/VarHandle" ∧ (parseMethodDescriptor yX0_met.desc).map (fun d => d.parameters.length) = some 1 := by decide +kernel
set_option maxHeartbeats 4000000 in
theorem metC_met (l : Launch) (σ : CM) (v1 : Int32) (res : Int32 × CM) (h : C_met σ v1 = some res) : MetC l yX0_met (ws_ yX0_met cX0_met 2 (some .int)) 1 0 false false false false false false (fun G => [.ref (gA G 0 0), .int v1]) σ (fun _ => (some (.int res.1))) res.2 := by
  refine met_wC (own := RX0) (by decide +kernel) rfl (by simp [cRt]) (fun _ => Nat.le_of_ble_eq_true rfl) (fun G p e s m args below meth c Q hr1 hr2 C hE ls hl hJ => ?_)
  have hx := C.1.1
  have hb := C.1.2.1
  have hown := C.1.2.2.2.1
  have hts := C.1.2.2.2.2
  have hl : lv_has ls 2 [(0, .ref (gA G 0 0)), (1, .int v1)] := hl
  unfold C_met at h
  refine lv_aload_n hx hb dX0_met_0 rfl (lv_at hl 0 rfl) ?_
  refine lv_iload_n hx hb dX0_met_1 rfl (lv_at hl 1 rfl) ?_
  obtain ⟨σ1, hσ1, h⟩ := ob h
  refine cj_p0 C hJ 0 0 0 (ad_s rfl) (Nat.le_of_ble_eq_true rfl) (Nat.le_of_ble_eq_true rfl) rfl rfl rfl rfl rfl rfl rfl (fl_X0_9_0 C) hσ1 dX0_met_2 (fun H locs hJ => ?_)
  refine lv_bipush hx hb dX0_met_5 kb_m10 ?_
  refine lv_iload_n hx hb dX0_met_7 rfl (lv_at hl 1 rfl) ?_
  refine lv_isub hx hb dX0_met_8 ?_
  have h := Option.some.inj h
  subst h
  exact hE _ _ _ _ _ _ _ _ _ _ _ _ (some (.int (((-10 : Int32) - v1)))) hJ (fun h => by cases h) (fun h => by cases h) ⟨_, rfl⟩ rfl dX0_met_9
def C_lowest (σ : CM) (v1 : Int32) : Option (Int32 × CM) :=
  (some (cput σ 0 0 0 v1)).bind fun σ1 =>
  some ((-2147483648 : Int32), σ1)
theorem hdC_lowest : yX0_lowest.cls = RX0 ∧ yX0_lowest.cls ≠ "java/lang/invoke/MethodHandle" ∧ yX0_lowest.cls ≠ "java/lang/invoke/VarHandle" ∧ (parseMethodDescriptor yX0_lowest.desc).map (fun d => d.parameters.length) = some 1 := by decide +kernel
set_option maxHeartbeats 4000000 in
theorem metC_lowest (l : Launch) (σ : CM) (v1 : Int32) (res : Int32 × CM) (h : C_lowest σ v1 = some res) : MetC l yX0_lowest (ws_ yX0_lowest cX0_lowest 2 (some .int)) 1 0 false false false false false false (fun G => [.ref (gA G 0 0), .int v1]) σ (fun _ => (some (.int res.1))) res.2 := by
  refine met_wC (own := RX0) (by decide +kernel) rfl (by simp [cRt]) (fun _ => Nat.le_of_ble_eq_true rfl) (fun G p e s m args below meth c Q hr1 hr2 C hE ls hl hJ => ?_)
  have hx := C.1.1
  have hb := C.1.2.1
  have hown := C.1.2.2.2.1
  have hts := C.1.2.2.2.2
  have hl : lv_has ls 2 [(0, .ref (gA G 0 0)), (1, .int v1)] := hl
  unfold C_lowest at h
  refine lv_aload_n hx hb dX0_lowest_0 rfl (lv_at hl 0 rfl) ?_
  refine lv_iload_n hx hb dX0_lowest_1 rfl (lv_at hl 1 rfl) ?_
  obtain ⟨σ1, hσ1, h⟩ := ob h
  refine cj_p0 C hJ 0 0 0 (ad_s rfl) (Nat.le_of_ble_eq_true rfl) (Nat.le_of_ble_eq_true rfl) rfl rfl rfl rfl rfl rfl rfl (fl_X0_9_0 C) hσ1 dX0_lowest_2 (fun H locs hJ => ?_)
  refine lv_ldc (v := (-2147483648 : Int32)) hx hb hown (hts _ q1173) dX0_lowest_5 ?_
  have h := Option.some.inj h
  subst h
  exact hE _ _ _ _ _ _ _ _ _ _ _ _ (some (.int ((-2147483648 : Int32)))) hJ (fun h => by cases h) (fun h => by cases h) ⟨_, rfl⟩ rfl dX0_lowest_7
def C_isTwo (σ : CM) (v0 : Int32) : Option (Int32) :=
  (C_in σ v0.toInt64 (0 : Int64) (1 : Int64)).bind fun c1 =>
  some (bz c1)
theorem hdC_isTwo : yX0_isTwo.cls ≠ "java/lang/invoke/MethodHandle" ∧ yX0_isTwo.cls ≠ "java/lang/invoke/VarHandle" ∧ (parseMethodDescriptor yX0_isTwo.desc).map (fun d => d.parameters.length) = some 1 := by decide +kernel
set_option maxHeartbeats 4000000 in
theorem metC_isTwo (l : Launch) (σ : CM) (v0 : Int32) (res : Int32) (h : C_isTwo σ v0 = some res) : MetC l yX0_isTwo (ws_ yX0_isTwo cX0_isTwo 1 (some .boolean)) 2 0 false false false false false false (fun G => [.int v0]) σ (fun _ => (some (.int res))) σ := by
  refine met_wC (own := RX0) (by decide +kernel) rfl (by simp [cRt]) (fun _ => Nat.le_of_ble_eq_true rfl) (fun G p e s m args below meth c Q hr1 hr2 C hE ls hl hJ => ?_)
  have hx := C.1.1
  have hb := C.1.2.1
  have hown := C.1.2.2.2.1
  have hts := C.1.2.2.2.2
  have hl : lv_has ls 1 [(0, .int v0)] := hl
  unfold C_isTwo at h
  refine lv_iload_n hx hb dX0_isTwo_0 rfl (lv_at hl 0 rfl) ?_
  refine lv_i2l (v := v0.toInt64) hx hb dX0_isTwo_1 rfl ?_
  refine lv_lconst (v := (0 : Int64)) hx hb dX0_isTwo_2 rfl ?_
  refine lv_lconst (v := (1 : Int64)) hx hb dX0_isTwo_3 rfl ?_
  obtain ⟨c1, hc1, h⟩ := ob h
  refine cc_S (As := [.long v0.toInt64, .long (0 : Int64), .long (1 : Int64)]) (rest := []) C hJ (metC_in l σ v0.toInt64 (0 : Int64) (1 : Int64) c1 hc1) rfl rfl (show 0 + 0 ≤ 0 from Nat.le_of_ble_eq_true rfl) (cost_ok false false false false _ _ (fun h => by cases h) (fun h => by cases h)) (fun h => by cases h) (fun h => by cases h) (va_cwS 3 hts (lw_S q145 q146 q109 q147) rfl rfl rfl hdC_in ⟨(Nat.le_of_ble_eq_true rfl), (Nat.le_of_ble_eq_true rfl)⟩) rfl hl.1 rfl (lv_room (Nat.le_of_ble_eq_true rfl)) dX0_isTwo_4 (fun D2 H locs _ hJ => ?_)
  have h := Option.some.inj h
  subst h
  exact hE _ _ _ _ _ _ _ _ _ _ _ _ (some (.int c1)) hJ (fun h => by cases h) (fun h => by cases h) ⟨_, rfl⟩ rfl dX0_isTwo_7
def C_isIn (σ : CM) (v0 : Int32) (v1 : Int32) : Option (Int32) :=
  if ((v0 >>> (v1 &&& 31)) &&& (1 : Int32)) = (1 : Int32) then
    some (1 : Int32)
  else
    some (0 : Int32)
theorem hdC_isIn : yX0_isIn.cls ≠ "java/lang/invoke/MethodHandle" ∧ yX0_isIn.cls ≠ "java/lang/invoke/VarHandle" ∧ (parseMethodDescriptor yX0_isIn.desc).map (fun d => d.parameters.length) = some 2 := by decide +kernel
set_option maxHeartbeats 4000000 in
theorem metC_isIn (l : Launch) (σ : CM) (v0 : Int32) (v1 : Int32) (res : Int32) (h : C_isIn σ v0 v1 = some res) : MetC l yX0_isIn (ws_ yX0_isIn cX0_isIn 2 (some .boolean)) 1 0 false false false false false false (fun G => [.int v0, .int v1]) σ (fun _ => (some (.int res))) σ := by
  refine met_wC (own := RX0) (by decide +kernel) rfl (by simp [cRt]) (fun _ => Nat.le_of_ble_eq_true rfl) (fun G p e s m args below meth c Q hr1 hr2 C hE ls hl hJ => ?_)
  have hx := C.1.1
  have hb := C.1.2.1
  have hown := C.1.2.2.2.1
  have hts := C.1.2.2.2.2
  have hl : lv_has ls 2 [(0, .int v0), (1, .int v1)] := hl
  unfold C_isIn at h
  refine lv_iload_n hx hb dX0_isIn_0 rfl (lv_at hl 0 rfl) ?_
  refine lv_iload_n hx hb dX0_isIn_1 rfl (lv_at hl 1 rfl) ?_
  refine lv_ishr hx hb dX0_isIn_2 ?_
  refine lv_iconst hx hb dX0_isIn_3 kc_1 ?_
  refine lv_iand hx hb dX0_isIn_4 ?_
  refine lv_iconst hx hb dX0_isIn_5 kc_1 ?_
  refine lv_icmp_ne (tgt := 13) hx hb dX0_isIn_6 (by decide) (fun hc1 => ?_) (fun hc1 => ?_)
  · have h := im h hc1
    refine lv_iconst hx hb dX0_isIn_13 kc_0 ?_
    have h := Option.some.inj h
    subst h
    exact hE _ _ _ _ _ _ _ _ _ _ _ _ (some (.int (0 : Int32))) hJ (fun h => by cases h) (fun h => by cases h) ⟨_, rfl⟩ mz0 dX0_isIn_14
  · have h := ip h hc1
    refine lv_iconst hx hb dX0_isIn_9 kc_1 ?_
    refine lv_goto (tgt := 14) hx hb dX0_isIn_10 (by decide) ?_
    have h := Option.some.inj h
    subst h
    exact hE _ _ _ _ _ _ _ _ _ _ _ _ (some (.int (1 : Int32))) hJ (fun h => by cases h) (fun h => by cases h) ⟨_, rfl⟩ mz1 dX0_isIn_14
def C_isHour (σ : CM) (v0 : Int32) : Option (Int32) :=
  (C_in σ v0.toInt64 (0 : Int64) (19 : Int64)).bind fun c1 =>
  some (bz c1)
theorem hdC_isHour : yX0_isHour.cls ≠ "java/lang/invoke/MethodHandle" ∧ yX0_isHour.cls ≠ "java/lang/invoke/VarHandle" ∧ (parseMethodDescriptor yX0_isHour.desc).map (fun d => d.parameters.length) = some 1 := by decide +kernel
set_option maxHeartbeats 4000000 in
theorem metC_isHour (l : Launch) (σ : CM) (v0 : Int32) (res : Int32) (h : C_isHour σ v0 = some res) : MetC l yX0_isHour (ws_ yX0_isHour cX0_isHour 1 (some .boolean)) 2 0 false false false false false false (fun G => [.int v0]) σ (fun _ => (some (.int res))) σ := by
  refine met_wC (own := RX0) (by decide +kernel) rfl (by simp [cRt]) (fun _ => Nat.le_of_ble_eq_true rfl) (fun G p e s m args below meth c Q hr1 hr2 C hE ls hl hJ => ?_)
  have hx := C.1.1
  have hb := C.1.2.1
  have hown := C.1.2.2.2.1
  have hts := C.1.2.2.2.2
  have hl : lv_has ls 1 [(0, .int v0)] := hl
  unfold C_isHour at h
  refine lv_iload_n hx hb dX0_isHour_0 rfl (lv_at hl 0 rfl) ?_
  refine lv_i2l (v := v0.toInt64) hx hb dX0_isHour_1 rfl ?_
  refine lv_lconst (v := (0 : Int64)) hx hb dX0_isHour_2 rfl ?_
  refine lv_ldc2 (v := (19 : Int64)) hx hb hown (hts _ q572) dX0_isHour_3 ?_
  obtain ⟨c1, hc1, h⟩ := ob h
  refine cc_S (As := [.long v0.toInt64, .long (0 : Int64), .long (19 : Int64)]) (rest := []) C hJ (metC_in l σ v0.toInt64 (0 : Int64) (19 : Int64) c1 hc1) rfl rfl (show 0 + 0 ≤ 0 from Nat.le_of_ble_eq_true rfl) (cost_ok false false false false _ _ (fun h => by cases h) (fun h => by cases h)) (fun h => by cases h) (fun h => by cases h) (va_cwS 3 hts (lw_S q145 q146 q109 q147) rfl rfl rfl hdC_in ⟨(Nat.le_of_ble_eq_true rfl), (Nat.le_of_ble_eq_true rfl)⟩) rfl hl.1 rfl (lv_room (Nat.le_of_ble_eq_true rfl)) dX0_isHour_6 (fun D2 H locs _ hJ => ?_)
  have h := Option.some.inj h
  subst h
  exact hE _ _ _ _ _ _ _ _ _ _ _ _ (some (.int c1)) hJ (fun h => by cases h) (fun h => by cases h) ⟨_, rfl⟩ rfl dX0_isHour_9
def C_isPlace (σ : CM) (v0 : Int32) : Option (Int32) :=
  (C_in σ v0.toInt64 (0 : Int64) (11 : Int64)).bind fun c1 =>
  some (bz c1)
theorem hdC_isPlace : yX0_isPlace.cls ≠ "java/lang/invoke/MethodHandle" ∧ yX0_isPlace.cls ≠ "java/lang/invoke/VarHandle" ∧ (parseMethodDescriptor yX0_isPlace.desc).map (fun d => d.parameters.length) = some 1 := by decide +kernel
set_option maxHeartbeats 4000000 in
theorem metC_isPlace (l : Launch) (σ : CM) (v0 : Int32) (res : Int32) (h : C_isPlace σ v0 = some res) : MetC l yX0_isPlace (ws_ yX0_isPlace cX0_isPlace 1 (some .boolean)) 2 0 false false false false false false (fun G => [.int v0]) σ (fun _ => (some (.int res))) σ := by
  refine met_wC (own := RX0) (by decide +kernel) rfl (by simp [cRt]) (fun _ => Nat.le_of_ble_eq_true rfl) (fun G p e s m args below meth c Q hr1 hr2 C hE ls hl hJ => ?_)
  have hx := C.1.1
  have hb := C.1.2.1
  have hown := C.1.2.2.2.1
  have hts := C.1.2.2.2.2
  have hl : lv_has ls 1 [(0, .int v0)] := hl
  unfold C_isPlace at h
  refine lv_iload_n hx hb dX0_isPlace_0 rfl (lv_at hl 0 rfl) ?_
  refine lv_i2l (v := v0.toInt64) hx hb dX0_isPlace_1 rfl ?_
  refine lv_lconst (v := (0 : Int64)) hx hb dX0_isPlace_2 rfl ?_
  refine lv_ldc2 (v := (11 : Int64)) hx hb hown (hts _ q504) dX0_isPlace_3 ?_
  obtain ⟨c1, hc1, h⟩ := ob h
  refine cc_S (As := [.long v0.toInt64, .long (0 : Int64), .long (11 : Int64)]) (rest := []) C hJ (metC_in l σ v0.toInt64 (0 : Int64) (11 : Int64) c1 hc1) rfl rfl (show 0 + 0 ≤ 0 from Nat.le_of_ble_eq_true rfl) (cost_ok false false false false _ _ (fun h => by cases h) (fun h => by cases h)) (fun h => by cases h) (fun h => by cases h) (va_cwS 3 hts (lw_S q145 q146 q109 q147) rfl rfl rfl hdC_in ⟨(Nat.le_of_ble_eq_true rfl), (Nat.le_of_ble_eq_true rfl)⟩) rfl hl.1 rfl (lv_room (Nat.le_of_ble_eq_true rfl)) dX0_isPlace_6 (fun D2 H locs _ hJ => ?_)
  have h := Option.some.inj h
  subst h
  exact hE _ _ _ _ _ _ _ _ _ _ _ _ (some (.int c1)) hJ (fun h => by cases h) (fun h => by cases h) ⟨_, rfl⟩ rfl dX0_isPlace_9
def C_isSheet (σ : CM) (v0 : Int32) : Option (Int32) :=
  (C_in σ v0.toInt64 (0 : Int64) (3 : Int64)).bind fun c1 =>
  some (bz c1)
theorem hdC_isSheet : yX0_isSheet.cls ≠ "java/lang/invoke/MethodHandle" ∧ yX0_isSheet.cls ≠ "java/lang/invoke/VarHandle" ∧ (parseMethodDescriptor yX0_isSheet.desc).map (fun d => d.parameters.length) = some 1 := by decide +kernel
set_option maxHeartbeats 4000000 in
theorem metC_isSheet (l : Launch) (σ : CM) (v0 : Int32) (res : Int32) (h : C_isSheet σ v0 = some res) : MetC l yX0_isSheet (ws_ yX0_isSheet cX0_isSheet 1 (some .boolean)) 2 0 false false false false false false (fun G => [.int v0]) σ (fun _ => (some (.int res))) σ := by
  refine met_wC (own := RX0) (by decide +kernel) rfl (by simp [cRt]) (fun _ => Nat.le_of_ble_eq_true rfl) (fun G p e s m args below meth c Q hr1 hr2 C hE ls hl hJ => ?_)
  have hx := C.1.1
  have hb := C.1.2.1
  have hown := C.1.2.2.2.1
  have hts := C.1.2.2.2.2
  have hl : lv_has ls 1 [(0, .int v0)] := hl
  unfold C_isSheet at h
  refine lv_iload_n hx hb dX0_isSheet_0 rfl (lv_at hl 0 rfl) ?_
  refine lv_i2l (v := v0.toInt64) hx hb dX0_isSheet_1 rfl ?_
  refine lv_lconst (v := (0 : Int64)) hx hb dX0_isSheet_2 rfl ?_
  refine lv_ldc2 (v := (3 : Int64)) hx hb hown (hts _ q568) dX0_isSheet_3 ?_
  obtain ⟨c1, hc1, h⟩ := ob h
  refine cc_S (As := [.long v0.toInt64, .long (0 : Int64), .long (3 : Int64)]) (rest := []) C hJ (metC_in l σ v0.toInt64 (0 : Int64) (3 : Int64) c1 hc1) rfl rfl (show 0 + 0 ≤ 0 from Nat.le_of_ble_eq_true rfl) (cost_ok false false false false _ _ (fun h => by cases h) (fun h => by cases h)) (fun h => by cases h) (fun h => by cases h) (va_cwS 3 hts (lw_S q145 q146 q109 q147) rfl rfl rfl hdC_in ⟨(Nat.le_of_ble_eq_true rfl), (Nat.le_of_ble_eq_true rfl)⟩) rfl hl.1 rfl (lv_room (Nat.le_of_ble_eq_true rfl)) dX0_isSheet_6 (fun D2 H locs _ hJ => ?_)
  have h := Option.some.inj h
  subst h
  exact hE _ _ _ _ _ _ _ _ _ _ _ _ (some (.int c1)) hJ (fun h => by cases h) (fun h => by cases h) ⟨_, rfl⟩ rfl dX0_isSheet_9
def C_wets (σ : CM) (v1 : Int32) : Option (CM) :=
  (lp (S := Int32 × CM) (T := CM) (fun w1 =>
    if (12 : Int32) ≤ w1.1 then
        some (.inr w1.2)
      else
        (cld w1.2 10 0 w1.1).bind fun x5 =>
        (C_J8_max w1.2 (x5 + v1) (0 : Int32)).bind fun c6 =>
        (C_J8_min w1.2 c6 (9 : Int32)).bind fun c8 =>
        (cas w1.2 10 0 w1.1 c8).bind fun σ10 =>
        some (.inl ((w1.1 + 1), σ10))) 2000 ((0 : Int32), σ)).bind fun q2 =>
  some q2
theorem hdC_wets : yX0_wets.cls = RX0 ∧ yX0_wets.cls ≠ "java/lang/invoke/MethodHandle" ∧ yX0_wets.cls ≠ "java/lang/invoke/VarHandle" ∧ (parseMethodDescriptor yX0_wets.desc).map (fun d => d.parameters.length) = some 1 := by decide +kernel
set_option maxHeartbeats 4000000 in
theorem metC_wets (l : Launch) (σ : CM) (v1 : Int32) (res : CM) (h : C_wets σ v1 = some res) : MetC l yX0_wets (ws_ yX0_wets cX0_wets 3 none) 2 0 false false false false false false (fun G => [.ref (gA G 0 0), .int v1]) σ (fun _ => none) res := by
  refine met_wC (own := RX0) (by decide +kernel) rfl (by simp [cRt]) (fun _ => Nat.le_of_ble_eq_true rfl) (fun G p e s m args below meth c Q hr1 hr2 C hE ls hl hJ => ?_)
  have hx := C.1.1
  have hb := C.1.2.1
  have hown := C.1.2.2.2.1
  have hts := C.1.2.2.2.2
  have hl : lv_has ls 3 [(0, .ref (gA G 0 0)), (1, .int v1)] := hl
  unfold C_wets at h
  refine lv_iconst hx hb dX0_wets_0 kc_0 ?_
  refine lv_istore_n (lv' := [(2, .int (0 : Int32)), (0, .ref (gA G 0 0)), (1, .int v1)]) hx hb dX0_wets_1 rfl hl (Nat.le_of_ble_eq_true rfl) rfl (fun ls hl => ?_)
  obtain ⟨q2, hq2, h⟩ := ob h
  have hxq2 : ∀ (D11 : Nat → Nat → Nat) (H : Heap) (locs : List Loc) (ce sl : Nat) (ls : Array Slot), CJ G s (RM 2 0 false false G) 0 false false G.2.1 G.2.2.1 D11 q2 H locs ce sl → lv_has ls 3 [] → W p l e (RM 2 0 false false G) s m args below meth c H locs ce sl Q (F0 m 37 ls []) := by
    intro D11 H locs ce sl ls hJ hl
    have h := Option.some.inj h
    subst h
    exact hE _ _ _ _ _ _ _ _ _ _ _ _ none hJ (fun h => by cases h) (fun h => by cases h) rfl rfl dX0_wets_37
  refine lp_ind (P := fun (w1 : Int32 × CM) => ∀ (D3 : Nat → Nat → Nat) (H : Heap) (locs : List Loc) (ce sl : Nat) (ls : Array Slot), CJ G s (RM 2 0 false false G) 0 false false G.2.1 G.2.2.1 D3 w1.2 H locs ce sl → lv_has ls 3 [(0, .ref (gA G 0 0)), (1, .int v1), (2, .int w1.1)] → W p l e (RM 2 0 false false G) s m args below meth c H locs ce sl Q (F0 m 2 ls [])) ?_ _ _ hq2 _ _ _ _ _ _ hJ (lv_sub hl [1, 2, 0] rfl)
  intro nw1 w1 ihw1 zw1 hzw1 hqw1 D3 H locs ce sl ls hJ hl
  refine lv_iload_n hx hb dX0_wets_2 rfl (lv_at hl 2 rfl) ?_
  refine lv_bipush hx hb dX0_wets_3 kb_12 ?_
  refine lv_icmp_ge (tgt := 37) hx hb dX0_wets_5 (by decide) (fun hc4 => ?_) (fun hc4 => ?_)
  · have hzw1 := ip hzw1 hc4
    have hzw1 := Option.some.inj hzw1
    subst hzw1
    have hqw1 : _ = q2 := hqw1
    subst hqw1
    exact hxq2 _ _ _ _ _ _ hJ (lv_sub hl [] rfl)
  · have hzw1 := im hzw1 hc4
    refine lv_aload_n hx hb dX0_wets_8 rfl (lv_at hl 0 rfl) ?_
    refine cj_gr (v := .ref (gA G 10 0)) C hJ 0 0 6 (ad_s rfl) (Nat.le_of_ble_eq_true rfl) (Nat.le_of_ble_eq_true rfl) rfl rfl (fl_X0_168_0 C) (fun _ _ => rfl) dX0_wets_9 ?_
    refine lv_iload_n hx hb dX0_wets_12 rfl (lv_at hl 2 rfl) ?_
    refine lv_aload_n hx hb dX0_wets_13 rfl (lv_at hl 0 rfl) ?_
    refine cj_gr (v := .ref (gA G 10 0)) C hJ 0 0 6 (ad_s rfl) (Nat.le_of_ble_eq_true rfl) (Nat.le_of_ble_eq_true rfl) rfl rfl (fl_X0_168_0 C) (fun _ _ => rfl) dX0_wets_14 ?_
    refine lv_iload_n hx hb dX0_wets_17 rfl (lv_at hl 2 rfl) ?_
    obtain ⟨x5, hx5, hzw1⟩ := ob hzw1
    refine cj_il C hJ 10 0 (ad_s rfl) rfl rfl rfl hx5 dX0_wets_18 ?_
    refine lv_iload_n hx hb dX0_wets_19 rfl (lv_at hl 1 rfl) ?_
    refine lv_iadd hx hb dX0_wets_20 ?_
    refine lv_iconst hx hb dX0_wets_21 kc_0 ?_
    obtain ⟨c6, hc6, hzw1⟩ := ob hzw1
    refine cc_S (As := [.int (x5 + v1), .int (0 : Int32)]) (rest := [.int w1.1, .ref (gA G 10 0)]) C hJ (metC_J8_max l w1.2 (x5 + v1) (0 : Int32) c6 hc6) rfl rfl (show 0 + 0 ≤ 0 from Nat.le_of_ble_eq_true rfl) (cost_ok false false false false _ _ (fun h => by cases h) (fun h => by cases h)) (fun h => by cases h) (fun h => by cases h) (va_cwS 2 hts (lw_S q855 q339 q125 q340) rfl rfl rfl hdC_J8_max ⟨(Nat.le_of_ble_eq_true rfl), (Nat.le_of_ble_eq_true rfl)⟩) rfl hl.1 rfl (lv_room (Nat.le_of_ble_eq_true rfl)) dX0_wets_22 (fun D7 H locs _ hJ => ?_)
    refine lv_bipush hx hb dX0_wets_25 kb_9 ?_
    obtain ⟨c8, hc8, hzw1⟩ := ob hzw1
    refine cc_S (As := [.int c6, .int (9 : Int32)]) (rest := [.int w1.1, .ref (gA G 10 0)]) C hJ (metC_J8_min l w1.2 c6 (9 : Int32) c8 hc8) rfl rfl (show 0 + 0 ≤ 0 from Nat.le_of_ble_eq_true rfl) (cost_ok false false false false _ _ (fun h => by cases h) (fun h => by cases h)) (fun h => by cases h) (fun h => by cases h) (va_cwS 2 hts (lw_S q856 q342 q125 q343) rfl rfl rfl hdC_J8_min ⟨(Nat.le_of_ble_eq_true rfl), (Nat.le_of_ble_eq_true rfl)⟩) rfl hl.1 rfl (lv_room (Nat.le_of_ble_eq_true rfl)) dX0_wets_27 (fun D9 H locs _ hJ => ?_)
    obtain ⟨σ10, hσ10, hzw1⟩ := ob hzw1
    refine cj_is C hJ 10 0 (ad_s rfl) rfl rfl rfl hσ10 dX0_wets_30 (fun H locs hJ => ?_)
    refine lv_iinc (v := (w1.1 + 1)) (lv' := [(2, .int (w1.1 + 1)), (0, .ref (gA G 0 0)), (1, .int v1)]) hx hb dX0_wets_31 hl (k := 2) rfl rfl (Nat.le_of_ble_eq_true rfl) rfl (fun ls hl => ?_)
    refine lv_goto (tgt := 2) hx hb dX0_wets_34 (by decide) ?_
    have hzw1 := Option.some.inj hzw1
    subst hzw1
    exact ihw1 _ hqw1 _ _ _ _ _ _ hJ (lv_sub hl [1, 2, 0] rfl)
def C_dampOf (σ : CM) (v1 : Int32) : Option (Int32) :=
  (C_isPlace σ v1).bind fun c1 =>
  if c1 = 0 then
    some (-1 : Int32)
  else
    (cld σ 10 0 v1).bind fun x4 =>
    some x4
theorem hdC_dampOf : yX0_dampOf.cls = RX0 ∧ yX0_dampOf.cls ≠ "java/lang/invoke/MethodHandle" ∧ yX0_dampOf.cls ≠ "java/lang/invoke/VarHandle" ∧ (parseMethodDescriptor yX0_dampOf.desc).map (fun d => d.parameters.length) = some 1 := by decide +kernel
set_option maxHeartbeats 4000000 in
theorem metC_dampOf (l : Launch) (σ : CM) (v1 : Int32) (res : Int32) (h : C_dampOf σ v1 = some res) : MetC l yX0_dampOf (ws_ yX0_dampOf cX0_dampOf 2 (some .int)) 3 0 false false false false false false (fun G => [.ref (gA G 0 0), .int v1]) σ (fun _ => (some (.int res))) σ := by
  refine met_wC (own := RX0) (by decide +kernel) rfl (by simp [cRt]) (fun _ => Nat.le_of_ble_eq_true rfl) (fun G p e s m args below meth c Q hr1 hr2 C hE ls hl hJ => ?_)
  have hx := C.1.1
  have hb := C.1.2.1
  have hown := C.1.2.2.2.1
  have hts := C.1.2.2.2.2
  have hl : lv_has ls 2 [(0, .ref (gA G 0 0)), (1, .int v1)] := hl
  unfold C_dampOf at h
  refine lv_iload_n hx hb dX0_dampOf_0 rfl (lv_at hl 1 rfl) ?_
  obtain ⟨c1, hc1, h⟩ := ob h
  refine cc_S (As := [.int v1]) (rest := []) C hJ (metC_isPlace l σ v1 c1 hc1) rfl rfl (show 0 + 0 ≤ 0 from Nat.le_of_ble_eq_true rfl) (cost_ok false false false false _ _ (fun h => by cases h) (fun h => by cases h)) (fun h => by cases h) (fun h => by cases h) (va_cwS 1 hts (lw_S q501 q502 q109 q503) rfl rfl rfl hdC_isPlace ⟨(Nat.le_of_ble_eq_true rfl), (Nat.le_of_ble_eq_true rfl)⟩) rfl hl.1 rfl (lv_room (Nat.le_of_ble_eq_true rfl)) dX0_dampOf_1 (fun D2 H locs _ hJ => ?_)
  refine lv_if_eq (tgt := 16) hx hb dX0_dampOf_4 (by decide) (fun hc3 => ?_) (fun hc3 => ?_)
  · have h := ip h hc3
    refine lv_iconst hx hb dX0_dampOf_16 kc_m1 ?_
    have h := Option.some.inj h
    subst h
    exact hE _ _ _ _ _ _ _ _ _ _ _ _ (some (.int ((-1 : Int32)))) hJ (fun h => by cases h) (fun h => by cases h) ⟨_, rfl⟩ rfl dX0_dampOf_17
  · have h := im h hc3
    refine lv_aload_n hx hb dX0_dampOf_7 rfl (lv_at hl 0 rfl) ?_
    refine cj_gr (v := .ref (gA G 10 0)) C hJ 0 0 6 (ad_s rfl) (Nat.le_of_ble_eq_true rfl) (Nat.le_of_ble_eq_true rfl) rfl rfl (fl_X0_168_0 C) (fun _ _ => rfl) dX0_dampOf_8 ?_
    refine lv_iload_n hx hb dX0_dampOf_11 rfl (lv_at hl 1 rfl) ?_
    obtain ⟨x4, hx4, h⟩ := ob h
    refine cj_il C hJ 10 0 (ad_s rfl) rfl rfl rfl hx4 dX0_dampOf_12 ?_
    refine lv_goto (tgt := 17) hx hb dX0_dampOf_13 (by decide) ?_
    have h := Option.some.inj h
    subst h
    exact hE _ _ _ _ _ _ _ _ _ _ _ _ (some (.int (x4))) hJ (fun h => by cases h) (fun h => by cases h) ⟨_, rfl⟩ rfl dX0_dampOf_17
def C_dampest (σ : CM) (v1 : Int32) : Option (Int32) :=
  (C_dampOf σ (v1 + (1 : Int32))).bind fun c1 =>
  (C_dampOf σ (v1 - (1 : Int32))).bind fun c4 =>
  (if c1 ≤ c4 then
      some (v1 - (1 : Int32))
    else
      some (v1 + (1 : Int32)) : Option (Int32)).bind fun q8 =>
  (C_dampOf σ q8).bind fun c9 =>
  (C_dampOf σ v1).bind fun c12 =>
  if c9 ≤ c12 then
    some v1
  else
    some q8
theorem hdC_dampest : yX0_dampest.cls = RX0 ∧ yX0_dampest.cls ≠ "java/lang/invoke/MethodHandle" ∧ yX0_dampest.cls ≠ "java/lang/invoke/VarHandle" ∧ (parseMethodDescriptor yX0_dampest.desc).map (fun d => d.parameters.length) = some 1 := by decide +kernel
set_option maxHeartbeats 4000000 in
theorem metC_dampest (l : Launch) (σ : CM) (v1 : Int32) (res : Int32) (h : C_dampest σ v1 = some res) : MetC l yX0_dampest (ws_ yX0_dampest cX0_dampest 3 (some .int)) 4 0 false false false false false false (fun G => [.ref (gA G 0 0), .int v1]) σ (fun _ => (some (.int res))) σ := by
  refine met_wC (own := RX0) (by decide +kernel) rfl (by simp [cRt]) (fun _ => Nat.le_of_ble_eq_true rfl) (fun G p e s m args below meth c Q hr1 hr2 C hE ls hl hJ => ?_)
  have hx := C.1.1
  have hb := C.1.2.1
  have hown := C.1.2.2.2.1
  have hts := C.1.2.2.2.2
  have hl : lv_has ls 3 [(0, .ref (gA G 0 0)), (1, .int v1)] := hl
  unfold C_dampest at h
  refine lv_aload_n hx hb dX0_dampest_0 rfl (lv_at hl 0 rfl) ?_
  refine lv_iload_n hx hb dX0_dampest_1 rfl (lv_at hl 1 rfl) ?_
  refine lv_iconst hx hb dX0_dampest_2 kc_1 ?_
  refine lv_iadd hx hb dX0_dampest_3 ?_
  obtain ⟨c1, hc1, h⟩ := ob h
  refine cc_V (As := [.int (v1 + (1 : Int32))]) (rest := []) C hJ (metC_dampOf l σ (v1 + (1 : Int32)) c1 hc1) rfl rfl (show 0 + 0 ≤ 0 from Nat.le_of_ble_eq_true rfl) (cost_ok false false false false _ _ (fun h => by cases h) (fun h => by cases h)) (fun h => by cases h) (fun h => by cases h) (cj_recv C hJ 0 0 (ad_s rfl) (Nat.le_of_ble_eq_true rfl) rfl rfl) (cwV 1 hts (lw_V q878 q880 qs18 q109 q881) rfl rfl rfl hdC_dampOf ⟨(Nat.le_of_ble_eq_true rfl), (Nat.le_of_ble_eq_true rfl)⟩) rfl hl.1 rfl (lv_room (Nat.le_of_ble_eq_true rfl)) dX0_dampest_4 (fun D2 H locs _ hJ => ?_)
  refine lv_aload_n hx hb dX0_dampest_7 rfl (lv_at hl 0 rfl) ?_
  refine lv_iload_n hx hb dX0_dampest_8 rfl (lv_at hl 1 rfl) ?_
  refine lv_iconst hx hb dX0_dampest_9 kc_1 ?_
  refine lv_isub hx hb dX0_dampest_10 ?_
  obtain ⟨c4, hc4, h⟩ := ob h
  refine cc_V (As := [.int (v1 - (1 : Int32))]) (rest := [.int c1]) C hJ (metC_dampOf l σ (v1 - (1 : Int32)) c4 hc4) rfl rfl (show 0 + 0 ≤ 0 from Nat.le_of_ble_eq_true rfl) (cost_ok false false false false _ _ (fun h => by cases h) (fun h => by cases h)) (fun h => by cases h) (fun h => by cases h) (cj_recv C hJ 0 0 (ad_s rfl) (Nat.le_of_ble_eq_true rfl) rfl rfl) (cwV 1 hts (lw_V q878 q880 qs18 q109 q881) rfl rfl rfl hdC_dampOf ⟨(Nat.le_of_ble_eq_true rfl), (Nat.le_of_ble_eq_true rfl)⟩) rfl hl.1 rfl (lv_room (Nat.le_of_ble_eq_true rfl)) dX0_dampest_11 (fun D5 H locs _ hJ => ?_)
  obtain ⟨q8, hq8, h⟩ := ob h
  have hjq8 : ∀ (H : Heap) (locs : List Loc) (ce sl : Nat) (ls : Array Slot), CJ G s (RM 4 0 false false G) 0 false false G.2.1 G.2.2.1 D5 σ H locs ce sl → lv_has ls 3 [(0, .ref (gA G 0 0)), (1, .int v1)] → W p l e (RM 4 0 false false G) s m args below meth c H locs ce sl Q (F0 m 26 ls [.int q8]) := by
    intro H locs ce sl ls hJ hl
    refine lv_istore_n (lv' := [(2, .int q8), (0, .ref (gA G 0 0)), (1, .int v1)]) hx hb dX0_dampest_26 rfl hl (Nat.le_of_ble_eq_true rfl) rfl (fun ls hl => ?_)
    refine lv_aload_n hx hb dX0_dampest_27 rfl (lv_at hl 1 rfl) ?_
    refine lv_iload_n hx hb dX0_dampest_28 rfl (lv_at hl 0 rfl) ?_
    obtain ⟨c9, hc9, h⟩ := ob h
    refine cc_V (As := [.int q8]) (rest := []) C hJ (metC_dampOf l σ q8 c9 hc9) rfl rfl (show 0 + 0 ≤ 0 from Nat.le_of_ble_eq_true rfl) (cost_ok false false false false _ _ (fun h => by cases h) (fun h => by cases h)) (fun h => by cases h) (fun h => by cases h) (cj_recv C hJ 0 0 (ad_s rfl) (Nat.le_of_ble_eq_true rfl) rfl rfl) (cwV 1 hts (lw_V q878 q880 qs18 q109 q881) rfl rfl rfl hdC_dampOf ⟨(Nat.le_of_ble_eq_true rfl), (Nat.le_of_ble_eq_true rfl)⟩) rfl hl.1 rfl (lv_room (Nat.le_of_ble_eq_true rfl)) dX0_dampest_29 (fun D10 H locs _ hJ => ?_)
    refine lv_aload_n hx hb dX0_dampest_32 rfl (lv_at hl 1 rfl) ?_
    refine lv_iload_n hx hb dX0_dampest_33 rfl (lv_at hl 2 rfl) ?_
    obtain ⟨c12, hc12, h⟩ := ob h
    refine cc_V (As := [.int v1]) (rest := [.int c9]) C hJ (metC_dampOf l σ v1 c12 hc12) rfl rfl (show 0 + 0 ≤ 0 from Nat.le_of_ble_eq_true rfl) (cost_ok false false false false _ _ (fun h => by cases h) (fun h => by cases h)) (fun h => by cases h) (fun h => by cases h) (cj_recv C hJ 0 0 (ad_s rfl) (Nat.le_of_ble_eq_true rfl) rfl rfl) (cwV 1 hts (lw_V q878 q880 qs18 q109 q881) rfl rfl rfl hdC_dampOf ⟨(Nat.le_of_ble_eq_true rfl), (Nat.le_of_ble_eq_true rfl)⟩) rfl hl.1 rfl (lv_room (Nat.le_of_ble_eq_true rfl)) dX0_dampest_34 (fun D13 H locs _ hJ => ?_)
    refine lv_icmp_le (tgt := 44) hx hb dX0_dampest_37 (by decide) (fun hc15 => ?_) (fun hc15 => ?_)
    · have h := ip h hc15
      refine lv_iload_n hx hb dX0_dampest_44 rfl (lv_at hl 2 rfl) ?_
      have h := Option.some.inj h
      subst h
      exact hE _ _ _ _ _ _ _ _ _ _ _ _ (some (.int (v1))) hJ (fun h => by cases h) (fun h => by cases h) ⟨_, rfl⟩ rfl dX0_dampest_45
    · have h := im h hc15
      refine lv_iload_n hx hb dX0_dampest_40 rfl (lv_at hl 0 rfl) ?_
      refine lv_goto (tgt := 45) hx hb dX0_dampest_41 (by decide) ?_
      have h := Option.some.inj h
      subst h
      exact hE _ _ _ _ _ _ _ _ _ _ _ _ (some (.int (q8))) hJ (fun h => by cases h) (fun h => by cases h) ⟨_, rfl⟩ rfl dX0_dampest_45
  refine lv_icmp_le (tgt := 23) hx hb dX0_dampest_14 (by decide) (fun hc7 => ?_) (fun hc7 => ?_)
  · have hq8 := ip hq8 hc7
    refine lv_iload_n hx hb dX0_dampest_23 rfl (lv_at hl 1 rfl) ?_
    refine lv_iconst hx hb dX0_dampest_24 kc_1 ?_
    refine lv_isub hx hb dX0_dampest_25 ?_
    have hq8 := Option.some.inj hq8
    subst hq8
    exact hjq8 _ _ _ _ _ hJ (lv_sub hl [0, 1] rfl)
  · have hq8 := im hq8 hc7
    refine lv_iload_n hx hb dX0_dampest_17 rfl (lv_at hl 1 rfl) ?_
    refine lv_iconst hx hb dX0_dampest_18 kc_1 ?_
    refine lv_iadd hx hb dX0_dampest_19 ?_
    refine lv_goto (tgt := 26) hx hb dX0_dampest_20 (by decide) ?_
    have hq8 := Option.some.inj hq8
    subst hq8
    exact hjq8 _ _ _ _ _ hJ (lv_sub hl [0, 1] rfl)
def C_alike (σ : CM) (v1 : Int32) (v2 : Int32) : Option (Int32) :=
  (lp (S := Int32 × Int32) (T := Int32) (fun w1 =>
    if (10 : Int32) ≤ w1.2 then
        some (.inr w1.1)
      else
        (lp (S := Int32 × Int32) (T := Int32) (fun w5 =>
          if (10 : Int32) ≤ w5.2 then
              some (.inr w5.1)
            else
              (C_isIn σ v1 w1.2).bind fun c9 =>
              (if c9 = 0 then
                  some (0 : Int32)
                else
                  (C_isIn σ v1 w5.2).bind fun c12 =>
                  if c12 = 0 then
                    some (0 : Int32)
                  else
                    (cix σ 14 0 w1.2).bind fun n15 =>
                    (cld σ 13 n15 v2).bind fun x16 =>
                    (cix σ 14 0 w5.2).bind fun n17 =>
                    (cld σ 13 n17 v2).bind fun x18 =>
                    if x16 = x18 then
                      some (1 : Int32)
                    else
                      some (0 : Int32) : Option (Int32)).bind fun q20 =>
              some (.inl ((w5.1 + q20), (w5.2 + 1)))) 2000 ((0 : Int32), (0 : Int32))).bind fun q6 =>
        (C_J8_max σ q6 w1.1).bind fun c23 =>
        some (.inl (c23, (w1.2 + 1)))) 2000 ((0 : Int32), (0 : Int32))).bind fun q2 =>
  some q2
theorem hdC_alike : yX0_alike.cls = RX0 ∧ yX0_alike.cls ≠ "java/lang/invoke/MethodHandle" ∧ yX0_alike.cls ≠ "java/lang/invoke/VarHandle" ∧ (parseMethodDescriptor yX0_alike.desc).map (fun d => d.parameters.length) = some 2 := by decide +kernel
set_option maxHeartbeats 4000000 in
theorem metC_alike (l : Launch) (σ : CM) (v1 : Int32) (v2 : Int32) (res : Int32) (h : C_alike σ v1 v2 = some res) : MetC l yX0_alike (ws_ yX0_alike cX0_alike 7 (some .int)) 2 0 false false false false false false (fun G => [.ref (gA G 0 0), .int v1, .int v2]) σ (fun _ => (some (.int res))) σ := by
  refine met_wC (own := RX0) (by decide +kernel) rfl (by simp [cRt]) (fun _ => Nat.le_of_ble_eq_true rfl) (fun G p e s m args below meth c Q hr1 hr2 C hE ls hl hJ => ?_)
  have hx := C.1.1
  have hb := C.1.2.1
  have hown := C.1.2.2.2.1
  have hts := C.1.2.2.2.2
  have hl : lv_has ls 7 [(0, .ref (gA G 0 0)), (1, .int v1), (2, .int v2)] := hl
  unfold C_alike at h
  refine lv_iconst hx hb dX0_alike_0 kc_0 ?_
  refine lv_istore_n (lv' := [(3, .int (0 : Int32)), (0, .ref (gA G 0 0)), (1, .int v1), (2, .int v2)]) hx hb dX0_alike_1 rfl hl (Nat.le_of_ble_eq_true rfl) rfl (fun ls hl => ?_)
  refine lv_iconst hx hb dX0_alike_2 kc_0 ?_
  refine lv_istore (lv' := [(4, .int (0 : Int32)), (3, .int (0 : Int32)), (0, .ref (gA G 0 0)), (1, .int v1), (2, .int v2)]) hx hb dX0_alike_3 hl (Nat.le_of_ble_eq_true rfl) rfl (fun ls hl => ?_)
  obtain ⟨q2, hq2, h⟩ := ob h
  have hxq2 : ∀ (D25 : Nat → Nat → Nat) (H : Heap) (locs : List Loc) (ce sl : Nat) (ls : Array Slot), CJ G s (RM 2 0 false false G) 0 false false G.2.1 G.2.2.1 D25 σ H locs ce sl → lv_has ls 7 [(3, .int q2)] → W p l e (RM 2 0 false false G) s m args below meth c H locs ce sl Q (F0 m 93 ls []) := by
    intro D25 H locs ce sl ls hJ hl
    refine lv_iload_n hx hb dX0_alike_93 rfl (lv_at hl 0 rfl) ?_
    have h := Option.some.inj h
    subst h
    exact hE _ _ _ _ _ _ _ _ _ _ _ _ (some (.int (q2))) hJ (fun h => by cases h) (fun h => by cases h) ⟨_, rfl⟩ rfl dX0_alike_94
  refine lp_ind (P := fun (w1 : Int32 × Int32) => ∀ (D3 : Nat → Nat → Nat) (H : Heap) (locs : List Loc) (ce sl : Nat) (ls : Array Slot), CJ G s (RM 2 0 false false G) 0 false false G.2.1 G.2.2.1 D3 σ H locs ce sl → lv_has ls 7 [(0, .ref (gA G 0 0)), (1, .int v1), (2, .int v2), (3, .int w1.1), (4, .int w1.2)] → W p l e (RM 2 0 false false G) s m args below meth c H locs ce sl Q (F0 m 5 ls [])) ?_ _ _ hq2 _ _ _ _ _ _ hJ (lv_sub hl [2, 3, 4, 1, 0] rfl)
  intro nw1 w1 ihw1 zw1 hzw1 hqw1 D3 H locs ce sl ls hJ hl
  refine lv_iload hx hb dX0_alike_5 (lv_at hl 4 rfl) ?_
  refine lv_bipush hx hb dX0_alike_7 kb_10 ?_
  refine lv_icmp_ge (tgt := 93) hx hb dX0_alike_9 (by decide) (fun hc4 => ?_) (fun hc4 => ?_)
  · have hzw1 := ip hzw1 hc4
    have hzw1 := Option.some.inj hzw1
    subst hzw1
    have hqw1 : _ = q2 := hqw1
    subst hqw1
    exact hxq2 _ _ _ _ _ _ hJ (lv_sub hl [3] rfl)
  · have hzw1 := im hzw1 hc4
    refine lv_iconst hx hb dX0_alike_12 kc_0 ?_
    refine lv_istore (lv' := [(5, .int (0 : Int32)), (0, .ref (gA G 0 0)), (1, .int v1), (2, .int v2), (3, .int w1.1), (4, .int w1.2)]) hx hb dX0_alike_13 hl (Nat.le_of_ble_eq_true rfl) rfl (fun ls hl => ?_)
    refine lv_iconst hx hb dX0_alike_15 kc_0 ?_
    refine lv_istore (lv' := [(6, .int (0 : Int32)), (5, .int (0 : Int32)), (0, .ref (gA G 0 0)), (1, .int v1), (2, .int v2), (3, .int w1.1), (4, .int w1.2)]) hx hb dX0_alike_16 hl (Nat.le_of_ble_eq_true rfl) rfl (fun ls hl => ?_)
    obtain ⟨q6, hq6, hzw1⟩ := ob hzw1
    have hxq6 : ∀ (D22 : Nat → Nat → Nat) (H : Heap) (locs : List Loc) (ce sl : Nat) (ls : Array Slot), CJ G s (RM 2 0 false false G) 0 false false G.2.1 G.2.2.1 D22 σ H locs ce sl → lv_has ls 7 [(0, .ref (gA G 0 0)), (1, .int v1), (2, .int v2), (3, .int w1.1), (4, .int w1.2), (5, .int q6)] → W p l e (RM 2 0 false false G) s m args below meth c H locs ce sl Q (F0 m 80 ls []) := by
      intro D22 H locs ce sl ls hJ hl
      refine lv_iload hx hb dX0_alike_80 (lv_at hl 5 rfl) ?_
      refine lv_iload_n hx hb dX0_alike_82 rfl (lv_at hl 3 rfl) ?_
      obtain ⟨c23, hc23, hzw1⟩ := ob hzw1
      refine cc_S (As := [.int q6, .int w1.1]) (rest := []) C hJ (metC_J8_max l σ q6 w1.1 c23 hc23) rfl rfl (show 0 + 0 ≤ 0 from Nat.le_of_ble_eq_true rfl) (cost_ok false false false false _ _ (fun h => by cases h) (fun h => by cases h)) (fun h => by cases h) (fun h => by cases h) (va_cwS 2 hts (lw_S q855 q339 q125 q340) rfl rfl rfl hdC_J8_max ⟨(Nat.le_of_ble_eq_true rfl), (Nat.le_of_ble_eq_true rfl)⟩) rfl hl.1 rfl (lv_room (Nat.le_of_ble_eq_true rfl)) dX0_alike_83 (fun D24 H locs _ hJ => ?_)
      refine lv_istore_n (lv' := [(3, .int c23), (0, .ref (gA G 0 0)), (1, .int v1), (2, .int v2), (4, .int w1.2), (5, .int q6)]) hx hb dX0_alike_86 rfl hl (Nat.le_of_ble_eq_true rfl) rfl (fun ls hl => ?_)
      refine lv_iinc (v := (w1.2 + 1)) (lv' := [(4, .int (w1.2 + 1)), (3, .int c23), (0, .ref (gA G 0 0)), (1, .int v1), (2, .int v2), (5, .int q6)]) hx hb dX0_alike_87 hl (k := 4) rfl rfl (Nat.le_of_ble_eq_true rfl) rfl (fun ls hl => ?_)
      refine lv_goto (tgt := 5) hx hb dX0_alike_90 (by decide) ?_
      have hzw1 := Option.some.inj hzw1
      subst hzw1
      exact ihw1 _ hqw1 _ _ _ _ _ _ hJ (lv_sub hl [2, 3, 4, 1, 0] rfl)
    refine lp_ind (P := fun (w5 : Int32 × Int32) => ∀ (D7 : Nat → Nat → Nat) (H : Heap) (locs : List Loc) (ce sl : Nat) (ls : Array Slot), CJ G s (RM 2 0 false false G) 0 false false G.2.1 G.2.2.1 D7 σ H locs ce sl → lv_has ls 7 [(0, .ref (gA G 0 0)), (1, .int v1), (2, .int v2), (3, .int w1.1), (4, .int w1.2), (5, .int w5.1), (6, .int w5.2)] → W p l e (RM 2 0 false false G) s m args below meth c H locs ce sl Q (F0 m 18 ls [])) ?_ _ _ hq6 _ _ _ _ _ _ hJ (lv_sub hl [2, 3, 4, 5, 6, 1, 0] rfl)
    intro nw5 w5 ihw5 zw5 hzw5 hqw5 D7 H locs ce sl ls hJ hl
    refine lv_iload hx hb dX0_alike_18 (lv_at hl 6 rfl) ?_
    refine lv_bipush hx hb dX0_alike_20 kb_10 ?_
    refine lv_icmp_ge (tgt := 80) hx hb dX0_alike_22 (by decide) (fun hc8 => ?_) (fun hc8 => ?_)
    · have hzw5 := ip hzw5 hc8
      have hzw5 := Option.some.inj hzw5
      subst hzw5
      have hqw5 : _ = q6 := hqw5
      subst hqw5
      exact hxq6 _ _ _ _ _ _ hJ (lv_sub hl [0, 1, 2, 3, 4, 5] rfl)
    · have hzw5 := im hzw5 hc8
      refine lv_iload hx hb dX0_alike_25 (lv_at hl 5 rfl) ?_
      refine lv_iload_n hx hb dX0_alike_27 rfl (lv_at hl 1 rfl) ?_
      refine lv_iload hx hb dX0_alike_28 (lv_at hl 4 rfl) ?_
      obtain ⟨c9, hc9, hzw5⟩ := ob hzw5
      refine cc_S (As := [.int v1, .int w1.2]) (rest := [.int w5.1]) C hJ (metC_isIn l σ v1 w1.2 c9 hc9) rfl rfl (show 0 + 0 ≤ 0 from Nat.le_of_ble_eq_true rfl) (cost_ok false false false false _ _ (fun h => by cases h) (fun h => by cases h)) (fun h => by cases h) (fun h => by cases h) (va_cwS 2 hts (lw_S q823 q824 q109 q825) rfl rfl rfl hdC_isIn ⟨(Nat.le_of_ble_eq_true rfl), (Nat.le_of_ble_eq_true rfl)⟩) rfl hl.1 rfl (lv_room (Nat.le_of_ble_eq_true rfl)) dX0_alike_30 (fun D10 H locs _ hJ => ?_)
      obtain ⟨q20, hq20, hzw5⟩ := ob hzw5
      have hjq20 : ∀ (D21 : Nat → Nat → Nat) (H : Heap) (locs : List Loc) (ce sl : Nat) (ls : Array Slot), CJ G s (RM 2 0 false false G) 0 false false G.2.1 G.2.2.1 D21 σ H locs ce sl → lv_has ls 7 [(0, .ref (gA G 0 0)), (1, .int v1), (2, .int v2), (3, .int w1.1), (4, .int w1.2), (6, .int w5.2)] → W p l e (RM 2 0 false false G) s m args below meth c H locs ce sl Q (F0 m 71 ls [.int q20, .int w5.1]) := by
        intro D21 H locs ce sl ls hJ hl
        refine lv_iadd hx hb dX0_alike_71 ?_
        refine lv_istore (lv' := [(5, .int (w5.1 + q20)), (0, .ref (gA G 0 0)), (1, .int v1), (2, .int v2), (3, .int w1.1), (4, .int w1.2), (6, .int w5.2)]) hx hb dX0_alike_72 hl (Nat.le_of_ble_eq_true rfl) rfl (fun ls hl => ?_)
        refine lv_iinc (v := (w5.2 + 1)) (lv' := [(6, .int (w5.2 + 1)), (5, .int (w5.1 + q20)), (0, .ref (gA G 0 0)), (1, .int v1), (2, .int v2), (3, .int w1.1), (4, .int w1.2)]) hx hb dX0_alike_74 hl (k := 6) rfl rfl (Nat.le_of_ble_eq_true rfl) rfl (fun ls hl => ?_)
        refine lv_goto (tgt := 18) hx hb dX0_alike_77 (by decide) ?_
        have hzw5 := Option.some.inj hzw5
        subst hzw5
        exact ihw5 _ hqw5 _ _ _ _ _ _ hJ (lv_sub hl [2, 3, 4, 5, 6, 1, 0] rfl)
      refine lv_if_eq (tgt := 70) hx hb dX0_alike_33 (by decide) (fun hc11 => ?_) (fun hc11 => ?_)
      · have hq20 := ip hq20 hc11
        refine lv_iconst hx hb dX0_alike_70 kc_0 ?_
        have hq20 := Option.some.inj hq20
        subst hq20
        exact hjq20 _ _ _ _ _ _ hJ (lv_sub hl [0, 1, 2, 3, 4, 6] rfl)
      · have hq20 := im hq20 hc11
        refine lv_iload_n hx hb dX0_alike_36 rfl (lv_at hl 1 rfl) ?_
        refine lv_iload hx hb dX0_alike_37 (lv_at hl 6 rfl) ?_
        obtain ⟨c12, hc12, hq20⟩ := ob hq20
        refine cc_S (As := [.int v1, .int w5.2]) (rest := [.int w5.1]) C hJ (metC_isIn l σ v1 w5.2 c12 hc12) rfl rfl (show 0 + 0 ≤ 0 from Nat.le_of_ble_eq_true rfl) (cost_ok false false false false _ _ (fun h => by cases h) (fun h => by cases h)) (fun h => by cases h) (fun h => by cases h) (va_cwS 2 hts (lw_S q823 q824 q109 q825) rfl rfl rfl hdC_isIn ⟨(Nat.le_of_ble_eq_true rfl), (Nat.le_of_ble_eq_true rfl)⟩) rfl hl.1 rfl (lv_room (Nat.le_of_ble_eq_true rfl)) dX0_alike_39 (fun D13 H locs _ hJ => ?_)
        refine lv_if_eq (tgt := 70) hx hb dX0_alike_42 (by decide) (fun hc14 => ?_) (fun hc14 => ?_)
        · have hq20 := ip hq20 hc14
          refine lv_iconst hx hb dX0_alike_70 kc_0 ?_
          have hq20 := Option.some.inj hq20
          subst hq20
          exact hjq20 _ _ _ _ _ _ hJ (lv_sub hl [0, 1, 2, 3, 4, 6] rfl)
        · have hq20 := im hq20 hc14
          refine lv_aload_n hx hb dX0_alike_45 rfl (lv_at hl 0 rfl) ?_
          refine cj_gr (v := .ref (gA G 14 0)) C hJ 0 0 13 (ad_s rfl) (Nat.le_of_ble_eq_true rfl) (Nat.le_of_ble_eq_true rfl) rfl rfl (fl_X0_182_0 C) (fun _ _ => rfl) dX0_alike_46 ?_
          refine lv_iload hx hb dX0_alike_49 (lv_at hl 4 rfl) ?_
          obtain ⟨n15, hn15, hq20⟩ := ob hq20
          refine cj_al (v := .ref (gA G 13 n15)) C hJ 14 0 (ad_s rfl) rfl rfl hn15 rfl dX0_alike_51 ?_
          refine lv_iload_n hx hb dX0_alike_52 rfl (lv_at hl 2 rfl) ?_
          obtain ⟨x16, hx16, hq20⟩ := ob hq20
          refine cj_il C hJ 13 n15 (ad_s rfl) rfl rfl rfl hx16 dX0_alike_53 ?_
          refine lv_aload_n hx hb dX0_alike_54 rfl (lv_at hl 0 rfl) ?_
          refine cj_gr (v := .ref (gA G 14 0)) C hJ 0 0 13 (ad_s rfl) (Nat.le_of_ble_eq_true rfl) (Nat.le_of_ble_eq_true rfl) rfl rfl (fl_X0_182_0 C) (fun _ _ => rfl) dX0_alike_55 ?_
          refine lv_iload hx hb dX0_alike_58 (lv_at hl 6 rfl) ?_
          obtain ⟨n17, hn17, hq20⟩ := ob hq20
          refine cj_al (v := .ref (gA G 13 n17)) C hJ 14 0 (ad_s rfl) rfl rfl hn17 rfl dX0_alike_60 ?_
          refine lv_iload_n hx hb dX0_alike_61 rfl (lv_at hl 2 rfl) ?_
          obtain ⟨x18, hx18, hq20⟩ := ob hq20
          refine cj_il C hJ 13 n17 (ad_s rfl) rfl rfl rfl hx18 dX0_alike_62 ?_
          refine lv_icmp_ne (tgt := 70) hx hb dX0_alike_63 (by decide) (fun hc19 => ?_) (fun hc19 => ?_)
          · have hq20 := im hq20 hc19
            refine lv_iconst hx hb dX0_alike_70 kc_0 ?_
            have hq20 := Option.some.inj hq20
            subst hq20
            exact hjq20 _ _ _ _ _ _ hJ (lv_sub hl [0, 1, 2, 3, 4, 6] rfl)
          · have hq20 := ip hq20 hc19
            refine lv_iconst hx hb dX0_alike_66 kc_1 ?_
            refine lv_goto (tgt := 71) hx hb dX0_alike_67 (by decide) ?_
            have hq20 := Option.some.inj hq20
            subst hq20
            exact hjq20 _ _ _ _ _ _ hJ (lv_sub hl [0, 1, 2, 3, 4, 6] rfl)
def C_lot (σ : CM) (v1 : Int32) : Option (Int32 × CM) :=
  (some (cput σ 0 0 14 (((1103515245 : Int32) * (σ 0 0 14)) + (12345 : Int32)))).bind fun σ1 =>
  (irm (((σ1 0 0 14).toUInt32 >>> ((16 : Int32).toUInt32 &&& Int32.toUInt32 31)).toInt32) v1).bind fun x2 =>
  some (x2, σ1)
theorem hdC_lot : yX0_lot.cls = RX0 ∧ yX0_lot.cls ≠ "java/lang/invoke/MethodHandle" ∧ yX0_lot.cls ≠ "java/lang/invoke/VarHandle" ∧ (parseMethodDescriptor yX0_lot.desc).map (fun d => d.parameters.length) = some 1 := by decide +kernel
set_option maxHeartbeats 4000000 in
theorem metC_lot (l : Launch) (σ : CM) (v1 : Int32) (res : Int32 × CM) (h : C_lot σ v1 = some res) : MetC l yX0_lot (ws_ yX0_lot cX0_lot 2 (some .int)) 1 0 false false false false false false (fun G => [.ref (gA G 0 0), .int v1]) σ (fun _ => (some (.int res.1))) res.2 := by
  refine met_wC (own := RX0) (by decide +kernel) rfl (by simp [cRt]) (fun _ => Nat.le_of_ble_eq_true rfl) (fun G p e s m args below meth c Q hr1 hr2 C hE ls hl hJ => ?_)
  have hx := C.1.1
  have hb := C.1.2.1
  have hown := C.1.2.2.2.1
  have hts := C.1.2.2.2.2
  have hl : lv_has ls 2 [(0, .ref (gA G 0 0)), (1, .int v1)] := hl
  unfold C_lot at h
  refine lv_aload_n hx hb dX0_lot_0 rfl (lv_at hl 0 rfl) ?_
  refine lv_ldcw (v := (1103515245 : Int32)) hx hb hown (hts _ q1086) dX0_lot_1 ?_
  refine lv_aload_n hx hb dX0_lot_4 rfl (lv_at hl 0 rfl) ?_
  refine cj_g0 C hJ 0 0 14 (ad_s rfl) (Nat.le_of_ble_eq_true rfl) (Nat.le_of_ble_eq_true rfl) rfl rfl rfl rfl (fl_X0_389_0 C) dX0_lot_5 ?_
  refine lv_imul hx hb dX0_lot_8 ?_
  refine lv_sipush hx hb dX0_lot_9 ks_12345 ?_
  refine lv_iadd hx hb dX0_lot_12 ?_
  obtain ⟨σ1, hσ1, h⟩ := ob h
  refine cj_p0 C hJ 0 0 14 (ad_s rfl) (Nat.le_of_ble_eq_true rfl) (Nat.le_of_ble_eq_true rfl) rfl rfl rfl rfl rfl rfl rfl (fl_X0_389_0 C) hσ1 dX0_lot_13 (fun H locs hJ => ?_)
  refine lv_aload_n hx hb dX0_lot_16 rfl (lv_at hl 0 rfl) ?_
  refine cj_g0 C hJ 0 0 14 (ad_s rfl) (Nat.le_of_ble_eq_true rfl) (Nat.le_of_ble_eq_true rfl) rfl rfl rfl rfl (fl_X0_389_0 C) dX0_lot_17 ?_
  refine lv_bipush hx hb dX0_lot_20 kb_16 ?_
  refine lv_iushr (v := ((σ1 0 0 14).toUInt32 >>> ((16 : Int32).toUInt32 &&& Int32.toUInt32 31)).toInt32) hx hb dX0_lot_22 rfl ?_
  refine lv_iload_n hx hb dX0_lot_23 rfl (lv_at hl 1 rfl) ?_
  obtain ⟨x2, hx2, h⟩ := ob h
  refine my_irem hx hb hx2 dX0_lot_24 ?_
  have h := Option.some.inj h
  subst h
  exact hE _ _ _ _ _ _ _ _ _ _ _ _ (some (.int (x2))) hJ (fun h => by cases h) (fun h => by cases h) ⟨_, rfl⟩ rfl dX0_lot_25
def C_draws (σ : CM) (v1 : Nat) : Option (CM) :=
  (C_lot σ (4 : Int32)).bind fun c1 =>
  (cas c1.2 18 v1 (0 : Int32) c1.1).bind fun σ4 =>
  (C_lot σ4 (20 : Int32)).bind fun c5 =>
  (cas c5.2 18 v1 (1 : Int32) c5.1).bind fun σ8 =>
  (C_lot σ8 (12 : Int32)).bind fun c9 =>
  (cas c9.2 18 v1 (2 : Int32) c9.1).bind fun σ12 =>
  some σ12
theorem hdC_draws : yX0_draws.cls = RX0 ∧ yX0_draws.cls ≠ "java/lang/invoke/MethodHandle" ∧ yX0_draws.cls ≠ "java/lang/invoke/VarHandle" ∧ (parseMethodDescriptor yX0_draws.desc).map (fun d => d.parameters.length) = some 1 := by decide +kernel
set_option maxHeartbeats 4000000 in
theorem metC_draws (l : Launch) (σ : CM) (v1 : Nat) (res : CM) (h : C_draws σ v1 = some res) : MetC l yX0_draws (ws_ yX0_draws cX0_draws 2 none) 2 0 false false false false false false (fun G => [.ref (gA G 0 0), .ref (gA G 18 v1)]) σ (fun _ => none) res := by
  refine met_wC (own := RX0) (by decide +kernel) rfl (by simp [cRt]) (fun _ => Nat.le_of_ble_eq_true rfl) (fun G p e s m args below meth c Q hr1 hr2 C hE ls hl hJ => ?_)
  have hx := C.1.1
  have hb := C.1.2.1
  have hown := C.1.2.2.2.1
  have hts := C.1.2.2.2.2
  have hl : lv_has ls 2 [(0, .ref (gA G 0 0)), (1, .ref (gA G 18 v1))] := hl
  unfold C_draws at h
  refine lv_aload_n hx hb dX0_draws_0 rfl (lv_at hl 1 rfl) ?_
  refine lv_iconst hx hb dX0_draws_1 kc_0 ?_
  refine lv_aload_n hx hb dX0_draws_2 rfl (lv_at hl 0 rfl) ?_
  refine lv_iconst hx hb dX0_draws_3 kc_4 ?_
  obtain ⟨c1, hc1, h⟩ := ob h
  refine cc_V (As := [.int (4 : Int32)]) (rest := [.int (0 : Int32), .ref (gA G 18 v1)]) C hJ (metC_lot l σ (4 : Int32) c1 hc1) rfl rfl (show 0 + 0 ≤ 0 from Nat.le_of_ble_eq_true rfl) (cost_ok false false false false _ _ (fun h => by cases h) (fun h => by cases h)) (fun h => by cases h) (fun h => by cases h) (cj_recv C hJ 0 0 (ad_s rfl) (Nat.le_of_ble_eq_true rfl) rfl rfl) (cwV 1 hts (lw_V q1082 q1084 qs44 q109 q1085) rfl rfl rfl hdC_lot ⟨(Nat.le_of_ble_eq_true rfl), (Nat.le_of_ble_eq_true rfl)⟩) rfl hl.1 rfl (lv_room (Nat.le_of_ble_eq_true rfl)) dX0_draws_4 (fun D2 H locs _ hJ => ?_)
  obtain ⟨σ4, hσ4, h⟩ := ob h
  refine cj_is C hJ 18 v1 (ad_s rfl) rfl rfl rfl hσ4 dX0_draws_7 (fun H locs hJ => ?_)
  refine lv_aload_n hx hb dX0_draws_8 rfl (lv_at hl 1 rfl) ?_
  refine lv_iconst hx hb dX0_draws_9 kc_1 ?_
  refine lv_aload_n hx hb dX0_draws_10 rfl (lv_at hl 0 rfl) ?_
  refine lv_bipush hx hb dX0_draws_11 kb_20 ?_
  obtain ⟨c5, hc5, h⟩ := ob h
  refine cc_V (As := [.int (20 : Int32)]) (rest := [.int (1 : Int32), .ref (gA G 18 v1)]) C hJ (metC_lot l σ4 (20 : Int32) c5 hc5) rfl rfl (show 0 + 0 ≤ 0 from Nat.le_of_ble_eq_true rfl) (cost_ok false false false false _ _ (fun h => by cases h) (fun h => by cases h)) (fun h => by cases h) (fun h => by cases h) (cj_recv C hJ 0 0 (ad_s rfl) (Nat.le_of_ble_eq_true rfl) rfl rfl) (cwV 1 hts (lw_V q1082 q1084 qs44 q109 q1085) rfl rfl rfl hdC_lot ⟨(Nat.le_of_ble_eq_true rfl), (Nat.le_of_ble_eq_true rfl)⟩) rfl hl.1 rfl (lv_room (Nat.le_of_ble_eq_true rfl)) dX0_draws_13 (fun D6 H locs _ hJ => ?_)
  obtain ⟨σ8, hσ8, h⟩ := ob h
  refine cj_is C hJ 18 v1 (ad_s rfl) rfl rfl rfl hσ8 dX0_draws_16 (fun H locs hJ => ?_)
  refine lv_aload_n hx hb dX0_draws_17 rfl (lv_at hl 1 rfl) ?_
  refine lv_iconst hx hb dX0_draws_18 kc_2 ?_
  refine lv_aload_n hx hb dX0_draws_19 rfl (lv_at hl 0 rfl) ?_
  refine lv_bipush hx hb dX0_draws_20 kb_12 ?_
  obtain ⟨c9, hc9, h⟩ := ob h
  refine cc_V (As := [.int (12 : Int32)]) (rest := [.int (2 : Int32), .ref (gA G 18 v1)]) C hJ (metC_lot l σ8 (12 : Int32) c9 hc9) rfl rfl (show 0 + 0 ≤ 0 from Nat.le_of_ble_eq_true rfl) (cost_ok false false false false _ _ (fun h => by cases h) (fun h => by cases h)) (fun h => by cases h) (fun h => by cases h) (cj_recv C hJ 0 0 (ad_s rfl) (Nat.le_of_ble_eq_true rfl) rfl rfl) (cwV 1 hts (lw_V q1082 q1084 qs44 q109 q1085) rfl rfl rfl hdC_lot ⟨(Nat.le_of_ble_eq_true rfl), (Nat.le_of_ble_eq_true rfl)⟩) rfl hl.1 rfl (lv_room (Nat.le_of_ble_eq_true rfl)) dX0_draws_22 (fun D10 H locs _ hJ => ?_)
  obtain ⟨σ12, hσ12, h⟩ := ob h
  refine cj_is C hJ 18 v1 (ad_s rfl) rfl rfl rfl hσ12 dX0_draws_25 (fun H locs hJ => ?_)
  have h := Option.some.inj h
  subst h
  exact hE _ _ _ _ _ _ _ _ _ _ _ _ none hJ (fun h => by cases h) (fun h => by cases h) rfl rfl dX0_draws_26
