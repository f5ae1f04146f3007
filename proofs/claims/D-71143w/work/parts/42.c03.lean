/-! the component, walked (printed by tool/gen_c.py) -/
set_option maxRecDepth 100000
def C_governments (σ : CM) : Option (Int32 × CM) :=
  (C_find σ).bind fun c1 =>
  (C_governmentsNow c1).bind fun c4 =>
  some (c4, c1)
theorem hdC_governments : yX0_governments.cls = RX0 ∧ yX0_governments.cls ≠ "java/lang/invoke/MethodHandle" ∧ yX0_governments.cls ≠ "java/lang/invoke/VarHandle" ∧ (parseMethodDescriptor yX0_governments.desc).map (fun d => d.parameters.length) = some 0 := by decide +kernel
set_option maxHeartbeats 4000000 in
theorem metC_governments (l : Launch) (σ : CM) (res : Int32 × CM) (h : C_governments σ = some res) : MetC l yX0_governments (ws_ yX0_governments cX0_governments 1 (some .int)) 21 0 true true false false false false (fun G => [.ref (gA G 0 0)]) σ (fun _ => (some (.int res.1))) res.2 := by
  refine met_wC (own := RX0) (by decide +kernel) rfl (by simp [cRt]) (fun _ => Nat.le_of_ble_eq_true rfl) (fun G p e s m args below meth c Q hr1 hr2 C hE ls hl hJ => ?_)
  have hx := C.1.1
  have hb := C.1.2.1
  have hown := C.1.2.2.2.1
  have hts := C.1.2.2.2.2
  have hl : lv_has ls 1 [(0, .ref (gA G 0 0))] := hl
  unfold C_governments at h
  refine lv_aload_n hx hb dX0_governments_0 rfl (lv_at hl 0 rfl) ?_
  obtain ⟨c1, hc1, h⟩ := ob h
  refine cc_V (As := []) (rest := []) C hJ (metC_find l σ c1 hc1) rfl rfl (show 0 + 0 ≤ 0 from Nat.le_of_ble_eq_true rfl) (cost_ok true true true true _ _ (fun _ => Or.inl rfl) (fun _ => Or.inl rfl)) (fun h => by cases h) (fun h => by cases h) (cj_recv C hJ 0 0 (ad_s rfl) (Nat.le_of_ble_eq_true rfl) rfl rfl) (cwV 0 hts (lw_V q809 q811 qs10 q109 q812) rfl rfl rfl hdC_find ⟨(Nat.le_of_ble_eq_true rfl), (Nat.le_of_ble_eq_true rfl)⟩) rfl hl.1 rfl (lv_room (Nat.le_of_ble_eq_true rfl)) dX0_governments_1 (fun D2 H locs _ hJ => ?_)
  refine lv_aload_n hx hb dX0_governments_4 rfl (lv_at hl 0 rfl) ?_
  obtain ⟨c4, hc4, h⟩ := ob h
  refine cc_Vt (As := []) (rest := []) C hJ (metC_governmentsNow l c1 c4 hc4) rfl rfl (show 0 + 0 ≤ 0 from Nat.le_of_ble_eq_true rfl) (cost_ok false false true true _ _ (fun h => by cases h) (fun h => by cases h)) (fun _ => rfl) (fun _ => rfl) (cj_recv C hJ 0 0 (ad_s rfl) (Nat.le_of_ble_eq_true rfl) rfl rfl) (cwV 0 hts (lw_V q926 q928 qs25 q109 q929) rfl rfl rfl hdC_governmentsNow ⟨(Nat.le_of_ble_eq_true rfl), (Nat.le_of_ble_eq_true rfl)⟩) rfl hl.1 rfl (lv_room (Nat.le_of_ble_eq_true rfl)) dX0_governments_5 (fun H locs hJ => ?_)
  have h := Option.some.inj h
  subst h
  exact hE _ _ _ _ _ _ _ _ _ _ _ _ (some (.int (c4))) hJ (fun h => by cases h) (fun h => by cases h) ⟨_, rfl⟩ rfl dX0_governments_8
def C_carried (σ : CM) : Option (Int32 × CM) :=
  (C_find σ).bind fun c1 =>
  (C_carriedNow c1).bind fun c4 =>
  some (c4, c1)
theorem hdC_carried : yX0_carried.cls = RX0 ∧ yX0_carried.cls ≠ "java/lang/invoke/MethodHandle" ∧ yX0_carried.cls ≠ "java/lang/invoke/VarHandle" ∧ (parseMethodDescriptor yX0_carried.desc).map (fun d => d.parameters.length) = some 0 := by decide +kernel
set_option maxHeartbeats 4000000 in
theorem metC_carried (l : Launch) (σ : CM) (res : Int32 × CM) (h : C_carried σ = some res) : MetC l yX0_carried (ws_ yX0_carried cX0_carried 1 (some .int)) 21 0 true true false false false false (fun G => [.ref (gA G 0 0)]) σ (fun _ => (some (.int res.1))) res.2 := by
  refine met_wC (own := RX0) (by decide +kernel) rfl (by simp [cRt]) (fun _ => Nat.le_of_ble_eq_true rfl) (fun G p e s m args below meth c Q hr1 hr2 C hE ls hl hJ => ?_)
  have hx := C.1.1
  have hb := C.1.2.1
  have hown := C.1.2.2.2.1
  have hts := C.1.2.2.2.2
  have hl : lv_has ls 1 [(0, .ref (gA G 0 0))] := hl
  unfold C_carried at h
  refine lv_aload_n hx hb dX0_carried_0 rfl (lv_at hl 0 rfl) ?_
  obtain ⟨c1, hc1, h⟩ := ob h
  refine cc_V (As := []) (rest := []) C hJ (metC_find l σ c1 hc1) rfl rfl (show 0 + 0 ≤ 0 from Nat.le_of_ble_eq_true rfl) (cost_ok true true true true _ _ (fun _ => Or.inl rfl) (fun _ => Or.inl rfl)) (fun h => by cases h) (fun h => by cases h) (cj_recv C hJ 0 0 (ad_s rfl) (Nat.le_of_ble_eq_true rfl) rfl rfl) (cwV 0 hts (lw_V q809 q811 qs10 q109 q812) rfl rfl rfl hdC_find ⟨(Nat.le_of_ble_eq_true rfl), (Nat.le_of_ble_eq_true rfl)⟩) rfl hl.1 rfl (lv_room (Nat.le_of_ble_eq_true rfl)) dX0_carried_1 (fun D2 H locs _ hJ => ?_)
  refine lv_aload_n hx hb dX0_carried_4 rfl (lv_at hl 0 rfl) ?_
  obtain ⟨c4, hc4, h⟩ := ob h
  refine cc_Vt (As := []) (rest := []) C hJ (metC_carriedNow l c1 c4 hc4) rfl rfl (show 0 + 0 ≤ 0 from Nat.le_of_ble_eq_true rfl) (cost_ok false false true true _ _ (fun h => by cases h) (fun h => by cases h)) (fun _ => rfl) (fun _ => rfl) (cj_recv C hJ 0 0 (ad_s rfl) (Nat.le_of_ble_eq_true rfl) rfl rfl) (cwV 0 hts (lw_V q934 q936 qs26 q109 q937) rfl rfl rfl hdC_carriedNow ⟨(Nat.le_of_ble_eq_true rfl), (Nat.le_of_ble_eq_true rfl)⟩) rfl hl.1 rfl (lv_room (Nat.le_of_ble_eq_true rfl)) dX0_carried_5 (fun H locs hJ => ?_)
  have h := Option.some.inj h
  subst h
  exact hE _ _ _ _ _ _ _ _ _ _ _ _ (some (.int (c4))) hJ (fun h => by cases h) (fun h => by cases h) ⟨_, rfl⟩ rfl dX0_carried_8
def C_crowd (σ : CM) (v1 : Int32) : Option (Int32 × CM) :=
  (C_find σ).bind fun c1 =>
  (C_in c1 v1.toInt64 (0 : Int64) (2 : Int64)).bind fun c4 =>
  if c4 = 0 then
    some ((-2 : Int32), c1)
  else
    (C_crowdBy c1 v1).bind fun c6 =>
    some (c6, c1)
theorem hdC_crowd : yX0_crowd.cls = RX0 ∧ yX0_crowd.cls ≠ "java/lang/invoke/MethodHandle" ∧ yX0_crowd.cls ≠ "java/lang/invoke/VarHandle" ∧ (parseMethodDescriptor yX0_crowd.desc).map (fun d => d.parameters.length) = some 1 := by decide +kernel
set_option maxHeartbeats 4000000 in
theorem metC_crowd (l : Launch) (σ : CM) (v1 : Int32) (res : Int32 × CM) (h : C_crowd σ v1 = some res) : MetC l yX0_crowd (ws_ yX0_crowd cX0_crowd 2 (some .int)) 21 0 true true false false false false (fun G => [.ref (gA G 0 0), .int v1]) σ (fun _ => (some (.int res.1))) res.2 := by
  refine met_wC (own := RX0) (by decide +kernel) rfl (by simp [cRt]) (fun _ => Nat.le_of_ble_eq_true rfl) (fun G p e s m args below meth c Q hr1 hr2 C hE ls hl hJ => ?_)
  have hx := C.1.1
  have hb := C.1.2.1
  have hown := C.1.2.2.2.1
  have hts := C.1.2.2.2.2
  have hl : lv_has ls 2 [(0, .ref (gA G 0 0)), (1, .int v1)] := hl
  unfold C_crowd at h
  refine lv_aload_n hx hb dX0_crowd_0 rfl (lv_at hl 0 rfl) ?_
  obtain ⟨c1, hc1, h⟩ := ob h
  refine cc_V (As := []) (rest := []) C hJ (metC_find l σ c1 hc1) rfl rfl (show 0 + 0 ≤ 0 from Nat.le_of_ble_eq_true rfl) (cost_ok true true true true _ _ (fun _ => Or.inl rfl) (fun _ => Or.inl rfl)) (fun h => by cases h) (fun h => by cases h) (cj_recv C hJ 0 0 (ad_s rfl) (Nat.le_of_ble_eq_true rfl) rfl rfl) (cwV 0 hts (lw_V q809 q811 qs10 q109 q812) rfl rfl rfl hdC_find ⟨(Nat.le_of_ble_eq_true rfl), (Nat.le_of_ble_eq_true rfl)⟩) rfl hl.1 rfl (lv_room (Nat.le_of_ble_eq_true rfl)) dX0_crowd_1 (fun D2 H locs _ hJ => ?_)
  refine lv_iload_n hx hb dX0_crowd_4 rfl (lv_at hl 1 rfl) ?_
  refine lv_i2l (v := v1.toInt64) hx hb dX0_crowd_5 rfl ?_
  refine lv_lconst (v := (0 : Int64)) hx hb dX0_crowd_6 rfl ?_
  refine lv_ldc2 (v := (2 : Int64)) hx hb hown (hts _ q529) dX0_crowd_7 ?_
  obtain ⟨c4, hc4, h⟩ := ob h
  refine cc_St (As := [.long v1.toInt64, .long (0 : Int64), .long (2 : Int64)]) (rest := []) C hJ (metC_in l c1 v1.toInt64 (0 : Int64) (2 : Int64) c4 hc4) rfl rfl (show 0 + 0 ≤ 0 from Nat.le_of_ble_eq_true rfl) (cost_ok false false true true _ _ (fun h => by cases h) (fun h => by cases h)) (fun h => by cases h) (fun h => by cases h) (va_cwS 3 hts (lw_S q145 q146 q109 q147) rfl rfl rfl hdC_in ⟨(Nat.le_of_ble_eq_true rfl), (Nat.le_of_ble_eq_true rfl)⟩) rfl hl.1 rfl (lv_room (Nat.le_of_ble_eq_true rfl)) dX0_crowd_10 (fun H locs hJ => ?_)
  refine lv_if_eq (tgt := 24) hx hb dX0_crowd_13 (by decide) (fun hc5 => ?_) (fun hc5 => ?_)
  · have h := ip h hc5
    refine lv_bipush hx hb dX0_crowd_24 kb_m2 ?_
    have h := Option.some.inj h
    subst h
    exact hE _ _ _ _ _ _ _ _ _ _ _ _ (some (.int ((-2 : Int32)))) hJ (fun h => by cases h) (fun h => by cases h) ⟨_, rfl⟩ rfl dX0_crowd_26
  · have h := im h hc5
    refine lv_aload_n hx hb dX0_crowd_16 rfl (lv_at hl 0 rfl) ?_
    refine lv_iload_n hx hb dX0_crowd_17 rfl (lv_at hl 1 rfl) ?_
    obtain ⟨c6, hc6, h⟩ := ob h
    refine cc_Vt (As := [.int v1]) (rest := []) C hJ (metC_crowdBy l c1 v1 c6 hc6) rfl rfl (show 0 + 0 ≤ 0 from Nat.le_of_ble_eq_true rfl) (cost_ok false false true true _ _ (fun h => by cases h) (fun h => by cases h)) (fun _ => rfl) (fun _ => rfl) (cj_recv C hJ 0 0 (ad_s rfl) (Nat.le_of_ble_eq_true rfl) rfl rfl) (cwV 1 hts (lw_V q942 q944 qs27 q109 q945) rfl rfl rfl hdC_crowdBy ⟨(Nat.le_of_ble_eq_true rfl), (Nat.le_of_ble_eq_true rfl)⟩) rfl hl.1 rfl (lv_room (Nat.le_of_ble_eq_true rfl)) dX0_crowd_18 (fun H locs hJ => ?_)
    refine lv_goto (tgt := 26) hx hb dX0_crowd_21 (by decide) ?_
    have h := Option.some.inj h
    subst h
    exact hE _ _ _ _ _ _ _ _ _ _ _ _ (some (.int (c6))) hJ (fun h => by cases h) (fun h => by cases h) ⟨_, rfl⟩ rfl dX0_crowd_26
def C_orator (σ : CM) : Option (Int32 × CM) :=
  (C_find σ).bind fun c1 =>
  (C_oratorNow c1).bind fun c4 =>
  some (c4, c1)
theorem hdC_orator : yX0_orator.cls = RX0 ∧ yX0_orator.cls ≠ "java/lang/invoke/MethodHandle" ∧ yX0_orator.cls ≠ "java/lang/invoke/VarHandle" ∧ (parseMethodDescriptor yX0_orator.desc).map (fun d => d.parameters.length) = some 0 := by decide +kernel
set_option maxHeartbeats 4000000 in
theorem metC_orator (l : Launch) (σ : CM) (res : Int32 × CM) (h : C_orator σ = some res) : MetC l yX0_orator (ws_ yX0_orator cX0_orator 1 (some .int)) 21 0 true true false false false false (fun G => [.ref (gA G 0 0)]) σ (fun _ => (some (.int res.1))) res.2 := by
  refine met_wC (own := RX0) (by decide +kernel) rfl (by simp [cRt]) (fun _ => Nat.le_of_ble_eq_true rfl) (fun G p e s m args below meth c Q hr1 hr2 C hE ls hl hJ => ?_)
  have hx := C.1.1
  have hb := C.1.2.1
  have hown := C.1.2.2.2.1
  have hts := C.1.2.2.2.2
  have hl : lv_has ls 1 [(0, .ref (gA G 0 0))] := hl
  unfold C_orator at h
  refine lv_aload_n hx hb dX0_orator_0 rfl (lv_at hl 0 rfl) ?_
  obtain ⟨c1, hc1, h⟩ := ob h
  refine cc_V (As := []) (rest := []) C hJ (metC_find l σ c1 hc1) rfl rfl (show 0 + 0 ≤ 0 from Nat.le_of_ble_eq_true rfl) (cost_ok true true true true _ _ (fun _ => Or.inl rfl) (fun _ => Or.inl rfl)) (fun h => by cases h) (fun h => by cases h) (cj_recv C hJ 0 0 (ad_s rfl) (Nat.le_of_ble_eq_true rfl) rfl rfl) (cwV 0 hts (lw_V q809 q811 qs10 q109 q812) rfl rfl rfl hdC_find ⟨(Nat.le_of_ble_eq_true rfl), (Nat.le_of_ble_eq_true rfl)⟩) rfl hl.1 rfl (lv_room (Nat.le_of_ble_eq_true rfl)) dX0_orator_1 (fun D2 H locs _ hJ => ?_)
  refine lv_aload_n hx hb dX0_orator_4 rfl (lv_at hl 0 rfl) ?_
  obtain ⟨c4, hc4, h⟩ := ob h
  refine cc_Vt (As := []) (rest := []) C hJ (metC_oratorNow l c1 c4 hc4) rfl rfl (show 0 + 0 ≤ 0 from Nat.le_of_ble_eq_true rfl) (cost_ok false false true true _ _ (fun h => by cases h) (fun h => by cases h)) (fun _ => rfl) (fun _ => rfl) (cj_recv C hJ 0 0 (ad_s rfl) (Nat.le_of_ble_eq_true rfl) rfl rfl) (cwV 0 hts (lw_V q950 q952 qs28 q109 q953) rfl rfl rfl hdC_oratorNow ⟨(Nat.le_of_ble_eq_true rfl), (Nat.le_of_ble_eq_true rfl)⟩) rfl hl.1 rfl (lv_room (Nat.le_of_ble_eq_true rfl)) dX0_orator_5 (fun H locs hJ => ?_)
  have h := Option.some.inj h
  subst h
  exact hE _ _ _ _ _ _ _ _ _ _ _ _ (some (.int (c4))) hJ (fun h => by cases h) (fun h => by cases h) ⟨_, rfl⟩ rfl dX0_orator_8
def C_still (σ : CM) : Option (Int32 × CM) :=
  (C_find σ).bind fun c1 =>
  (C_stillNow c1).bind fun c4 =>
  some (c4, c1)
theorem hdC_still : yX0_still.cls = RX0 ∧ yX0_still.cls ≠ "java/lang/invoke/MethodHandle" ∧ yX0_still.cls ≠ "java/lang/invoke/VarHandle" ∧ (parseMethodDescriptor yX0_still.desc).map (fun d => d.parameters.length) = some 0 := by decide +kernel
set_option maxHeartbeats 4000000 in
theorem metC_still (l : Launch) (σ : CM) (res : Int32 × CM) (h : C_still σ = some res) : MetC l yX0_still (ws_ yX0_still cX0_still 1 (some .int)) 21 0 true true false false false false (fun G => [.ref (gA G 0 0)]) σ (fun _ => (some (.int res.1))) res.2 := by
  refine met_wC (own := RX0) (by decide +kernel) rfl (by simp [cRt]) (fun _ => Nat.le_of_ble_eq_true rfl) (fun G p e s m args below meth c Q hr1 hr2 C hE ls hl hJ => ?_)
  have hx := C.1.1
  have hb := C.1.2.1
  have hown := C.1.2.2.2.1
  have hts := C.1.2.2.2.2
  have hl : lv_has ls 1 [(0, .ref (gA G 0 0))] := hl
  unfold C_still at h
  refine lv_aload_n hx hb dX0_still_0 rfl (lv_at hl 0 rfl) ?_
  obtain ⟨c1, hc1, h⟩ := ob h
  refine cc_V (As := []) (rest := []) C hJ (metC_find l σ c1 hc1) rfl rfl (show 0 + 0 ≤ 0 from Nat.le_of_ble_eq_true rfl) (cost_ok true true true true _ _ (fun _ => Or.inl rfl) (fun _ => Or.inl rfl)) (fun h => by cases h) (fun h => by cases h) (cj_recv C hJ 0 0 (ad_s rfl) (Nat.le_of_ble_eq_true rfl) rfl rfl) (cwV 0 hts (lw_V q809 q811 qs10 q109 q812) rfl rfl rfl hdC_find ⟨(Nat.le_of_ble_eq_true rfl), (Nat.le_of_ble_eq_true rfl)⟩) rfl hl.1 rfl (lv_room (Nat.le_of_ble_eq_true rfl)) dX0_still_1 (fun D2 H locs _ hJ => ?_)
  refine lv_aload_n hx hb dX0_still_4 rfl (lv_at hl 0 rfl) ?_
  obtain ⟨c4, hc4, h⟩ := ob h
  refine cc_Vt (As := []) (rest := []) C hJ (metC_stillNow l c1 c4 hc4) rfl rfl (show 0 + 0 ≤ 0 from Nat.le_of_ble_eq_true rfl) (cost_ok false false true true _ _ (fun h => by cases h) (fun h => by cases h)) (fun _ => rfl) (fun _ => rfl) (cj_recv C hJ 0 0 (ad_s rfl) (Nat.le_of_ble_eq_true rfl) rfl rfl) (cwV 0 hts (lw_V q958 q960 qs29 q109 q961) rfl rfl rfl hdC_stillNow ⟨(Nat.le_of_ble_eq_true rfl), (Nat.le_of_ble_eq_true rfl)⟩) rfl hl.1 rfl (lv_room (Nat.le_of_ble_eq_true rfl)) dX0_still_5 (fun H locs hJ => ?_)
  have h := Option.some.inj h
  subst h
  exact hE _ _ _ _ _ _ _ _ _ _ _ _ (some (.int (c4))) hJ (fun h => by cases h) (fun h => by cases h) ⟨_, rfl⟩ rfl dX0_still_8
def C_isCalm (σ : CM) (v1 : Int32) : Option (Int32 × CM) :=
  (some (cput σ 0 0 8 v1)).bind fun σ1 =>
  (C_find σ1).bind fun c2 =>
  (C_carriedNow c2).bind fun c5 =>
  (if c5 = (20 : Int32) then
      some (1 : Int32)
    else
      some (0 : Int32) : Option (Int32)).bind fun q8 =>
  (some (cput c2 0 0 8 (0 : Int32))).bind fun σ9 =>
  some ((bz q8), σ9)
theorem hdC_isCalm : yX0_isCalm.cls = RX0 ∧ yX0_isCalm.cls ≠ "java/lang/invoke/MethodHandle" ∧ yX0_isCalm.cls ≠ "java/lang/invoke/VarHandle" ∧ (parseMethodDescriptor yX0_isCalm.desc).map (fun d => d.parameters.length) = some 1 := by decide +kernel
set_option maxHeartbeats 4000000 in
theorem metC_isCalm (l : Launch) (σ : CM) (v1 : Int32) (res : Int32 × CM) (h : C_isCalm σ v1 = some res) : MetC l yX0_isCalm (wsW_ yX0_isCalm cX0_isCalm 4 (some .boolean) [((5 : Nat), (24 : Nat), (31 : Nat), (0 : Nat))]) 21 0 true true true true false false (fun G => [.ref (gA G 0 0), .int v1]) σ (fun _ => (some (.int res.1))) res.2 := by
  refine met_wCW (own := RX0) (by decide +kernel) rfl (by simp [cRt]) (fun _ => Nat.le_of_ble_eq_true rfl) (fun G p e s m args below meth c Q hr1 hr2 C hE ls hl hJ => ?_)
  have hx := C.1.1
  have hb := C.1.2.1
  have hown := C.1.2.2.2.1
  have hts := C.1.2.2.2.2
  have hl : lv_has ls 4 [(0, .ref (gA G 0 0)), (1, .int v1)] := hl
  unfold C_isCalm at h
  refine lv_aload_n hx hb dX0_isCalm_0 rfl (lv_at hl 0 rfl) ?_
  refine lv_iload_n hx hb dX0_isCalm_1 rfl (lv_at hl 1 rfl) ?_
  obtain ⟨σ1, hσ1, h⟩ := ob h
  refine cj_p0 C hJ 0 0 8 (ad_s rfl) (Nat.le_of_ble_eq_true rfl) (Nat.le_of_ble_eq_true rfl) rfl rfl rfl rfl rfl rfl rfl (fl_X0_251_0 C) hσ1 dX0_isCalm_2 (fun H locs hJ => ?_)
  refine lv_aload_n hx hb dX0_isCalm_5 rfl (lv_at hl 0 rfl) ?_
  obtain ⟨c2, hc2, h⟩ := ob h
  refine cc_V (As := []) (rest := []) C hJ (metC_find l σ1 c2 hc2) rfl rfl (show 0 + 0 ≤ 0 from Nat.le_of_ble_eq_true rfl) (cost_ok true true true true _ _ (fun _ => Or.inl rfl) (fun _ => Or.inl rfl)) (fun h => by cases h) (fun h => by cases h) (cj_recv C hJ 0 0 (ad_s rfl) (Nat.le_of_ble_eq_true rfl) rfl rfl) (cwV 0 hts (lw_V q809 q811 qs10 q109 q812) rfl rfl rfl hdC_find ⟨(Nat.le_of_ble_eq_true rfl), (Nat.le_of_ble_eq_true rfl)⟩) rfl hl.1 rfl (lv_room (Nat.le_of_ble_eq_true rfl)) dX0_isCalm_6 (fun D3 H locs _ hJ => ?_)
  refine lv_aload_n hx hb dX0_isCalm_9 rfl (lv_at hl 0 rfl) ?_
  obtain ⟨c5, hc5, h⟩ := ob h
  refine cc_Vt (As := []) (rest := []) C hJ (metC_carriedNow l c2 c5 hc5) rfl rfl (show 0 + 0 ≤ 0 from Nat.le_of_ble_eq_true rfl) (cost_ok false false true true _ _ (fun h => by cases h) (fun h => by cases h)) (fun _ => rfl) (fun _ => rfl) (cj_recv C hJ 0 0 (ad_s rfl) (Nat.le_of_ble_eq_true rfl) rfl rfl) (cwV 0 hts (lw_V q934 q936 qs26 q109 q937) rfl rfl rfl hdC_carriedNow ⟨(Nat.le_of_ble_eq_true rfl), (Nat.le_of_ble_eq_true rfl)⟩) rfl hl.1 rfl (lv_room (Nat.le_of_ble_eq_true rfl)) dX0_isCalm_10 (fun H locs hJ => ?_)
  refine lv_bipush hx hb dX0_isCalm_13 kb_20 ?_
  obtain ⟨q8, hq8, h⟩ := ob h
  have hjq8 : ∀ (H : Heap) (locs : List Loc) (ce sl : Nat) (ls : Array Slot), CJ G s (RM 21 0 true true G) 0 true true true true D3 c2 H locs ce sl → lv_has ls 4 [(0, .ref (gA G 0 0))] → W p l e (RM 21 0 true true G) s m args below meth c H locs ce sl Q (F0 m 23 ls [.int q8]) := by
    intro H locs ce sl ls hJ hl
    refine lv_istore_n (lv' := [(2, .int q8), (0, .ref (gA G 0 0))]) hx hb dX0_isCalm_23 rfl hl (Nat.le_of_ble_eq_true rfl) rfl (fun ls hl => ?_)
    refine lv_aload_n hx hb dX0_isCalm_24 rfl (lv_at hl 1 rfl) ?_
    refine lv_iconst hx hb dX0_isCalm_25 kc_0 ?_
    obtain ⟨σ9, hσ9, h⟩ := ob h
    refine cj_p0 C hJ 0 0 8 (ad_s rfl) (Nat.le_of_ble_eq_true rfl) (Nat.le_of_ble_eq_true rfl) rfl rfl rfl rfl rfl rfl rfl (fl_X0_251_0 C) hσ9 dX0_isCalm_26 (fun H locs hJ => ?_)
    refine lv_iload_n hx hb dX0_isCalm_29 rfl (lv_at hl 0 rfl) ?_
    have h := Option.some.inj h
    subst h
    exact hE _ _ _ _ _ _ _ _ _ _ _ _ (some (.int q8)) hJ (fun _ => rfl) (fun _ => rfl) ⟨_, rfl⟩ rfl dX0_isCalm_30
  refine lv_icmp_ne (tgt := 22) hx hb dX0_isCalm_15 (by decide) (fun hc7 => ?_) (fun hc7 => ?_)
  · have hq8 := im hq8 hc7
    refine lv_iconst hx hb dX0_isCalm_22 kc_0 ?_
    have hq8 := Option.some.inj hq8
    subst hq8
    exact hjq8 _ _ _ _ _ hJ (lv_sub hl [0] rfl)
  · have hq8 := ip hq8 hc7
    refine lv_iconst hx hb dX0_isCalm_18 kc_1 ?_
    refine lv_goto (tgt := 23) hx hb dX0_isCalm_19 (by decide) ?_
    have hq8 := Option.some.inj hq8
    subst hq8
    exact hjq8 _ _ _ _ _ hJ (lv_sub hl [0] rfl)
def C_calmBy (σ : CM) (v1 : Int32) : Option (Int32 × CM) :=
  (C_isCalm σ (0 : Int32)).bind fun c1 =>
  if c1.1 = 0 then
    (lp (S := Int32 × CM) (T := (CM) ⊕ (Int32 × CM)) (fun w5 =>
      if (c1.2 6 (evl (c1.2 0 0 3)) 2) ≤ w5.1 then
          some (.inr (.inl w5.2))
        else
          (C_isCalm w5.2 ((1 : Int32) <<< (w5.1 &&& 31))).bind fun c8 =>
          if c8.1 = 0 then
            some (.inl ((w5.1 + 1), c8.2))
          else
            if v1 = (-1 : Int32) then
              some (.inr (.inr ((1 : Int32), c8.2)))
            else
              if v1 = 0 then
                some (.inr (.inr (w5.1, c8.2)))
              else
                some (.inr (.inr ((-1 : Int32), c8.2)))) 2000 ((0 : Int32), c1.2)).bind fun q6 =>
    lpo q6 (fun q6' =>
      (lp (S := Int32 × CM) (T := (CM) ⊕ (Int32 × CM)) (fun w13 =>
        if (c1.2 6 (evl (c1.2 0 0 3)) 2) ≤ w13.1 then
            some (.inr (.inl w13.2))
          else
            (lp (S := Int32 × CM) (T := (CM) ⊕ (Int32 × CM)) (fun w16 =>
              if (c1.2 6 (evl (c1.2 0 0 3)) 2) ≤ w16.1 then
                  some (.inr (.inl w16.2))
                else
                  (C_isCalm w16.2 (((1 : Int32) <<< (w13.1 &&& 31)) ||| ((1 : Int32) <<< (w16.1 &&& 31)))).bind fun c19 =>
                  if c19.1 = 0 then
                    some (.inl ((w16.1 + 1), c19.2))
                  else
                    if v1 = (-1 : Int32) then
                      some (.inr (.inr ((2 : Int32), c19.2)))
                    else
                      if v1 = 0 then
                        some (.inr (.inr (w13.1, c19.2)))
                      else
                        some (.inr (.inr (w16.1, c19.2)))) 2000 ((w13.1 + (1 : Int32)), w13.2)).bind fun q17 =>
            lpo q17 (fun q17' =>
              some (.inl ((w13.1 + 1), q17'))) (fun r => some (.inr (.inr r)))) 2000 ((0 : Int32), q6')).bind fun q14 =>
      lpo q14 (fun q14' =>
        some ((-1 : Int32), q14')) (fun r => some r)) (fun r => some r)
  else
    if v1 = (-1 : Int32) then
      some ((0 : Int32), c1.2)
    else
      some ((-1 : Int32), c1.2)
theorem hdC_calmBy : yX0_calmBy.cls = RX0 ∧ yX0_calmBy.cls ≠ "java/lang/invoke/MethodHandle" ∧ yX0_calmBy.cls ≠ "java/lang/invoke/VarHandle" ∧ (parseMethodDescriptor yX0_calmBy.desc).map (fun d => d.parameters.length) = some 1 := by decide +kernel
set_option maxHeartbeats 4000000 in
theorem metC_calmBy (l : Launch) (σ : CM) (v1 : Int32) (res : Int32 × CM) (h : C_calmBy σ v1 = some res) : MetC l yX0_calmBy (ws_ yX0_calmBy cX0_calmBy 5 (some .int)) 22 0 true true true true false false (fun G => [.ref (gA G 0 0), .int v1]) σ (fun _ => (some (.int res.1))) res.2 := by
  refine met_wC (own := RX0) (by decide +kernel) rfl (by simp [cRt]) (fun _ => Nat.le_of_ble_eq_true rfl) (fun G p e s m args below meth c Q hr1 hr2 C hE ls hl hJ => ?_)
  have hx := C.1.1
  have hb := C.1.2.1
  have hown := C.1.2.2.2.1
  have hts := C.1.2.2.2.2
  have hl : lv_has ls 5 [(0, .ref (gA G 0 0)), (1, .int v1)] := hl
  unfold C_calmBy at h
  refine lv_aload_n hx hb dX0_calmBy_0 rfl (lv_at hl 0 rfl) ?_
  refine lv_iconst hx hb dX0_calmBy_1 kc_0 ?_
  obtain ⟨c1, hc1, h⟩ := ob h
  refine cc_VW (As := [.int (0 : Int32)]) (rest := []) C hJ (metC_isCalm l σ (0 : Int32) c1 hc1) rfl rfl (show 0 + 0 ≤ 0 from Nat.le_of_ble_eq_true rfl) (cost_ok true true true true _ _ (fun _ => Or.inl rfl) (fun _ => Or.inl rfl)) (fun h => by cases h) (fun h => by cases h) (cj_recv C hJ 0 0 (ad_s rfl) (Nat.le_of_ble_eq_true rfl) rfl rfl) (lw_VW q995 q997 qs34 q109 q998) rfl hdC_isCalm ⟨(Nat.le_of_ble_eq_true rfl), (Nat.le_of_ble_eq_true rfl)⟩ rfl hl.1 rfl (lv_room (Nat.le_of_ble_eq_true rfl)) dX0_calmBy_2 (fun D2 H locs _ hJ => ?_)
  refine lv_if_eq (tgt := 19) hx hb dX0_calmBy_5 (by decide) (fun hc4 => ?_) (fun hc4 => ?_)
  · have h := ip h hc4
    refine lv_aload_n hx hb dX0_calmBy_19 rfl (lv_at hl 0 rfl) ?_
    refine cj_gr (v := .ref (gA G 6 (evl (c1.2 0 0 3)))) C hJ 0 0 3 (ad_s rfl) (Nat.le_of_ble_eq_true rfl) (Nat.le_of_ble_eq_true rfl) rfl rfl (fl_X0_102_0 C) (fun _ hL => evq hL) dX0_calmBy_20 ?_
    refine cj_sizeT C hJ (evl (c1.2 0 0 3)) (evl_4 _) (evl_3 _) q528 ⟨(Nat.le_of_ble_eq_true rfl), (Nat.le_of_ble_eq_true rfl)⟩ hl.1 (Nat.le_of_ble_eq_true rfl) dX0_calmBy_23 (fun H locs hJ => ?_)
    refine lv_istore_n (lv' := [(2, .int (c1.2 6 (evl (c1.2 0 0 3)) 2)), (0, .ref (gA G 0 0)), (1, .int v1)]) hx hb dX0_calmBy_26 rfl hl (Nat.le_of_ble_eq_true rfl) rfl (fun ls hl => ?_)
    refine lv_iconst hx hb dX0_calmBy_27 kc_0 ?_
    refine lv_istore_n (lv' := [(3, .int (0 : Int32)), (2, .int (c1.2 6 (evl (c1.2 0 0 3)) 2)), (0, .ref (gA G 0 0)), (1, .int v1)]) hx hb dX0_calmBy_28 rfl hl (Nat.le_of_ble_eq_true rfl) rfl (fun ls hl => ?_)
    obtain ⟨q6, hq6, h⟩ := ob h
    have hxq6 : ∀ q6', q6 = .inl q6' → ∀ (H : Heap) (locs : List Loc) (ce sl : Nat) (ls : Array Slot), CJ G s (RM 22 0 true true G) 0 true true true true D2 q6' H locs ce sl → lv_has ls 5 [(0, .ref (gA G 0 0)), (1, .int v1), (2, .int (c1.2 6 (evl (c1.2 0 0 3)) 2))] → W p l e (RM 22 0 true true G) s m args below meth c H locs ce sl Q (F0 m 69 ls []) := by
      intro q6' heq6
      subst heq6
      have h := lpo_l h
      intro H locs ce sl ls hJ hl
      refine lv_iconst hx hb dX0_calmBy_69 kc_0 ?_
      refine lv_istore_n (lv' := [(3, .int (0 : Int32)), (0, .ref (gA G 0 0)), (1, .int v1), (2, .int (c1.2 6 (evl (c1.2 0 0 3)) 2))]) hx hb dX0_calmBy_70 rfl hl (Nat.le_of_ble_eq_true rfl) rfl (fun ls hl => ?_)
      obtain ⟨q14, hq14, h⟩ := ob h
      have hxq14 : ∀ q14', q14 = .inl q14' → ∀ (H : Heap) (locs : List Loc) (ce sl : Nat) (ls : Array Slot), CJ G s (RM 22 0 true true G) 0 true true true true D2 q14' H locs ce sl → lv_has ls 5 [] → W p l e (RM 22 0 true true G) s m args below meth c H locs ce sl Q (F0 m 134 ls []) := by
        intro q14' heq14
        subst heq14
        have h := lpo_l h
        intro H locs ce sl ls hJ hl
        refine lv_iconst hx hb dX0_calmBy_134 kc_m1 ?_
        have h := Option.some.inj h
        subst h
        exact hE _ _ _ _ _ _ _ _ _ _ _ _ (some (.int ((-1 : Int32)))) hJ (fun _ => rfl) (fun _ => rfl) ⟨_, rfl⟩ rfl dX0_calmBy_135
      refine lp_ind (P := fun (w13 : Int32 × CM) => ∀ (H : Heap) (locs : List Loc) (ce sl : Nat) (ls : Array Slot), CJ G s (RM 22 0 true true G) 0 true true true true D2 w13.2 H locs ce sl → lv_has ls 5 [(0, .ref (gA G 0 0)), (1, .int v1), (2, .int (c1.2 6 (evl (c1.2 0 0 3)) 2)), (3, .int w13.1)] → W p l e (RM 22 0 true true G) s m args below meth c H locs ce sl Q (F0 m 71 ls [])) ?_ _ _ hq14 _ _ _ _ _ hJ (lv_sub hl [1, 2, 3, 0] rfl)
      intro nw13 w13 ihw13 zw13 hzw13 hqw13 H locs ce sl ls hJ hl
      refine lv_iload_n hx hb dX0_calmBy_71 rfl (lv_at hl 3 rfl) ?_
      refine lv_iload_n hx hb dX0_calmBy_72 rfl (lv_at hl 2 rfl) ?_
      refine lv_icmp_ge (tgt := 134) hx hb dX0_calmBy_73 (by decide) (fun hc15 => ?_) (fun hc15 => ?_)
      · have hzw13 := ip hzw13 hc15
        have hzw13 := Option.some.inj hzw13
        subst hzw13
        have hqw13 : _ = q14 := hqw13
        subst hqw13
        exact hxq14 _ rfl _ _ _ _ _ hJ (lv_sub hl [] rfl)
      · have hzw13 := im hzw13 hc15
        refine lv_iload_n hx hb dX0_calmBy_76 rfl (lv_at hl 3 rfl) ?_
        refine lv_iconst hx hb dX0_calmBy_77 kc_1 ?_
        refine lv_iadd hx hb dX0_calmBy_78 ?_
        refine lv_istore (lv' := [(4, .int (w13.1 + (1 : Int32))), (0, .ref (gA G 0 0)), (1, .int v1), (2, .int (c1.2 6 (evl (c1.2 0 0 3)) 2)), (3, .int w13.1)]) hx hb dX0_calmBy_79 hl (Nat.le_of_ble_eq_true rfl) rfl (fun ls hl => ?_)
        obtain ⟨q17, hq17, hzw13⟩ := ob hzw13
        have hxq17 : ∀ q17', q17 = .inl q17' → ∀ (H : Heap) (locs : List Loc) (ce sl : Nat) (ls : Array Slot), CJ G s (RM 22 0 true true G) 0 true true true true D2 q17' H locs ce sl → lv_has ls 5 [(0, .ref (gA G 0 0)), (1, .int v1), (2, .int (c1.2 6 (evl (c1.2 0 0 3)) 2)), (3, .int w13.1)] → W p l e (RM 22 0 true true G) s m args below meth c H locs ce sl Q (F0 m 128 ls []) := by
          intro q17' heq17
          subst heq17
          have hzw13 := lpo_l hzw13
          intro H locs ce sl ls hJ hl
          refine lv_iinc (v := (w13.1 + 1)) (lv' := [(3, .int (w13.1 + 1)), (0, .ref (gA G 0 0)), (1, .int v1), (2, .int (c1.2 6 (evl (c1.2 0 0 3)) 2))]) hx hb dX0_calmBy_128 hl (k := 3) rfl rfl (Nat.le_of_ble_eq_true rfl) rfl (fun ls hl => ?_)
          refine lv_goto (tgt := 71) hx hb dX0_calmBy_131 (by decide) ?_
          have hzw13 := Option.some.inj hzw13
          subst hzw13
          exact ihw13 _ hqw13 _ _ _ _ _ hJ (lv_sub hl [1, 2, 3, 0] rfl)
        refine lp_ind (P := fun (w16 : Int32 × CM) => ∀ (H : Heap) (locs : List Loc) (ce sl : Nat) (ls : Array Slot), CJ G s (RM 22 0 true true G) 0 true true true true D2 w16.2 H locs ce sl → lv_has ls 5 [(0, .ref (gA G 0 0)), (1, .int v1), (2, .int (c1.2 6 (evl (c1.2 0 0 3)) 2)), (3, .int w13.1), (4, .int w16.1)] → W p l e (RM 22 0 true true G) s m args below meth c H locs ce sl Q (F0 m 81 ls [])) ?_ _ _ hq17 _ _ _ _ _ hJ (lv_sub hl [1, 2, 3, 4, 0] rfl)
        intro nw16 w16 ihw16 zw16 hzw16 hqw16 H locs ce sl ls hJ hl
        refine lv_iload hx hb dX0_calmBy_81 (lv_at hl 4 rfl) ?_
        refine lv_iload_n hx hb dX0_calmBy_83 rfl (lv_at hl 2 rfl) ?_
        refine lv_icmp_ge (tgt := 128) hx hb dX0_calmBy_84 (by decide) (fun hc18 => ?_) (fun hc18 => ?_)
        · have hzw16 := ip hzw16 hc18
          have hzw16 := Option.some.inj hzw16
          subst hzw16
          have hqw16 : _ = q17 := hqw16
          subst hqw16
          exact hxq17 _ rfl _ _ _ _ _ hJ (lv_sub hl [0, 1, 2, 3] rfl)
        · have hzw16 := im hzw16 hc18
          refine lv_aload_n hx hb dX0_calmBy_87 rfl (lv_at hl 0 rfl) ?_
          refine lv_iconst hx hb dX0_calmBy_88 kc_1 ?_
          refine lv_iload_n hx hb dX0_calmBy_89 rfl (lv_at hl 3 rfl) ?_
          refine lv_ishl hx hb dX0_calmBy_90 ?_
          refine lv_iconst hx hb dX0_calmBy_91 kc_1 ?_
          refine lv_iload hx hb dX0_calmBy_92 (lv_at hl 4 rfl) ?_
          refine lv_ishl hx hb dX0_calmBy_94 ?_
          refine lv_ior hx hb dX0_calmBy_95 ?_
          obtain ⟨c19, hc19, hzw16⟩ := ob hzw16
          refine cc_VWt (As := [.int (((1 : Int32) <<< (w13.1 &&& 31)) ||| ((1 : Int32) <<< (w16.1 &&& 31)))]) (rest := []) C hJ (metC_isCalm l w16.2 (((1 : Int32) <<< (w13.1 &&& 31)) ||| ((1 : Int32) <<< (w16.1 &&& 31))) c19 hc19) rfl rfl (show 0 + 0 ≤ 0 from Nat.le_of_ble_eq_true rfl) (cost_ok true true true true _ _ (fun _ => Or.inr rfl) (fun _ => Or.inr rfl)) (fun h => by cases h) (fun h => by cases h) (cj_recv C hJ 0 0 (ad_s rfl) (Nat.le_of_ble_eq_true rfl) rfl rfl) (lw_VW q995 q997 qs34 q109 q998) rfl hdC_isCalm ⟨(Nat.le_of_ble_eq_true rfl), (Nat.le_of_ble_eq_true rfl)⟩ rfl hl.1 rfl (lv_room (Nat.le_of_ble_eq_true rfl)) dX0_calmBy_96 (fun H locs hJ => ?_)
          refine lv_if_eq (tgt := 122) hx hb dX0_calmBy_99 (by decide) (fun hc21 => ?_) (fun hc21 => ?_)
          · have hzw16 := ip hzw16 hc21
            refine lv_iinc (v := (w16.1 + 1)) (lv' := [(4, .int (w16.1 + 1)), (0, .ref (gA G 0 0)), (1, .int v1), (2, .int (c1.2 6 (evl (c1.2 0 0 3)) 2)), (3, .int w13.1)]) hx hb dX0_calmBy_122 hl (k := 4) rfl rfl (Nat.le_of_ble_eq_true rfl) rfl (fun ls hl => ?_)
            refine lv_goto (tgt := 81) hx hb dX0_calmBy_125 (by decide) ?_
            have hzw16 := Option.some.inj hzw16
            subst hzw16
            exact ihw16 _ hqw16 _ _ _ _ _ hJ (lv_sub hl [1, 2, 3, 4, 0] rfl)
          · have hzw16 := im hzw16 hc21
            refine lv_iload_n hx hb dX0_calmBy_102 rfl (lv_at hl 1 rfl) ?_
            refine lv_iconst hx hb dX0_calmBy_103 kc_m1 ?_
            refine lv_icmp_ne (tgt := 111) hx hb dX0_calmBy_104 (by decide) (fun hc22 => ?_) (fun hc22 => ?_)
            · have hzw16 := im hzw16 hc22
              refine lv_iload_n hx hb dX0_calmBy_111 rfl (lv_at hl 1 rfl) ?_
              refine lv_if_ne (tgt := 119) hx hb dX0_calmBy_112 (by decide) (fun hc23 => ?_) (fun hc23 => ?_)
              · have hzw16 := im hzw16 hc23
                refine lv_iload hx hb dX0_calmBy_119 (lv_at hl 4 rfl) ?_
                have hzw16 := Option.some.inj hzw16
                subst hzw16
                have hqw16 : _ = q17 := hqw16
                subst hqw16
                have hzw13 := lpo_r hzw13
                have hzw13 := Option.some.inj hzw13
                subst hzw13
                have hqw13 : _ = q14 := hqw13
                subst hqw13
                have h := lpo_r h
                have h := Option.some.inj h
                subst h
                exact hE _ _ _ _ _ _ _ _ _ _ _ _ (some (.int (w16.1))) hJ (fun _ => rfl) (fun _ => rfl) ⟨_, rfl⟩ rfl dX0_calmBy_121
              · have hzw16 := ip hzw16 hc23
                refine lv_iload_n hx hb dX0_calmBy_115 rfl (lv_at hl 3 rfl) ?_
                refine lv_goto (tgt := 121) hx hb dX0_calmBy_116 (by decide) ?_
                have hzw16 := Option.some.inj hzw16
                subst hzw16
                have hqw16 : _ = q17 := hqw16
                subst hqw16
                have hzw13 := lpo_r hzw13
                have hzw13 := Option.some.inj hzw13
                subst hzw13
                have hqw13 : _ = q14 := hqw13
                subst hqw13
                have h := lpo_r h
                have h := Option.some.inj h
                subst h
                exact hE _ _ _ _ _ _ _ _ _ _ _ _ (some (.int (w13.1))) hJ (fun _ => rfl) (fun _ => rfl) ⟨_, rfl⟩ rfl dX0_calmBy_121
            · have hzw16 := ip hzw16 hc22
              refine lv_iconst hx hb dX0_calmBy_107 kc_2 ?_
              refine lv_goto (tgt := 121) hx hb dX0_calmBy_108 (by decide) ?_
              have hzw16 := Option.some.inj hzw16
              subst hzw16
              have hqw16 : _ = q17 := hqw16
              subst hqw16
              have hzw13 := lpo_r hzw13
              have hzw13 := Option.some.inj hzw13
              subst hzw13
              have hqw13 : _ = q14 := hqw13
              subst hqw13
              have h := lpo_r h
              have h := Option.some.inj h
              subst h
              exact hE _ _ _ _ _ _ _ _ _ _ _ _ (some (.int ((2 : Int32)))) hJ (fun _ => rfl) (fun _ => rfl) ⟨_, rfl⟩ rfl dX0_calmBy_121
    refine lp_ind (P := fun (w5 : Int32 × CM) => ∀ (H : Heap) (locs : List Loc) (ce sl : Nat) (ls : Array Slot), CJ G s (RM 22 0 true true G) 0 true true true true D2 w5.2 H locs ce sl → lv_has ls 5 [(0, .ref (gA G 0 0)), (1, .int v1), (2, .int (c1.2 6 (evl (c1.2 0 0 3)) 2)), (3, .int w5.1)] → W p l e (RM 22 0 true true G) s m args below meth c H locs ce sl Q (F0 m 29 ls [])) ?_ _ _ hq6 _ _ _ _ _ hJ (lv_sub hl [2, 3, 1, 0] rfl)
    intro nw5 w5 ihw5 zw5 hzw5 hqw5 H locs ce sl ls hJ hl
    refine lv_iload_n hx hb dX0_calmBy_29 rfl (lv_at hl 3 rfl) ?_
    refine lv_iload_n hx hb dX0_calmBy_30 rfl (lv_at hl 2 rfl) ?_
    refine lv_icmp_ge (tgt := 69) hx hb dX0_calmBy_31 (by decide) (fun hc7 => ?_) (fun hc7 => ?_)
    · have hzw5 := ip hzw5 hc7
      have hzw5 := Option.some.inj hzw5
      subst hzw5
      have hqw5 : _ = q6 := hqw5
      subst hqw5
      exact hxq6 _ rfl _ _ _ _ _ hJ (lv_sub hl [0, 1, 2] rfl)
    · have hzw5 := im hzw5 hc7
      refine lv_aload_n hx hb dX0_calmBy_34 rfl (lv_at hl 0 rfl) ?_
      refine lv_iconst hx hb dX0_calmBy_35 kc_1 ?_
      refine lv_iload_n hx hb dX0_calmBy_36 rfl (lv_at hl 3 rfl) ?_
      refine lv_ishl hx hb dX0_calmBy_37 ?_
      obtain ⟨c8, hc8, hzw5⟩ := ob hzw5
      refine cc_VWt (As := [.int ((1 : Int32) <<< (w5.1 &&& 31))]) (rest := []) C hJ (metC_isCalm l w5.2 ((1 : Int32) <<< (w5.1 &&& 31)) c8 hc8) rfl rfl (show 0 + 0 ≤ 0 from Nat.le_of_ble_eq_true rfl) (cost_ok true true true true _ _ (fun _ => Or.inr rfl) (fun _ => Or.inr rfl)) (fun h => by cases h) (fun h => by cases h) (cj_recv C hJ 0 0 (ad_s rfl) (Nat.le_of_ble_eq_true rfl) rfl rfl) (lw_VW q995 q997 qs34 q109 q998) rfl hdC_isCalm ⟨(Nat.le_of_ble_eq_true rfl), (Nat.le_of_ble_eq_true rfl)⟩ rfl hl.1 rfl (lv_room (Nat.le_of_ble_eq_true rfl)) dX0_calmBy_38 (fun H locs hJ => ?_)
      refine lv_if_eq (tgt := 63) hx hb dX0_calmBy_41 (by decide) (fun hc10 => ?_) (fun hc10 => ?_)
      · have hzw5 := ip hzw5 hc10
        refine lv_iinc (v := (w5.1 + 1)) (lv' := [(3, .int (w5.1 + 1)), (0, .ref (gA G 0 0)), (1, .int v1), (2, .int (c1.2 6 (evl (c1.2 0 0 3)) 2))]) hx hb dX0_calmBy_63 hl (k := 3) rfl rfl (Nat.le_of_ble_eq_true rfl) rfl (fun ls hl => ?_)
        refine lv_goto (tgt := 29) hx hb dX0_calmBy_66 (by decide) ?_
        have hzw5 := Option.some.inj hzw5
        subst hzw5
        exact ihw5 _ hqw5 _ _ _ _ _ hJ (lv_sub hl [1, 2, 3, 0] rfl)
      · have hzw5 := im hzw5 hc10
        refine lv_iload_n hx hb dX0_calmBy_44 rfl (lv_at hl 1 rfl) ?_
        refine lv_iconst hx hb dX0_calmBy_45 kc_m1 ?_
        refine lv_icmp_ne (tgt := 53) hx hb dX0_calmBy_46 (by decide) (fun hc11 => ?_) (fun hc11 => ?_)
        · have hzw5 := im hzw5 hc11
          refine lv_iload_n hx hb dX0_calmBy_53 rfl (lv_at hl 1 rfl) ?_
          refine lv_if_ne (tgt := 61) hx hb dX0_calmBy_54 (by decide) (fun hc12 => ?_) (fun hc12 => ?_)
          · have hzw5 := im hzw5 hc12
            refine lv_iconst hx hb dX0_calmBy_61 kc_m1 ?_
            have hzw5 := Option.some.inj hzw5
            subst hzw5
            have hqw5 : _ = q6 := hqw5
            subst hqw5
            have h := lpo_r h
            have h := Option.some.inj h
            subst h
            exact hE _ _ _ _ _ _ _ _ _ _ _ _ (some (.int ((-1 : Int32)))) hJ (fun _ => rfl) (fun _ => rfl) ⟨_, rfl⟩ rfl dX0_calmBy_62
          · have hzw5 := ip hzw5 hc12
            refine lv_iload_n hx hb dX0_calmBy_57 rfl (lv_at hl 3 rfl) ?_
            refine lv_goto (tgt := 62) hx hb dX0_calmBy_58 (by decide) ?_
            have hzw5 := Option.some.inj hzw5
            subst hzw5
            have hqw5 : _ = q6 := hqw5
            subst hqw5
            have h := lpo_r h
            have h := Option.some.inj h
            subst h
            exact hE _ _ _ _ _ _ _ _ _ _ _ _ (some (.int (w5.1))) hJ (fun _ => rfl) (fun _ => rfl) ⟨_, rfl⟩ rfl dX0_calmBy_62
        · have hzw5 := ip hzw5 hc11
          refine lv_iconst hx hb dX0_calmBy_49 kc_1 ?_
          refine lv_goto (tgt := 62) hx hb dX0_calmBy_50 (by decide) ?_
          have hzw5 := Option.some.inj hzw5
          subst hzw5
          have hqw5 : _ = q6 := hqw5
          subst hqw5
          have h := lpo_r h
          have h := Option.some.inj h
          subst h
          exact hE _ _ _ _ _ _ _ _ _ _ _ _ (some (.int ((1 : Int32)))) hJ (fun _ => rfl) (fun _ => rfl) ⟨_, rfl⟩ rfl dX0_calmBy_62
  · have h := im h hc4
    refine lv_iload_n hx hb dX0_calmBy_8 rfl (lv_at hl 1 rfl) ?_
    refine lv_iconst hx hb dX0_calmBy_9 kc_m1 ?_
    refine lv_icmp_ne (tgt := 17) hx hb dX0_calmBy_10 (by decide) (fun hc24 => ?_) (fun hc24 => ?_)
    · have h := im h hc24
      refine lv_iconst hx hb dX0_calmBy_17 kc_m1 ?_
      have h := Option.some.inj h
      subst h
      exact hE _ _ _ _ _ _ _ _ _ _ _ _ (some (.int ((-1 : Int32)))) hJ (fun _ => rfl) (fun _ => rfl) ⟨_, rfl⟩ rfl dX0_calmBy_18
    · have h := ip h hc24
      refine lv_iconst hx hb dX0_calmBy_13 kc_0 ?_
      refine lv_goto (tgt := 18) hx hb dX0_calmBy_14 (by decide) ?_
      have h := Option.some.inj h
      subst h
      exact hE _ _ _ _ _ _ _ _ _ _ _ _ (some (.int ((0 : Int32)))) hJ (fun _ => rfl) (fun _ => rfl) ⟨_, rfl⟩ rfl dX0_calmBy_18
def C_calm (σ : CM) (v1 : Int32) : Option (Int32 × CM) :=
  (C_in σ v1.toInt64 (-1 : Int64) (1 : Int64)).bind fun c1 =>
  if c1 = 0 then
    some ((-2 : Int32), σ)
  else
    (C_calmBy σ v1).bind fun c4 =>
    some (c4.1, c4.2)
theorem hdC_calm : yX0_calm.cls = RX0 ∧ yX0_calm.cls ≠ "java/lang/invoke/MethodHandle" ∧ yX0_calm.cls ≠ "java/lang/invoke/VarHandle" ∧ (parseMethodDescriptor yX0_calm.desc).map (fun d => d.parameters.length) = some 1 := by decide +kernel
set_option maxHeartbeats 4000000 in
theorem metC_calm (l : Launch) (σ : CM) (v1 : Int32) (res : Int32 × CM) (h : C_calm σ v1 = some res) : MetC l yX0_calm (ws_ yX0_calm cX0_calm 2 (some .int)) 23 0 true true false false false false (fun G => [.ref (gA G 0 0), .int v1]) σ (fun _ => (some (.int res.1))) res.2 := by
  refine met_wC (own := RX0) (by decide +kernel) rfl (by simp [cRt]) (fun _ => Nat.le_of_ble_eq_true rfl) (fun G p e s m args below meth c Q hr1 hr2 C hE ls hl hJ => ?_)
  have hx := C.1.1
  have hb := C.1.2.1
  have hown := C.1.2.2.2.1
  have hts := C.1.2.2.2.2
  have hl : lv_has ls 2 [(0, .ref (gA G 0 0)), (1, .int v1)] := hl
  unfold C_calm at h
  refine lv_iload_n hx hb dX0_calm_0 rfl (lv_at hl 1 rfl) ?_
  refine lv_i2l (v := v1.toInt64) hx hb dX0_calm_1 rfl ?_
  refine lv_ldc2 (v := (-1 : Int64)) hx hb hown (hts _ q990) dX0_calm_2 ?_
  refine lv_lconst (v := (1 : Int64)) hx hb dX0_calm_5 rfl ?_
  obtain ⟨c1, hc1, h⟩ := ob h
  refine cc_S (As := [.long v1.toInt64, .long (-1 : Int64), .long (1 : Int64)]) (rest := []) C hJ (metC_in l σ v1.toInt64 (-1 : Int64) (1 : Int64) c1 hc1) rfl rfl (show 0 + 0 ≤ 0 from Nat.le_of_ble_eq_true rfl) (cost_ok false false true true _ _ (fun h => by cases h) (fun h => by cases h)) (fun h => by cases h) (fun h => by cases h) (va_cwS 3 hts (lw_S q145 q146 q109 q147) rfl rfl rfl hdC_in ⟨(Nat.le_of_ble_eq_true rfl), (Nat.le_of_ble_eq_true rfl)⟩) rfl hl.1 rfl (lv_room (Nat.le_of_ble_eq_true rfl)) dX0_calm_6 (fun D2 H locs _ hJ => ?_)
  refine lv_if_eq (tgt := 20) hx hb dX0_calm_9 (by decide) (fun hc3 => ?_) (fun hc3 => ?_)
  · have h := ip h hc3
    refine lv_bipush hx hb dX0_calm_20 kb_m2 ?_
    have h := Option.some.inj h
    subst h
    exact hE _ _ _ _ _ _ _ _ _ _ _ _ (some (.int ((-2 : Int32)))) hJ (fun h => by cases h) (fun h => by cases h) ⟨_, rfl⟩ rfl dX0_calm_22
  · have h := im h hc3
    refine lv_aload_n hx hb dX0_calm_12 rfl (lv_at hl 0 rfl) ?_
    refine lv_iload_n hx hb dX0_calm_13 rfl (lv_at hl 1 rfl) ?_
    obtain ⟨c4, hc4, h⟩ := ob h
    refine cc_V (As := [.int v1]) (rest := []) C hJ (metC_calmBy l σ v1 c4 hc4) rfl rfl (show 0 + 0 ≤ 0 from Nat.le_of_ble_eq_true rfl) (cost_ok true true true true _ _ (fun _ => Or.inl rfl) (fun _ => Or.inl rfl)) (fun h => by cases h) (fun h => by cases h) (cj_recv C hJ 0 0 (ad_s rfl) (Nat.le_of_ble_eq_true rfl) rfl rfl) (cwV 1 hts (lw_V q991 q993 qs33 q109 q994) rfl rfl rfl hdC_calmBy ⟨(Nat.le_of_ble_eq_true rfl), (Nat.le_of_ble_eq_true rfl)⟩) rfl hl.1 rfl (lv_room (Nat.le_of_ble_eq_true rfl)) dX0_calm_14 (fun D5 H locs _ hJ => ?_)
    refine lv_goto (tgt := 22) hx hb dX0_calm_17 (by decide) ?_
    have h := Option.some.inj h
    subst h
    exact hE _ _ _ _ _ _ _ _ _ _ _ _ (some (.int (c4.1))) hJ (fun h => by cases h) (fun h => by cases h) ⟨_, rfl⟩ rfl dX0_calm_22
def C_isSeen (σ : CM) : Option (Int32 × CM) :=
  (C_find σ).bind fun c1 =>
  (lp (S := Int32 × Int32) (T := Int32) (fun w4 =>
    if (c1 6 2 2) ≤ w4.2 then
        some (.inr w4.1)
      else
        if w4.1 = 0 then
          some (.inr w4.1)
        else
          (lget c1 2 w4.2).bind fun n8 =>
          (cel c1 2 n8 (1 : Int32)).bind fun x9 =>
          (C_isMember c1 x9).bind fun c10 =>
          if c10 = 0 then
            some (.inl ((0 : Int32), (w4.2 + 1)))
          else
            (cel c1 2 n8 (0 : Int32)).bind fun x13 =>
            (cix c1 8 0 x13).bind fun n14 =>
            (cel c1 2 n8 (1 : Int32)).bind fun x15 =>
            (cix c1 7 n14 x15).bind fun n16 =>
            (cget c1 3 (8 * n14 + n16) 0).bind fun x17 =>
            (cel c1 2 n8 (2 : Int32)).bind fun x18 =>
            if x17 = x18 then
              some (.inl ((1 : Int32), (w4.2 + 1)))
            else
              some (.inl ((0 : Int32), (w4.2 + 1)))) 2000 ((1 : Int32), (0 : Int32))).bind fun q5 =>
  some ((bz q5), c1)
theorem hdC_isSeen : yX0_isSeen.cls = RX0 ∧ yX0_isSeen.cls ≠ "java/lang/invoke/MethodHandle" ∧ yX0_isSeen.cls ≠ "java/lang/invoke/VarHandle" ∧ (parseMethodDescriptor yX0_isSeen.desc).map (fun d => d.parameters.length) = some 0 := by decide +kernel
set_option maxHeartbeats 4000000 in
theorem metC_isSeen (l : Launch) (σ : CM) (res : Int32 × CM) (h : C_isSeen σ = some res) : MetC l yX0_isSeen (ws_ yX0_isSeen cX0_isSeen 4 (some .boolean)) 21 0 true true true true false false (fun G => [.ref (gA G 0 0)]) σ (fun _ => (some (.int res.1))) res.2 := by
  refine met_wC (own := RX0) (by decide +kernel) rfl (by simp [cRt]) (fun _ => Nat.le_of_ble_eq_true rfl) (fun G p e s m args below meth c Q hr1 hr2 C hE ls hl hJ => ?_)
  have hx := C.1.1
  have hb := C.1.2.1
  have hown := C.1.2.2.2.1
  have hts := C.1.2.2.2.2
  have hl : lv_has ls 4 [(0, .ref (gA G 0 0))] := hl
  unfold C_isSeen at h
  refine lv_aload_n hx hb dX0_isSeen_0 rfl (lv_at hl 0 rfl) ?_
  obtain ⟨c1, hc1, h⟩ := ob h
  refine cc_V (As := []) (rest := []) C hJ (metC_find l σ c1 hc1) rfl rfl (show 0 + 0 ≤ 0 from Nat.le_of_ble_eq_true rfl) (cost_ok true true true true _ _ (fun _ => Or.inl rfl) (fun _ => Or.inl rfl)) (fun h => by cases h) (fun h => by cases h) (cj_recv C hJ 0 0 (ad_s rfl) (Nat.le_of_ble_eq_true rfl) rfl rfl) (cwV 0 hts (lw_V q809 q811 qs10 q109 q812) rfl rfl rfl hdC_find ⟨(Nat.le_of_ble_eq_true rfl), (Nat.le_of_ble_eq_true rfl)⟩) rfl hl.1 rfl (lv_room (Nat.le_of_ble_eq_true rfl)) dX0_isSeen_1 (fun D2 H locs _ hJ => ?_)
  refine lv_iconst hx hb dX0_isSeen_4 kc_1 ?_
  refine lv_istore_n (lv' := [(1, .int (1 : Int32)), (0, .ref (gA G 0 0))]) hx hb dX0_isSeen_5 rfl hl (Nat.le_of_ble_eq_true rfl) rfl (fun ls hl => ?_)
  refine lv_iconst hx hb dX0_isSeen_6 kc_0 ?_
  refine lv_istore_n (lv' := [(2, .int (0 : Int32)), (1, .int (1 : Int32)), (0, .ref (gA G 0 0))]) hx hb dX0_isSeen_7 rfl hl (Nat.le_of_ble_eq_true rfl) rfl (fun ls hl => ?_)
  obtain ⟨q5, hq5, h⟩ := ob h
  have hxq5 : ∀ (H : Heap) (locs : List Loc) (ce sl : Nat) (ls : Array Slot), CJ G s (RM 21 0 true true G) 0 true true true true D2 c1 H locs ce sl → lv_has ls 4 [(1, .int q5)] → W p l e (RM 21 0 true true G) s m args below meth c H locs ce sl Q (F0 m 78 ls []) := by
    intro H locs ce sl ls hJ hl
    refine lv_iload_n hx hb dX0_isSeen_78 rfl (lv_at hl 0 rfl) ?_
    have h := Option.some.inj h
    subst h
    exact hE _ _ _ _ _ _ _ _ _ _ _ _ (some (.int q5)) hJ (fun _ => rfl) (fun _ => rfl) ⟨_, rfl⟩ rfl dX0_isSeen_79
  refine lp_ind (P := fun (w4 : Int32 × Int32) => ∀ (H : Heap) (locs : List Loc) (ce sl : Nat) (ls : Array Slot), CJ G s (RM 21 0 true true G) 0 true true true true D2 c1 H locs ce sl → lv_has ls 4 [(0, .ref (gA G 0 0)), (1, .int w4.1), (2, .int w4.2)] → W p l e (RM 21 0 true true G) s m args below meth c H locs ce sl Q (F0 m 8 ls [])) ?_ _ _ hq5 _ _ _ _ _ hJ (lv_sub hl [2, 1, 0] rfl)
  intro nw4 w4 ihw4 zw4 hzw4 hqw4 H locs ce sl ls hJ hl
  refine lv_iload_n hx hb dX0_isSeen_8 rfl (lv_at hl 2 rfl) ?_
  refine lv_aload_n hx hb dX0_isSeen_9 rfl (lv_at hl 0 rfl) ?_
  refine cj_gr (v := .ref (gA G 6 2)) C hJ 0 0 12 (ad_s rfl) (Nat.le_of_ble_eq_true rfl) (Nat.le_of_ble_eq_true rfl) rfl rfl (fl_X0_179_0 C) (fun _ _ => rfl) dX0_isSeen_10 ?_
  refine cj_sizeT C hJ 2 (Nat.le_of_ble_eq_true rfl) (fun h => by cases h) q528 ⟨(Nat.le_of_ble_eq_true rfl), (Nat.le_of_ble_eq_true rfl)⟩ hl.1 (Nat.le_of_ble_eq_true rfl) dX0_isSeen_13 (fun H locs hJ => ?_)
  refine lv_icmp_ge (tgt := 78) hx hb dX0_isSeen_16 (by decide) (fun hc6 => ?_) (fun hc6 => ?_)
  · have hzw4 := ip hzw4 hc6
    have hzw4 := Option.some.inj hzw4
    subst hzw4
    have hqw4 : _ = q5 := hqw4
    subst hqw4
    exact hxq5 _ _ _ _ _ hJ (lv_sub hl [1] rfl)
  · have hzw4 := im hzw4 hc6
    refine lv_iload_n hx hb dX0_isSeen_19 rfl (lv_at hl 1 rfl) ?_
    refine lv_if_eq (tgt := 78) hx hb dX0_isSeen_20 (by decide) (fun hc7 => ?_) (fun hc7 => ?_)
    · have hzw4 := ip hzw4 hc7
      have hzw4 := Option.some.inj hzw4
      subst hzw4
      have hqw4 : _ = q5 := hqw4
      subst hqw4
      exact hxq5 _ _ _ _ _ hJ (lv_sub hl [1] rfl)
    · have hzw4 := im hzw4 hc7
      refine lv_aload_n hx hb dX0_isSeen_23 rfl (lv_at hl 0 rfl) ?_
      refine cj_gr (v := .ref (gA G 6 2)) C hJ 0 0 12 (ad_s rfl) (Nat.le_of_ble_eq_true rfl) (Nat.le_of_ble_eq_true rfl) rfl rfl (fl_X0_179_0 C) (fun _ _ => rfl) dX0_isSeen_24 ?_
      refine lv_iload_n hx hb dX0_isSeen_27 rfl (lv_at hl 2 rfl) ?_
      obtain ⟨n8, hn8, hzw4⟩ := ob hzw4
      refine cj_get C hJ 2 (Nat.le_of_ble_eq_true rfl) (fun h => by cases h) q530 ⟨(Nat.le_of_ble_eq_true rfl), (Nat.le_of_ble_eq_true rfl)⟩ hl.1 (Nat.le_of_ble_eq_true rfl) hn8 dX0_isSeen_28 (fun H locs hJ => ?_)
      refine cj_castI C hJ (Nat.le_of_ble_eq_true rfl) hn8 q822 dX0_isSeen_31 ?_
      refine lv_astore_n (lv' := [(3, .ref (elA G.1 D2 2 n8)), (0, .ref (gA G 0 0)), (1, .int w4.1), (2, .int w4.2)]) hx hb dX0_isSeen_34 rfl hl (Nat.le_of_ble_eq_true rfl) rfl (fun ls hl => ?_)
      refine lv_aload_n hx hb dX0_isSeen_35 rfl (lv_at hl 1 rfl) ?_
      refine lv_aload_n hx hb dX0_isSeen_36 rfl (lv_at hl 0 rfl) ?_
      refine lv_iconst hx hb dX0_isSeen_37 kc_1 ?_
      obtain ⟨x9, hx9, hzw4⟩ := ob hzw4
      refine cj_el C hJ 2 n8 hx9 dX0_isSeen_38 ?_
      obtain ⟨c10, hc10, hzw4⟩ := ob hzw4
      refine cc_Vt (As := [.int x9]) (rest := []) C hJ (metC_isMember l c1 x9 c10 hc10) rfl rfl (show 0 + 0 ≤ 0 from Nat.le_of_ble_eq_true rfl) (cost_ok false true true true _ _ (fun h => by cases h) (fun _ => Or.inr rfl)) (fun h => by cases h) (fun h => by cases h) (cj_recv C hJ 0 0 (ad_s rfl) (Nat.le_of_ble_eq_true rfl) rfl rfl) (cwV 1 hts (lw_V q517 q519 qs6 q109 q520) rfl rfl rfl hdC_isMember ⟨(Nat.le_of_ble_eq_true rfl), (Nat.le_of_ble_eq_true rfl)⟩) rfl hl.1 rfl (lv_room (Nat.le_of_ble_eq_true rfl)) dX0_isSeen_39 (fun H locs hJ => ?_)
      refine lv_if_eq (tgt := 70) hx hb dX0_isSeen_42 (by decide) (fun hc12 => ?_) (fun hc12 => ?_)
      · have hzw4 := ip hzw4 hc12
        refine lv_iconst hx hb dX0_isSeen_70 kc_0 ?_
        refine lv_istore_n (lv' := [(1, .int (0 : Int32)), (3, .ref (elA G.1 D2 2 n8)), (0, .ref (gA G 0 0)), (2, .int w4.2)]) hx hb dX0_isSeen_71 rfl hl (Nat.le_of_ble_eq_true rfl) rfl (fun ls hl => ?_)
        refine lv_iinc (v := (w4.2 + 1)) (lv' := [(2, .int (w4.2 + 1)), (1, .int (0 : Int32)), (3, .ref (elA G.1 D2 2 n8)), (0, .ref (gA G 0 0))]) hx hb dX0_isSeen_72 hl (k := 3) rfl rfl (Nat.le_of_ble_eq_true rfl) rfl (fun ls hl => ?_)
        refine lv_goto (tgt := 8) hx hb dX0_isSeen_75 (by decide) ?_
        have hzw4 := Option.some.inj hzw4
        subst hzw4
        exact ihw4 _ hqw4 _ _ _ _ _ hJ (lv_sub hl [3, 1, 0] rfl)
      · have hzw4 := im hzw4 hc12
        refine lv_aload_n hx hb dX0_isSeen_45 rfl (lv_at hl 1 rfl) ?_
        refine cj_gr (v := .ref (gA G 8 0)) C hJ 0 0 5 (ad_s rfl) (Nat.le_of_ble_eq_true rfl) (Nat.le_of_ble_eq_true rfl) rfl rfl (fl_X0_164_0 C) (fun _ _ => rfl) dX0_isSeen_46 ?_
        refine lv_aload_n hx hb dX0_isSeen_49 rfl (lv_at hl 0 rfl) ?_
        refine lv_iconst hx hb dX0_isSeen_50 kc_0 ?_
        obtain ⟨x13, hx13, hzw4⟩ := ob hzw4
        refine cj_el C hJ 2 n8 hx13 dX0_isSeen_51 ?_
        obtain ⟨n14, hn14, hzw4⟩ := ob hzw4
        refine cj_al (v := .ref (gA G 7 n14)) C hJ 8 0 (ad_s rfl) rfl rfl hn14 rfl dX0_isSeen_52 ?_
        refine lv_aload_n hx hb dX0_isSeen_53 rfl (lv_at hl 0 rfl) ?_
        refine lv_iconst hx hb dX0_isSeen_54 kc_1 ?_
        obtain ⟨x15, hx15, hzw4⟩ := ob hzw4
        refine cj_el C hJ 2 n8 hx15 dX0_isSeen_55 ?_
        obtain ⟨n16, hn16, hzw4⟩ := ob hzw4
        refine cj_al (v := .ref (gA G 3 (8 * n14 + n16))) C hJ 7 n14 (ad_s rfl) rfl rfl hn16 rfl dX0_isSeen_56 ?_
        obtain ⟨x17, hx17, hzw4⟩ := ob hzw4
        refine cj_gi C hJ 3 (8 * n14 + n16) 0 (ad_s rfl) (Nat.le_of_ble_eq_true rfl) (Nat.le_of_ble_eq_true rfl) rfl rfl rfl (fl_X0_208_3 C) hx17 dX0_isSeen_57 ?_
        refine lv_aload_n hx hb dX0_isSeen_60 rfl (lv_at hl 0 rfl) ?_
        refine lv_iconst hx hb dX0_isSeen_61 kc_2 ?_
        obtain ⟨x18, hx18, hzw4⟩ := ob hzw4
        refine cj_el C hJ 2 n8 hx18 dX0_isSeen_62 ?_
        refine lv_icmp_ne (tgt := 70) hx hb dX0_isSeen_63 (by decide) (fun hc19 => ?_) (fun hc19 => ?_)
        · have hzw4 := im hzw4 hc19
          refine lv_iconst hx hb dX0_isSeen_70 kc_0 ?_
          refine lv_istore_n (lv' := [(1, .int (0 : Int32)), (3, .ref (elA G.1 D2 2 n8)), (0, .ref (gA G 0 0)), (2, .int w4.2)]) hx hb dX0_isSeen_71 rfl hl (Nat.le_of_ble_eq_true rfl) rfl (fun ls hl => ?_)
          refine lv_iinc (v := (w4.2 + 1)) (lv' := [(2, .int (w4.2 + 1)), (1, .int (0 : Int32)), (3, .ref (elA G.1 D2 2 n8)), (0, .ref (gA G 0 0))]) hx hb dX0_isSeen_72 hl (k := 3) rfl rfl (Nat.le_of_ble_eq_true rfl) rfl (fun ls hl => ?_)
          refine lv_goto (tgt := 8) hx hb dX0_isSeen_75 (by decide) ?_
          have hzw4 := Option.some.inj hzw4
          subst hzw4
          exact ihw4 _ hqw4 _ _ _ _ _ hJ (lv_sub hl [3, 1, 0] rfl)
        · have hzw4 := ip hzw4 hc19
          refine lv_iconst hx hb dX0_isSeen_66 kc_1 ?_
          refine lv_goto (tgt := 71) hx hb dX0_isSeen_67 (by decide) ?_
          refine lv_istore_n (lv' := [(1, .int (1 : Int32)), (3, .ref (elA G.1 D2 2 n8)), (0, .ref (gA G 0 0)), (2, .int w4.2)]) hx hb dX0_isSeen_71 rfl hl (Nat.le_of_ble_eq_true rfl) rfl (fun ls hl => ?_)
          refine lv_iinc (v := (w4.2 + 1)) (lv' := [(2, .int (w4.2 + 1)), (1, .int (1 : Int32)), (3, .ref (elA G.1 D2 2 n8)), (0, .ref (gA G 0 0))]) hx hb dX0_isSeen_72 hl (k := 3) rfl rfl (Nat.le_of_ble_eq_true rfl) rfl (fun ls hl => ?_)
          refine lv_goto (tgt := 8) hx hb dX0_isSeen_75 (by decide) ?_
          have hzw4 := Option.some.inj hzw4
          subst hzw4
          exact ihw4 _ hqw4 _ _ _ _ _ hJ (lv_sub hl [3, 1, 0] rfl)
def C_dustOf (σ : CM) (v1 : Int32) (v2 : Int32) : Option (Int32 × CM) :=
  (some (cput σ 0 0 9 v1)).bind fun σ1 =>
  (some (cput σ1 0 0 10 (1 : Int32))).bind fun σ2 =>
  (some (cput σ2 0 0 11 (0 : Int32))).bind fun σ3 =>
  (lp (S := Int32 × Int32 × CM) (T := Int32 × Int32 × CM) (fun w4 =>
    if (12 : Int32) ≤ (w4.2.2 0 0 11) then
        some (.inr (w4.1, w4.2.1, w4.2.2))
      else
        (C_find w4.2.2).bind fun c10 =>
        (C_carriedNow c10).bind fun c13 =>
        (if w4.2.1 < c13 then
            (C_carriedNow c10).bind fun c16 =>
            some ((c10 0 0 11), c16)
          else
            some (w4.1, w4.2.1) : Option (Int32 × Int32)).bind fun q18 =>
        (some (cput c10 0 0 11 ((c10 0 0 11) + (1 : Int32)))).bind fun σ19 =>
        some (.inl (q18.1, q18.2, σ19))) 2000 ((-1 : Int32), (-1 : Int32), σ3)).bind fun q5 =>
  (some (cput q5.2.2 0 0 9 (-1 : Int32))).bind fun σ23 =>
  if v2 = 0 then
    some (q5.1, σ23)
  else
    some (q5.2.1, σ23)
theorem hdC_dustOf : yX0_dustOf.cls = RX0 ∧ yX0_dustOf.cls ≠ "java/lang/invoke/MethodHandle" ∧ yX0_dustOf.cls ≠ "java/lang/invoke/VarHandle" ∧ (parseMethodDescriptor yX0_dustOf.desc).map (fun d => d.parameters.length) = some 2 := by decide +kernel
set_option maxHeartbeats 4000000 in
theorem metC_dustOf (l : Launch) (σ : CM) (v1 : Int32) (v2 : Int32) (res : Int32 × CM) (h : C_dustOf σ v1 v2 = some res) : MetC l yX0_dustOf (wsW_ yX0_dustOf cX0_dustOf 6 (some .int) [((5 : Nat), (69 : Nat), (77 : Nat), (0 : Nat)), ((77 : Nat), (79 : Nat), (77 : Nat), (0 : Nat))]) 21 0 true true false false false false (fun G => [.ref (gA G 0 0), .int v1, .int v2]) σ (fun _ => (some (.int res.1))) res.2 := by
  refine met_wCW (own := RX0) (by decide +kernel) rfl (by simp [cRt]) (fun _ => Nat.le_of_ble_eq_true rfl) (fun G p e s m args below meth c Q hr1 hr2 C hE ls hl hJ => ?_)
  have hx := C.1.1
  have hb := C.1.2.1
  have hown := C.1.2.2.2.1
  have hts := C.1.2.2.2.2
  have hl : lv_has ls 6 [(0, .ref (gA G 0 0)), (1, .int v1), (2, .int v2)] := hl
  unfold C_dustOf at h
  refine lv_iconst hx hb dX0_dustOf_0 kc_m1 ?_
  refine lv_istore_n (lv' := [(3, .int (-1 : Int32)), (0, .ref (gA G 0 0)), (1, .int v1), (2, .int v2)]) hx hb dX0_dustOf_1 rfl hl (Nat.le_of_ble_eq_true rfl) rfl (fun ls hl => ?_)
  refine lv_iconst hx hb dX0_dustOf_2 kc_m1 ?_
  refine lv_istore (lv' := [(4, .int (-1 : Int32)), (3, .int (-1 : Int32)), (0, .ref (gA G 0 0)), (1, .int v1), (2, .int v2)]) hx hb dX0_dustOf_3 hl (Nat.le_of_ble_eq_true rfl) rfl (fun ls hl => ?_)
  refine lv_aload_n hx hb dX0_dustOf_5 rfl (lv_at hl 2 rfl) ?_
  refine lv_iload_n hx hb dX0_dustOf_6 rfl (lv_at hl 3 rfl) ?_
  obtain ⟨σ1, hσ1, h⟩ := ob h
  refine cj_p0 C hJ 0 0 9 (ad_s rfl) (Nat.le_of_ble_eq_true rfl) (Nat.le_of_ble_eq_true rfl) rfl rfl rfl rfl rfl rfl rfl (fl_X0_176_0 C) hσ1 dX0_dustOf_7 (fun H locs hJ => ?_)
  refine lv_aload_n hx hb dX0_dustOf_10 rfl (lv_at hl 2 rfl) ?_
  refine lv_iconst hx hb dX0_dustOf_11 kc_1 ?_
  obtain ⟨σ2, hσ2, h⟩ := ob h
  refine cj_p0 C hJ 0 0 10 (ad_s rfl) (Nat.le_of_ble_eq_true rfl) (Nat.le_of_ble_eq_true rfl) rfl rfl rfl rfl rfl rfl rfl (fl_X0_262_0 C) hσ2 dX0_dustOf_12 (fun H locs hJ => ?_)
  refine lv_aload_n hx hb dX0_dustOf_15 rfl (lv_at hl 2 rfl) ?_
  refine lv_iconst hx hb dX0_dustOf_16 kc_0 ?_
  obtain ⟨σ3, hσ3, h⟩ := ob h
  refine cj_p0 C hJ 0 0 11 (ad_s rfl) (Nat.le_of_ble_eq_true rfl) (Nat.le_of_ble_eq_true rfl) rfl rfl rfl rfl rfl rfl rfl (fl_X0_265_0 C) hσ3 dX0_dustOf_17 (fun H locs hJ => ?_)
  obtain ⟨q5, hq5, h⟩ := ob h
  have hxq5 : ∀ (u20 : Bool) (u21 : Bool) (D22 : Nat → Nat → Nat) (H : Heap) (locs : List Loc) (ce sl : Nat) (ls : Array Slot), CJ G s (RM 21 0 true true G) 0 true true u20 u21 D22 q5.2.2 H locs ce sl → lv_has ls 6 [(0, .ref (gA G 0 0)), (2, .int v2), (3, .int q5.1), (4, .int q5.2.1)] → W p l e (RM 21 0 true true G) s m args below meth c H locs ce sl Q (F0 m 69 ls []) := by
    intro u20 u21 D22 H locs ce sl ls hJ hl
    refine lv_aload_n hx hb dX0_dustOf_69 rfl (lv_at hl 0 rfl) ?_
    refine lv_iconst hx hb dX0_dustOf_70 kc_m1 ?_
    obtain ⟨σ23, hσ23, h⟩ := ob h
    refine cj_p0 C hJ 0 0 9 (ad_s rfl) (Nat.le_of_ble_eq_true rfl) (Nat.le_of_ble_eq_true rfl) rfl rfl rfl rfl rfl rfl rfl (fl_X0_176_0 C) hσ23 dX0_dustOf_71 (fun H locs hJ => ?_)
    refine lv_goto (tgt := 87) hx hb dX0_dustOf_74 (by decide) ?_
    refine lv_iload_n hx hb dX0_dustOf_87 rfl (lv_at hl 1 rfl) ?_
    refine lv_if_ne (tgt := 95) hx hb dX0_dustOf_88 (by decide) (fun hc24 => ?_) (fun hc24 => ?_)
    · have h := im h hc24
      refine lv_iload hx hb dX0_dustOf_95 (lv_at hl 3 rfl) ?_
      have h := Option.some.inj h
      subst h
      exact hE _ _ _ _ _ _ _ _ _ _ _ _ (some (.int (q5.2.1))) hJ (fun h => by cases h) (fun h => by cases h) ⟨_, rfl⟩ rfl dX0_dustOf_97
    · have h := ip h hc24
      refine lv_iload_n hx hb dX0_dustOf_91 rfl (lv_at hl 2 rfl) ?_
      refine lv_goto (tgt := 97) hx hb dX0_dustOf_92 (by decide) ?_
      have h := Option.some.inj h
      subst h
      exact hE _ _ _ _ _ _ _ _ _ _ _ _ (some (.int (q5.1))) hJ (fun h => by cases h) (fun h => by cases h) ⟨_, rfl⟩ rfl dX0_dustOf_97
  refine lp_ind (P := fun (w4 : Int32 × Int32 × CM) => ∀ (u6 : Bool) (u7 : Bool) (D8 : Nat → Nat → Nat) (H : Heap) (locs : List Loc) (ce sl : Nat) (ls : Array Slot), CJ G s (RM 21 0 true true G) 0 true true u6 u7 D8 w4.2.2 H locs ce sl → lv_has ls 6 [(0, .ref (gA G 0 0)), (2, .int v2), (3, .int w4.1), (4, .int w4.2.1)] → W p l e (RM 21 0 true true G) s m args below meth c H locs ce sl Q (F0 m 20 ls [])) ?_ _ _ hq5 _ _ _ _ _ _ _ _ hJ (lv_sub hl [2, 4, 1, 0] rfl)
  intro nw4 w4 ihw4 zw4 hzw4 hqw4 u6 u7 D8 H locs ce sl ls hJ hl
  refine lv_aload_n hx hb dX0_dustOf_20 rfl (lv_at hl 0 rfl) ?_
  refine cj_g0 C hJ 0 0 11 (ad_s rfl) (Nat.le_of_ble_eq_true rfl) (Nat.le_of_ble_eq_true rfl) rfl rfl rfl rfl (fl_X0_265_0 C) dX0_dustOf_21 ?_
  refine lv_bipush hx hb dX0_dustOf_24 kb_12 ?_
  refine lv_icmp_ge (tgt := 69) hx hb dX0_dustOf_26 (by decide) (fun hc9 => ?_) (fun hc9 => ?_)
  · have hzw4 := ip hzw4 hc9
    have hzw4 := Option.some.inj hzw4
    subst hzw4
    have hqw4 : _ = q5 := hqw4
    subst hqw4
    exact hxq5 _ _ _ _ _ _ _ _ hJ (lv_sub hl [0, 1, 2, 3] rfl)
  · have hzw4 := im hzw4 hc9
    refine lv_aload_n hx hb dX0_dustOf_29 rfl (lv_at hl 0 rfl) ?_
    obtain ⟨c10, hc10, hzw4⟩ := ob hzw4
    refine cc_V (As := []) (rest := []) C hJ (metC_find l w4.2.2 c10 hc10) rfl rfl (show 0 + 0 ≤ 0 from Nat.le_of_ble_eq_true rfl) (cost_ok true true true true _ _ (fun _ => Or.inl rfl) (fun _ => Or.inl rfl)) (fun h => by cases h) (fun h => by cases h) (cj_recv C hJ 0 0 (ad_s rfl) (Nat.le_of_ble_eq_true rfl) rfl rfl) (cwV 0 hts (lw_V q809 q811 qs10 q109 q812) rfl rfl rfl hdC_find ⟨(Nat.le_of_ble_eq_true rfl), (Nat.le_of_ble_eq_true rfl)⟩) rfl hl.1 rfl (lv_room (Nat.le_of_ble_eq_true rfl)) dX0_dustOf_30 (fun D11 H locs _ hJ => ?_)
    refine lv_aload_n hx hb dX0_dustOf_33 rfl (lv_at hl 0 rfl) ?_
    obtain ⟨c13, hc13, hzw4⟩ := ob hzw4
    refine cc_Vt (As := []) (rest := []) C hJ (metC_carriedNow l c10 c13 hc13) rfl rfl (show 0 + 0 ≤ 0 from Nat.le_of_ble_eq_true rfl) (cost_ok false false true true _ _ (fun h => by cases h) (fun h => by cases h)) (fun _ => rfl) (fun _ => rfl) (cj_recv C hJ 0 0 (ad_s rfl) (Nat.le_of_ble_eq_true rfl) rfl rfl) (cwV 0 hts (lw_V q934 q936 qs26 q109 q937) rfl rfl rfl hdC_carriedNow ⟨(Nat.le_of_ble_eq_true rfl), (Nat.le_of_ble_eq_true rfl)⟩) rfl hl.1 rfl (lv_room (Nat.le_of_ble_eq_true rfl)) dX0_dustOf_34 (fun H locs hJ => ?_)
    refine lv_iload hx hb dX0_dustOf_37 (lv_at hl 3 rfl) ?_
    obtain ⟨q18, hq18, hzw4⟩ := ob hzw4
    have hjq18 : ∀ (H : Heap) (locs : List Loc) (ce sl : Nat) (ls : Array Slot), CJ G s (RM 21 0 true true G) 0 true true true true D11 c10 H locs ce sl → lv_has ls 6 [(0, .ref (gA G 0 0)), (2, .int v2), (3, .int q18.1), (4, .int q18.2)] → W p l e (RM 21 0 true true G) s m args below meth c H locs ce sl Q (F0 m 56 ls []) := by
      intro H locs ce sl ls hJ hl
      refine lv_aload_n hx hb dX0_dustOf_56 rfl (lv_at hl 0 rfl) ?_
      refine lv_dup hx hb dX0_dustOf_57 rfl ?_
      refine cj_g0 C hJ 0 0 11 (ad_s rfl) (Nat.le_of_ble_eq_true rfl) (Nat.le_of_ble_eq_true rfl) rfl rfl rfl rfl (fl_X0_265_0 C) dX0_dustOf_58 ?_
      refine lv_iconst hx hb dX0_dustOf_61 kc_1 ?_
      refine lv_iadd hx hb dX0_dustOf_62 ?_
      obtain ⟨σ19, hσ19, hzw4⟩ := ob hzw4
      refine cj_p0 C hJ 0 0 11 (ad_s rfl) (Nat.le_of_ble_eq_true rfl) (Nat.le_of_ble_eq_true rfl) rfl rfl rfl rfl rfl rfl rfl (fl_X0_265_0 C) hσ19 dX0_dustOf_63 (fun H locs hJ => ?_)
      refine lv_goto (tgt := 20) hx hb dX0_dustOf_66 (by decide) ?_
      have hzw4 := Option.some.inj hzw4
      subst hzw4
      exact ihw4 _ hqw4 _ _ _ _ _ _ _ _ hJ (lv_sub hl [0, 1, 2, 3] rfl)
    refine lv_icmp_gt (tgt := 45) hx hb dX0_dustOf_39 (by decide) (fun hc15 => ?_) (fun hc15 => ?_)
    · have hq18 := ip hq18 hc15
      refine lv_aload_n hx hb dX0_dustOf_45 rfl (lv_at hl 0 rfl) ?_
      refine cj_g0 C hJ 0 0 11 (ad_s rfl) (Nat.le_of_ble_eq_true rfl) (Nat.le_of_ble_eq_true rfl) rfl rfl rfl rfl (fl_X0_265_0 C) dX0_dustOf_46 ?_
      refine lv_istore_n (lv' := [(3, .int (c10 0 0 11)), (0, .ref (gA G 0 0)), (2, .int v2), (4, .int w4.2.1)]) hx hb dX0_dustOf_49 rfl hl (Nat.le_of_ble_eq_true rfl) rfl (fun ls hl => ?_)
      refine lv_aload_n hx hb dX0_dustOf_50 rfl (lv_at hl 1 rfl) ?_
      obtain ⟨c16, hc16, hq18⟩ := ob hq18
      refine cc_Vt (As := []) (rest := []) C hJ (metC_carriedNow l c10 c16 hc16) rfl rfl (show 0 + 0 ≤ 0 from Nat.le_of_ble_eq_true rfl) (cost_ok false false true true _ _ (fun h => by cases h) (fun h => by cases h)) (fun _ => rfl) (fun _ => rfl) (cj_recv C hJ 0 0 (ad_s rfl) (Nat.le_of_ble_eq_true rfl) rfl rfl) (cwV 0 hts (lw_V q934 q936 qs26 q109 q937) rfl rfl rfl hdC_carriedNow ⟨(Nat.le_of_ble_eq_true rfl), (Nat.le_of_ble_eq_true rfl)⟩) rfl hl.1 rfl (lv_room (Nat.le_of_ble_eq_true rfl)) dX0_dustOf_51 (fun H locs hJ => ?_)
      refine lv_istore (lv' := [(4, .int c16), (3, .int (c10 0 0 11)), (0, .ref (gA G 0 0)), (2, .int v2)]) hx hb dX0_dustOf_54 hl (Nat.le_of_ble_eq_true rfl) rfl (fun ls hl => ?_)
      have hq18 := Option.some.inj hq18
      subst hq18
      exact hjq18 _ _ _ _ _ hJ (lv_sub hl [2, 3, 1, 0] rfl)
    · have hq18 := im hq18 hc15
      refine lv_goto (tgt := 56) hx hb dX0_dustOf_42 (by decide) ?_
      have hq18 := Option.some.inj hq18
      subst hq18
      exact hjq18 _ _ _ _ _ hJ (lv_sub hl [0, 1, 2, 3] rfl)
def C_dust (σ : CM) (v1 : Int32) (v2 : Int32) : Option (Int32 × CM) :=
  (C_isHour σ v1).bind fun c1 =>
  if c1 = 0 then
    some ((-2 : Int32), σ)
  else
    (C_isTwo σ v2).bind fun c4 =>
    if c4 = 0 then
      some ((-2 : Int32), σ)
    else
      (C_dustOf σ v1 v2).bind fun c7 =>
      some (c7.1, c7.2)
theorem hdC_dust : yX0_dust.cls = RX0 ∧ yX0_dust.cls ≠ "java/lang/invoke/MethodHandle" ∧ yX0_dust.cls ≠ "java/lang/invoke/VarHandle" ∧ (parseMethodDescriptor yX0_dust.desc).map (fun d => d.parameters.length) = some 2 := by decide +kernel
set_option maxHeartbeats 4000000 in
theorem metC_dust (l : Launch) (σ : CM) (v1 : Int32) (v2 : Int32) (res : Int32 × CM) (h : C_dust σ v1 v2 = some res) : MetC l yX0_dust (ws_ yX0_dust cX0_dust 3 (some .int)) 22 0 true true false false false false (fun G => [.ref (gA G 0 0), .int v1, .int v2]) σ (fun _ => (some (.int res.1))) res.2 := by
  refine met_wC (own := RX0) (by decide +kernel) rfl (by simp [cRt]) (fun _ => Nat.le_of_ble_eq_true rfl) (fun G p e s m args below meth c Q hr1 hr2 C hE ls hl hJ => ?_)
  have hx := C.1.1
  have hb := C.1.2.1
  have hown := C.1.2.2.2.1
  have hts := C.1.2.2.2.2
  have hl : lv_has ls 3 [(0, .ref (gA G 0 0)), (1, .int v1), (2, .int v2)] := hl
  unfold C_dust at h
  refine lv_iload_n hx hb dX0_dust_0 rfl (lv_at hl 1 rfl) ?_
  obtain ⟨c1, hc1, h⟩ := ob h
  refine cc_S (As := [.int v1]) (rest := []) C hJ (metC_isHour l σ v1 c1 hc1) rfl rfl (show 0 + 0 ≤ 0 from Nat.le_of_ble_eq_true rfl) (cost_ok false false true true _ _ (fun h => by cases h) (fun h => by cases h)) (fun h => by cases h) (fun h => by cases h) (va_cwS 1 hts (lw_S q569 q570 q109 q571) rfl rfl rfl hdC_isHour ⟨(Nat.le_of_ble_eq_true rfl), (Nat.le_of_ble_eq_true rfl)⟩) rfl hl.1 rfl (lv_room (Nat.le_of_ble_eq_true rfl)) dX0_dust_1 (fun D2 H locs _ hJ => ?_)
  refine lv_if_eq (tgt := 23) hx hb dX0_dust_4 (by decide) (fun hc3 => ?_) (fun hc3 => ?_)
  · have h := ip h hc3
    refine lv_bipush hx hb dX0_dust_23 kb_m2 ?_
    have h := Option.some.inj h
    subst h
    exact hE _ _ _ _ _ _ _ _ _ _ _ _ (some (.int ((-2 : Int32)))) hJ (fun h => by cases h) (fun h => by cases h) ⟨_, rfl⟩ rfl dX0_dust_25
  · have h := im h hc3
    refine lv_iload_n hx hb dX0_dust_7 rfl (lv_at hl 2 rfl) ?_
    obtain ⟨c4, hc4, h⟩ := ob h
    refine cc_S (As := [.int v2]) (rest := []) C hJ (metC_isTwo l σ v2 c4 hc4) rfl rfl (show 0 + 0 ≤ 0 from Nat.le_of_ble_eq_true rfl) (cost_ok false false true true _ _ (fun h => by cases h) (fun h => by cases h)) (fun h => by cases h) (fun h => by cases h) (va_cwS 1 hts (lw_S q142 q143 q109 q144) rfl rfl rfl hdC_isTwo ⟨(Nat.le_of_ble_eq_true rfl), (Nat.le_of_ble_eq_true rfl)⟩) rfl hl.1 rfl (lv_room (Nat.le_of_ble_eq_true rfl)) dX0_dust_8 (fun D5 H locs _ hJ => ?_)
    refine lv_if_eq (tgt := 23) hx hb dX0_dust_11 (by decide) (fun hc6 => ?_) (fun hc6 => ?_)
    · have h := ip h hc6
      refine lv_bipush hx hb dX0_dust_23 kb_m2 ?_
      have h := Option.some.inj h
      subst h
      exact hE _ _ _ _ _ _ _ _ _ _ _ _ (some (.int ((-2 : Int32)))) hJ (fun h => by cases h) (fun h => by cases h) ⟨_, rfl⟩ rfl dX0_dust_25
    · have h := im h hc6
      refine lv_aload_n hx hb dX0_dust_14 rfl (lv_at hl 0 rfl) ?_
      refine lv_iload_n hx hb dX0_dust_15 rfl (lv_at hl 1 rfl) ?_
      refine lv_iload_n hx hb dX0_dust_16 rfl (lv_at hl 2 rfl) ?_
      obtain ⟨c7, hc7, h⟩ := ob h
      refine cc_VW (As := [.int v1, .int v2]) (rest := []) C hJ (metC_dustOf l σ v1 v2 c7 hc7) rfl rfl (show 0 + 0 ≤ 0 from Nat.le_of_ble_eq_true rfl) (cost_in true true true true _ _ (fun _ => Or.inl rfl) (fun _ => Or.inl rfl)) (fun h => by cases h) (fun h => by cases h) (cj_recv C hJ 0 0 (ad_s rfl) (Nat.le_of_ble_eq_true rfl) rfl rfl) (lw_VW q974 q976 qs31 q109 q977) rfl hdC_dustOf ⟨(Nat.le_of_ble_eq_true rfl), (Nat.le_of_ble_eq_true rfl)⟩ rfl hl.1 rfl (lv_room (Nat.le_of_ble_eq_true rfl)) dX0_dust_17 (fun D8 H locs _ hJ => ?_)
      refine lv_goto (tgt := 25) hx hb dX0_dust_20 (by decide) ?_
      have h := Option.some.inj h
      subst h
      exact hE _ _ _ _ _ _ _ _ _ _ _ _ (some (.int (c7.1))) hJ (fun h => by cases h) (fun h => by cases h) ⟨_, rfl⟩ rfl dX0_dust_25
