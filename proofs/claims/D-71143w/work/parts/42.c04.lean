/-! the component, walked (printed by tool/gen_c.py) -/
set_option maxRecDepth 100000
def C_boyBy (σ : CM) (v1 : Int32) : Option (Int32 × CM) :=
  (some (cput σ 0 0 10 (0 : Int32))).bind fun σ1 =>
  (some (cput σ1 0 0 9 (0 : Int32))).bind fun σ2 =>
  (lp (S := Int32 × Int32 × CM) (T := Int32 × Int32 × CM) (fun w3 =>
    if (20 : Int32) ≤ (w3.2.2 0 0 9) then
        some (.inr (w3.1, w3.2.1, w3.2.2))
      else
        (C_find w3.2.2).bind fun c9 =>
        (C_governmentsNow c9).bind fun c12 =>
        (if w3.2.1 < c12 then
            (C_governmentsNow c9).bind fun c15 =>
            some ((c9 0 0 9), c15)
          else
            some (w3.1, w3.2.1) : Option (Int32 × Int32)).bind fun q17 =>
        (some (cput c9 0 0 9 ((c9 0 0 9) + (1 : Int32)))).bind fun σ18 =>
        some (.inl (q17.1, q17.2, σ18))) 2000 ((-1 : Int32), (-1 : Int32), σ2)).bind fun q4 =>
  (some (cput q4.2.2 0 0 9 (-1 : Int32))).bind fun σ22 =>
  if v1 = 0 then
    some (q4.1, σ22)
  else
    some (q4.2.1, σ22)
theorem hdC_boyBy : yX0_boyBy.cls = RX0 ∧ yX0_boyBy.cls ≠ "java/lang/invoke/MethodHandle" ∧ yX0_boyBy.cls ≠ "java/lang/invoke/VarHandle" ∧ (parseMethodDescriptor yX0_boyBy.desc).map (fun d => d.parameters.length) = some 1 := by decide +kernel
set_option maxHeartbeats 4000000 in
theorem metC_boyBy (l : Launch) (σ : CM) (v1 : Int32) (res : Int32 × CM) (h : C_boyBy σ v1 = some res) : MetC l yX0_boyBy (wsW_ yX0_boyBy cX0_boyBy 5 (some .int) [((4 : Nat), (61 : Nat), (69 : Nat), (0 : Nat)), ((69 : Nat), (71 : Nat), (69 : Nat), (0 : Nat))]) 21 0 true true false false false false (fun G => [.ref (gA G 0 0), .int v1]) σ (fun _ => (some (.int res.1))) res.2 := by
  refine met_wCW (own := RX0) (by decide +kernel) rfl (by simp [cRt]) (fun _ => Nat.le_of_ble_eq_true rfl) (fun G p e s m args below meth c Q hr1 hr2 C hE ls hl hJ => ?_)
  have hx := C.1.1
  have hb := C.1.2.1
  have hown := C.1.2.2.2.1
  have hts := C.1.2.2.2.2
  have hl : lv_has ls 5 [(0, .ref (gA G 0 0)), (1, .int v1)] := hl
  unfold C_boyBy at h
  refine lv_iconst hx hb dX0_boyBy_0 kc_m1 ?_
  refine lv_istore_n (lv' := [(2, .int (-1 : Int32)), (0, .ref (gA G 0 0)), (1, .int v1)]) hx hb dX0_boyBy_1 rfl hl (Nat.le_of_ble_eq_true rfl) rfl (fun ls hl => ?_)
  refine lv_iconst hx hb dX0_boyBy_2 kc_m1 ?_
  refine lv_istore_n (lv' := [(3, .int (-1 : Int32)), (2, .int (-1 : Int32)), (0, .ref (gA G 0 0)), (1, .int v1)]) hx hb dX0_boyBy_3 rfl hl (Nat.le_of_ble_eq_true rfl) rfl (fun ls hl => ?_)
  refine lv_aload_n hx hb dX0_boyBy_4 rfl (lv_at hl 2 rfl) ?_
  refine lv_iconst hx hb dX0_boyBy_5 kc_0 ?_
  obtain ⟨σ1, hσ1, h⟩ := ob h
  refine cj_p0 C hJ 0 0 10 (ad_s rfl) (Nat.le_of_ble_eq_true rfl) (Nat.le_of_ble_eq_true rfl) rfl rfl rfl rfl rfl rfl rfl (fl_X0_262_0 C) hσ1 dX0_boyBy_6 (fun H locs hJ => ?_)
  refine lv_aload_n hx hb dX0_boyBy_9 rfl (lv_at hl 2 rfl) ?_
  refine lv_iconst hx hb dX0_boyBy_10 kc_0 ?_
  obtain ⟨σ2, hσ2, h⟩ := ob h
  refine cj_p0 C hJ 0 0 9 (ad_s rfl) (Nat.le_of_ble_eq_true rfl) (Nat.le_of_ble_eq_true rfl) rfl rfl rfl rfl rfl rfl rfl (fl_X0_176_0 C) hσ2 dX0_boyBy_11 (fun H locs hJ => ?_)
  obtain ⟨q4, hq4, h⟩ := ob h
  have hxq4 : ∀ (u19 : Bool) (u20 : Bool) (D21 : Nat → Nat → Nat) (H : Heap) (locs : List Loc) (ce sl : Nat) (ls : Array Slot), CJ G s (RM 21 0 true true G) 0 true true u19 u20 D21 q4.2.2 H locs ce sl → lv_has ls 5 [(0, .ref (gA G 0 0)), (1, .int v1), (2, .int q4.1), (3, .int q4.2.1)] → W p l e (RM 21 0 true true G) s m args below meth c H locs ce sl Q (F0 m 61 ls []) := by
    intro u19 u20 D21 H locs ce sl ls hJ hl
    refine lv_aload_n hx hb dX0_boyBy_61 rfl (lv_at hl 0 rfl) ?_
    refine lv_iconst hx hb dX0_boyBy_62 kc_m1 ?_
    obtain ⟨σ22, hσ22, h⟩ := ob h
    refine cj_p0 C hJ 0 0 9 (ad_s rfl) (Nat.le_of_ble_eq_true rfl) (Nat.le_of_ble_eq_true rfl) rfl rfl rfl rfl rfl rfl rfl (fl_X0_176_0 C) hσ22 dX0_boyBy_63 (fun H locs hJ => ?_)
    refine lv_goto (tgt := 79) hx hb dX0_boyBy_66 (by decide) ?_
    refine lv_iload_n hx hb dX0_boyBy_79 rfl (lv_at hl 1 rfl) ?_
    refine lv_if_ne (tgt := 87) hx hb dX0_boyBy_80 (by decide) (fun hc23 => ?_) (fun hc23 => ?_)
    · have h := im h hc23
      refine lv_iload_n hx hb dX0_boyBy_87 rfl (lv_at hl 3 rfl) ?_
      have h := Option.some.inj h
      subst h
      exact hE _ _ _ _ _ _ _ _ _ _ _ _ (some (.int (q4.2.1))) hJ (fun h => by cases h) (fun h => by cases h) ⟨_, rfl⟩ rfl dX0_boyBy_88
    · have h := ip h hc23
      refine lv_iload_n hx hb dX0_boyBy_83 rfl (lv_at hl 2 rfl) ?_
      refine lv_goto (tgt := 88) hx hb dX0_boyBy_84 (by decide) ?_
      have h := Option.some.inj h
      subst h
      exact hE _ _ _ _ _ _ _ _ _ _ _ _ (some (.int (q4.1))) hJ (fun h => by cases h) (fun h => by cases h) ⟨_, rfl⟩ rfl dX0_boyBy_88
  refine lp_ind (P := fun (w3 : Int32 × Int32 × CM) => ∀ (u5 : Bool) (u6 : Bool) (D7 : Nat → Nat → Nat) (H : Heap) (locs : List Loc) (ce sl : Nat) (ls : Array Slot), CJ G s (RM 21 0 true true G) 0 true true u5 u6 D7 w3.2.2 H locs ce sl → lv_has ls 5 [(0, .ref (gA G 0 0)), (1, .int v1), (2, .int w3.1), (3, .int w3.2.1)] → W p l e (RM 21 0 true true G) s m args below meth c H locs ce sl Q (F0 m 14 ls [])) ?_ _ _ hq4 _ _ _ _ _ _ _ _ hJ (lv_sub hl [2, 3, 1, 0] rfl)
  intro nw3 w3 ihw3 zw3 hzw3 hqw3 u5 u6 D7 H locs ce sl ls hJ hl
  refine lv_aload_n hx hb dX0_boyBy_14 rfl (lv_at hl 0 rfl) ?_
  refine cj_g0 C hJ 0 0 9 (ad_s rfl) (Nat.le_of_ble_eq_true rfl) (Nat.le_of_ble_eq_true rfl) rfl rfl rfl rfl (fl_X0_176_0 C) dX0_boyBy_15 ?_
  refine lv_bipush hx hb dX0_boyBy_18 kb_20 ?_
  refine lv_icmp_ge (tgt := 61) hx hb dX0_boyBy_20 (by decide) (fun hc8 => ?_) (fun hc8 => ?_)
  · have hzw3 := ip hzw3 hc8
    have hzw3 := Option.some.inj hzw3
    subst hzw3
    have hqw3 : _ = q4 := hqw3
    subst hqw3
    exact hxq4 _ _ _ _ _ _ _ _ hJ (lv_sub hl [0, 1, 2, 3] rfl)
  · have hzw3 := im hzw3 hc8
    refine lv_aload_n hx hb dX0_boyBy_23 rfl (lv_at hl 0 rfl) ?_
    obtain ⟨c9, hc9, hzw3⟩ := ob hzw3
    refine cc_V (As := []) (rest := []) C hJ (metC_find l w3.2.2 c9 hc9) rfl rfl (show 0 + 0 ≤ 0 from Nat.le_of_ble_eq_true rfl) (cost_ok true true true true _ _ (fun _ => Or.inl rfl) (fun _ => Or.inl rfl)) (fun h => by cases h) (fun h => by cases h) (cj_recv C hJ 0 0 (ad_s rfl) (Nat.le_of_ble_eq_true rfl) rfl rfl) (cwV 0 hts (lw_V q809 q811 qs10 q109 q812) rfl rfl rfl hdC_find ⟨(Nat.le_of_ble_eq_true rfl), (Nat.le_of_ble_eq_true rfl)⟩) rfl hl.1 rfl (lv_room (Nat.le_of_ble_eq_true rfl)) dX0_boyBy_24 (fun D10 H locs _ hJ => ?_)
    refine lv_aload_n hx hb dX0_boyBy_27 rfl (lv_at hl 0 rfl) ?_
    obtain ⟨c12, hc12, hzw3⟩ := ob hzw3
    refine cc_Vt (As := []) (rest := []) C hJ (metC_governmentsNow l c9 c12 hc12) rfl rfl (show 0 + 0 ≤ 0 from Nat.le_of_ble_eq_true rfl) (cost_ok false false true true _ _ (fun h => by cases h) (fun h => by cases h)) (fun _ => rfl) (fun _ => rfl) (cj_recv C hJ 0 0 (ad_s rfl) (Nat.le_of_ble_eq_true rfl) rfl rfl) (cwV 0 hts (lw_V q926 q928 qs25 q109 q929) rfl rfl rfl hdC_governmentsNow ⟨(Nat.le_of_ble_eq_true rfl), (Nat.le_of_ble_eq_true rfl)⟩) rfl hl.1 rfl (lv_room (Nat.le_of_ble_eq_true rfl)) dX0_boyBy_28 (fun H locs hJ => ?_)
    refine lv_iload_n hx hb dX0_boyBy_31 rfl (lv_at hl 3 rfl) ?_
    obtain ⟨q17, hq17, hzw3⟩ := ob hzw3
    have hjq17 : ∀ (H : Heap) (locs : List Loc) (ce sl : Nat) (ls : Array Slot), CJ G s (RM 21 0 true true G) 0 true true true true D10 c9 H locs ce sl → lv_has ls 5 [(0, .ref (gA G 0 0)), (1, .int v1), (2, .int q17.1), (3, .int q17.2)] → W p l e (RM 21 0 true true G) s m args below meth c H locs ce sl Q (F0 m 48 ls []) := by
      intro H locs ce sl ls hJ hl
      refine lv_aload_n hx hb dX0_boyBy_48 rfl (lv_at hl 0 rfl) ?_
      refine lv_dup hx hb dX0_boyBy_49 rfl ?_
      refine cj_g0 C hJ 0 0 9 (ad_s rfl) (Nat.le_of_ble_eq_true rfl) (Nat.le_of_ble_eq_true rfl) rfl rfl rfl rfl (fl_X0_176_0 C) dX0_boyBy_50 ?_
      refine lv_iconst hx hb dX0_boyBy_53 kc_1 ?_
      refine lv_iadd hx hb dX0_boyBy_54 ?_
      obtain ⟨σ18, hσ18, hzw3⟩ := ob hzw3
      refine cj_p0 C hJ 0 0 9 (ad_s rfl) (Nat.le_of_ble_eq_true rfl) (Nat.le_of_ble_eq_true rfl) rfl rfl rfl rfl rfl rfl rfl (fl_X0_176_0 C) hσ18 dX0_boyBy_55 (fun H locs hJ => ?_)
      refine lv_goto (tgt := 14) hx hb dX0_boyBy_58 (by decide) ?_
      have hzw3 := Option.some.inj hzw3
      subst hzw3
      exact ihw3 _ hqw3 _ _ _ _ _ _ _ _ hJ (lv_sub hl [0, 1, 2, 3] rfl)
    refine lv_icmp_gt (tgt := 38) hx hb dX0_boyBy_32 (by decide) (fun hc14 => ?_) (fun hc14 => ?_)
    · have hq17 := ip hq17 hc14
      refine lv_aload_n hx hb dX0_boyBy_38 rfl (lv_at hl 0 rfl) ?_
      refine cj_g0 C hJ 0 0 9 (ad_s rfl) (Nat.le_of_ble_eq_true rfl) (Nat.le_of_ble_eq_true rfl) rfl rfl rfl rfl (fl_X0_176_0 C) dX0_boyBy_39 ?_
      refine lv_istore_n (lv' := [(2, .int (c9 0 0 9)), (0, .ref (gA G 0 0)), (1, .int v1), (3, .int w3.2.1)]) hx hb dX0_boyBy_42 rfl hl (Nat.le_of_ble_eq_true rfl) rfl (fun ls hl => ?_)
      refine lv_aload_n hx hb dX0_boyBy_43 rfl (lv_at hl 1 rfl) ?_
      obtain ⟨c15, hc15, hq17⟩ := ob hq17
      refine cc_Vt (As := []) (rest := []) C hJ (metC_governmentsNow l c9 c15 hc15) rfl rfl (show 0 + 0 ≤ 0 from Nat.le_of_ble_eq_true rfl) (cost_ok false false true true _ _ (fun h => by cases h) (fun h => by cases h)) (fun _ => rfl) (fun _ => rfl) (cj_recv C hJ 0 0 (ad_s rfl) (Nat.le_of_ble_eq_true rfl) rfl rfl) (cwV 0 hts (lw_V q926 q928 qs25 q109 q929) rfl rfl rfl hdC_governmentsNow ⟨(Nat.le_of_ble_eq_true rfl), (Nat.le_of_ble_eq_true rfl)⟩) rfl hl.1 rfl (lv_room (Nat.le_of_ble_eq_true rfl)) dX0_boyBy_44 (fun H locs hJ => ?_)
      refine lv_istore_n (lv' := [(3, .int c15), (2, .int (c9 0 0 9)), (0, .ref (gA G 0 0)), (1, .int v1)]) hx hb dX0_boyBy_47 rfl hl (Nat.le_of_ble_eq_true rfl) rfl (fun ls hl => ?_)
      have hq17 := Option.some.inj hq17
      subst hq17
      exact hjq17 _ _ _ _ _ hJ (lv_sub hl [2, 3, 1, 0] rfl)
    · have hq17 := im hq17 hc14
      refine lv_goto (tgt := 48) hx hb dX0_boyBy_35 (by decide) ?_
      have hq17 := Option.some.inj hq17
      subst hq17
      exact hjq17 _ _ _ _ _ hJ (lv_sub hl [0, 1, 2, 3] rfl)
def C_boy (σ : CM) (v1 : Int32) : Option (Int32 × CM) :=
  (C_isTwo σ v1).bind fun c1 =>
  if c1 = 0 then
    some ((-2 : Int32), σ)
  else
    (C_boyBy σ v1).bind fun c4 =>
    some (c4.1, c4.2)
theorem hdC_boy : yX0_boy.cls = RX0 ∧ yX0_boy.cls ≠ "java/lang/invoke/MethodHandle" ∧ yX0_boy.cls ≠ "java/lang/invoke/VarHandle" ∧ (parseMethodDescriptor yX0_boy.desc).map (fun d => d.parameters.length) = some 1 := by decide +kernel
set_option maxHeartbeats 4000000 in
theorem metC_boy (l : Launch) (σ : CM) (v1 : Int32) (res : Int32 × CM) (h : C_boy σ v1 = some res) : MetC l yX0_boy (ws_ yX0_boy cX0_boy 2 (some .int)) 22 0 true true false false false false (fun G => [.ref (gA G 0 0), .int v1]) σ (fun _ => (some (.int res.1))) res.2 := by
  refine met_wC (own := RX0) (by decide +kernel) rfl (by simp [cRt]) (fun _ => Nat.le_of_ble_eq_true rfl) (fun G p e s m args below meth c Q hr1 hr2 C hE ls hl hJ => ?_)
  have hx := C.1.1
  have hb := C.1.2.1
  have hown := C.1.2.2.2.1
  have hts := C.1.2.2.2.2
  have hl : lv_has ls 2 [(0, .ref (gA G 0 0)), (1, .int v1)] := hl
  unfold C_boy at h
  refine lv_iload_n hx hb dX0_boy_0 rfl (lv_at hl 1 rfl) ?_
  obtain ⟨c1, hc1, h⟩ := ob h
  refine cc_S (As := [.int v1]) (rest := []) C hJ (metC_isTwo l σ v1 c1 hc1) rfl rfl (show 0 + 0 ≤ 0 from Nat.le_of_ble_eq_true rfl) (cost_ok false false true true _ _ (fun h => by cases h) (fun h => by cases h)) (fun h => by cases h) (fun h => by cases h) (va_cwS 1 hts (lw_S q142 q143 q109 q144) rfl rfl rfl hdC_isTwo ⟨(Nat.le_of_ble_eq_true rfl), (Nat.le_of_ble_eq_true rfl)⟩) rfl hl.1 rfl (lv_room (Nat.le_of_ble_eq_true rfl)) dX0_boy_1 (fun D2 H locs _ hJ => ?_)
  refine lv_if_eq (tgt := 15) hx hb dX0_boy_4 (by decide) (fun hc3 => ?_) (fun hc3 => ?_)
  · have h := ip h hc3
    refine lv_bipush hx hb dX0_boy_15 kb_m2 ?_
    have h := Option.some.inj h
    subst h
    exact hE _ _ _ _ _ _ _ _ _ _ _ _ (some (.int ((-2 : Int32)))) hJ (fun h => by cases h) (fun h => by cases h) ⟨_, rfl⟩ rfl dX0_boy_17
  · have h := im h hc3
    refine lv_aload_n hx hb dX0_boy_7 rfl (lv_at hl 0 rfl) ?_
    refine lv_iload_n hx hb dX0_boy_8 rfl (lv_at hl 1 rfl) ?_
    obtain ⟨c4, hc4, h⟩ := ob h
    refine cc_VW (As := [.int v1]) (rest := []) C hJ (metC_boyBy l σ v1 c4 hc4) rfl rfl (show 0 + 0 ≤ 0 from Nat.le_of_ble_eq_true rfl) (cost_in true true true true _ _ (fun _ => Or.inl rfl) (fun _ => Or.inl rfl)) (fun h => by cases h) (fun h => by cases h) (cj_recv C hJ 0 0 (ad_s rfl) (Nat.le_of_ble_eq_true rfl) rfl rfl) (lw_VW q982 q984 qs32 q109 q985) rfl hdC_boyBy ⟨(Nat.le_of_ble_eq_true rfl), (Nat.le_of_ble_eq_true rfl)⟩ rfl hl.1 rfl (lv_room (Nat.le_of_ble_eq_true rfl)) dX0_boy_9 (fun D5 H locs _ hJ => ?_)
    refine lv_goto (tgt := 17) hx hb dX0_boy_12 (by decide) ?_
    have h := Option.some.inj h
    subst h
    exact hE _ _ _ _ _ _ _ _ _ _ _ _ (some (.int (c4.1))) hJ (fun h => by cases h) (fun h => by cases h) ⟨_, rfl⟩ rfl dX0_boy_17
