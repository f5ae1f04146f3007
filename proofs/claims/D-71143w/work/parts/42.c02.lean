/-! the component, walked (printed by tool/gen_c.py) -/
set_option maxRecDepth 100000
def C_governmentsNow (σ : CM) : Option (Int32) :=
  (lp (S := Int32 × Int32) (T := Int32) (fun w1 =>
    if (20 : Int32) ≤ w1.2 then
        some (.inr w1.1)
      else
        (C_isCarried σ w1.2).bind fun c4 =>
        (C_isCarried σ (w1.2 - (1 : Int32))).bind fun c6 =>
        (if c4 = c6 then
            some (0 : Int32)
          else
            some (1 : Int32) : Option (Int32)).bind fun q9 =>
        some (.inl ((w1.1 + q9), (w1.2 + 1)))) 2000 ((0 : Int32), (1 : Int32))).bind fun q2 =>
  some q2
theorem hdC_governmentsNow : yX0_governmentsNow.cls = RX0 ∧ yX0_governmentsNow.cls ≠ "java/lang/invoke/MethodHandle" ∧ yX0_governmentsNow.cls ≠ "java/lang/invoke/VarHandle" ∧ (parseMethodDescriptor yX0_governmentsNow.desc).map (fun d => d.parameters.length) = some 0 := by decide +kernel
set_option maxHeartbeats 4000000 in
theorem metC_governmentsNow (l : Launch) (σ : CM) (res : Int32) (h : C_governmentsNow σ = some res) : MetC l yX0_governmentsNow (ws_ yX0_governmentsNow cX0_governmentsNow 3 (some .int)) 19 0 false false false false true true (fun G => [.ref (gA G 0 0)]) σ (fun _ => (some (.int res))) σ := by
  refine met_wC (own := RX0) (by decide +kernel) rfl (by simp [cRt]) (fun _ => Nat.le_of_ble_eq_true rfl) (fun G p e s m args below meth c Q hr1 hr2 C hE ls hl hJ => ?_)
  have hx := C.1.1
  have hb := C.1.2.1
  have hown := C.1.2.2.2.1
  have hts := C.1.2.2.2.2
  have hl : lv_has ls 3 [(0, .ref (gA G 0 0))] := hl
  have hJ := CJ.s1 (hr1 rfl) hJ
  have hJ := CJ.s2 (hr2 rfl) hJ
  unfold C_governmentsNow at h
  refine lv_iconst hx hb dX0_governmentsNow_0 kc_0 ?_
  refine lv_istore_n (lv' := [(1, .int (0 : Int32)), (0, .ref (gA G 0 0))]) hx hb dX0_governmentsNow_1 rfl hl (Nat.le_of_ble_eq_true rfl) rfl (fun ls hl => ?_)
  refine lv_iconst hx hb dX0_governmentsNow_2 kc_1 ?_
  refine lv_istore_n (lv' := [(2, .int (1 : Int32)), (1, .int (0 : Int32)), (0, .ref (gA G 0 0))]) hx hb dX0_governmentsNow_3 rfl hl (Nat.le_of_ble_eq_true rfl) rfl (fun ls hl => ?_)
  obtain ⟨q2, hq2, h⟩ := ob h
  have hxq2 : ∀ (H : Heap) (locs : List Loc) (ce sl : Nat) (ls : Array Slot), CJ G s (RM 19 0 false false G) 0 false false true true G.2.2.2 σ H locs ce sl → lv_has ls 3 [(1, .int q2)] → W p l e (RM 19 0 false false G) s m args below meth c H locs ce sl Q (F0 m 39 ls []) := by
    intro H locs ce sl ls hJ hl
    refine lv_iload_n hx hb dX0_governmentsNow_39 rfl (lv_at hl 0 rfl) ?_
    have h := Option.some.inj h
    subst h
    exact hE _ _ _ _ _ _ _ _ _ _ _ _ (some (.int (q2))) hJ (fun h => by cases h) (fun h => by cases h) ⟨_, rfl⟩ rfl dX0_governmentsNow_40
  refine lp_ind (P := fun (w1 : Int32 × Int32) => ∀ (H : Heap) (locs : List Loc) (ce sl : Nat) (ls : Array Slot), CJ G s (RM 19 0 false false G) 0 false false true true G.2.2.2 σ H locs ce sl → lv_has ls 3 [(0, .ref (gA G 0 0)), (1, .int w1.1), (2, .int w1.2)] → W p l e (RM 19 0 false false G) s m args below meth c H locs ce sl Q (F0 m 4 ls [])) ?_ _ _ hq2 _ _ _ _ _ hJ (lv_sub hl [2, 1, 0] rfl)
  intro nw1 w1 ihw1 zw1 hzw1 hqw1 H locs ce sl ls hJ hl
  refine lv_iload_n hx hb dX0_governmentsNow_4 rfl (lv_at hl 2 rfl) ?_
  refine lv_bipush hx hb dX0_governmentsNow_5 kb_20 ?_
  refine lv_icmp_ge (tgt := 39) hx hb dX0_governmentsNow_7 (by decide) (fun hc3 => ?_) (fun hc3 => ?_)
  · have hzw1 := ip hzw1 hc3
    have hzw1 := Option.some.inj hzw1
    subst hzw1
    have hqw1 : _ = q2 := hqw1
    subst hqw1
    exact hxq2 _ _ _ _ _ hJ (lv_sub hl [1] rfl)
  · have hzw1 := im hzw1 hc3
    refine lv_iload_n hx hb dX0_governmentsNow_10 rfl (lv_at hl 1 rfl) ?_
    refine lv_aload_n hx hb dX0_governmentsNow_11 rfl (lv_at hl 0 rfl) ?_
    refine lv_iload_n hx hb dX0_governmentsNow_12 rfl (lv_at hl 2 rfl) ?_
    obtain ⟨c4, hc4, hzw1⟩ := ob hzw1
    refine cc_Vt (As := [.int w1.2]) (rest := [.int w1.1]) C hJ (metC_isCarried l σ w1.2 c4 hc4) rfl rfl (show 0 + 0 ≤ 0 from Nat.le_of_ble_eq_true rfl) (cost_ok false false false false _ _ (fun h => by cases h) (fun h => by cases h)) (fun _ => rfl) (fun _ => rfl) (cj_recv C hJ 0 0 (ad_s rfl) (Nat.le_of_ble_eq_true rfl) rfl rfl) (cwV 1 hts (lw_V q918 q920 qs24 q109 q921) rfl rfl rfl hdC_isCarried ⟨(Nat.le_of_ble_eq_true rfl), (Nat.le_of_ble_eq_true rfl)⟩) rfl hl.1 rfl (lv_room (Nat.le_of_ble_eq_true rfl)) dX0_governmentsNow_13 (fun H locs hJ => ?_)
    refine lv_aload_n hx hb dX0_governmentsNow_16 rfl (lv_at hl 0 rfl) ?_
    refine lv_iload_n hx hb dX0_governmentsNow_17 rfl (lv_at hl 2 rfl) ?_
    refine lv_iconst hx hb dX0_governmentsNow_18 kc_1 ?_
    refine lv_isub hx hb dX0_governmentsNow_19 ?_
    obtain ⟨c6, hc6, hzw1⟩ := ob hzw1
    refine cc_Vt (As := [.int (w1.2 - (1 : Int32))]) (rest := [.int c4, .int w1.1]) C hJ (metC_isCarried l σ (w1.2 - (1 : Int32)) c6 hc6) rfl rfl (show 0 + 0 ≤ 0 from Nat.le_of_ble_eq_true rfl) (cost_ok false false false false _ _ (fun h => by cases h) (fun h => by cases h)) (fun _ => rfl) (fun _ => rfl) (cj_recv C hJ 0 0 (ad_s rfl) (Nat.le_of_ble_eq_true rfl) rfl rfl) (cwV 1 hts (lw_V q918 q920 qs24 q109 q921) rfl rfl rfl hdC_isCarried ⟨(Nat.le_of_ble_eq_true rfl), (Nat.le_of_ble_eq_true rfl)⟩) rfl hl.1 rfl (lv_room (Nat.le_of_ble_eq_true rfl)) dX0_governmentsNow_20 (fun H locs hJ => ?_)
    obtain ⟨q9, hq9, hzw1⟩ := ob hzw1
    have hjq9 : ∀ (H : Heap) (locs : List Loc) (ce sl : Nat) (ls : Array Slot), CJ G s (RM 19 0 false false G) 0 false false true true G.2.2.2 σ H locs ce sl → lv_has ls 3 [(0, .ref (gA G 0 0)), (2, .int w1.2)] → W p l e (RM 19 0 false false G) s m args below meth c H locs ce sl Q (F0 m 31 ls [.int q9, .int w1.1]) := by
      intro H locs ce sl ls hJ hl
      refine lv_iadd hx hb dX0_governmentsNow_31 ?_
      refine lv_istore_n (lv' := [(1, .int (w1.1 + q9)), (0, .ref (gA G 0 0)), (2, .int w1.2)]) hx hb dX0_governmentsNow_32 rfl hl (Nat.le_of_ble_eq_true rfl) rfl (fun ls hl => ?_)
      refine lv_iinc (v := (w1.2 + 1)) (lv' := [(2, .int (w1.2 + 1)), (1, .int (w1.1 + q9)), (0, .ref (gA G 0 0))]) hx hb dX0_governmentsNow_33 hl (k := 2) rfl rfl (Nat.le_of_ble_eq_true rfl) rfl (fun ls hl => ?_)
      refine lv_goto (tgt := 4) hx hb dX0_governmentsNow_36 (by decide) ?_
      have hzw1 := Option.some.inj hzw1
      subst hzw1
      exact ihw1 _ hqw1 _ _ _ _ _ hJ (lv_sub hl [2, 1, 0] rfl)
    refine lv_icmp_eq (tgt := 30) hx hb dX0_governmentsNow_23 (by decide) (fun hc8 => ?_) (fun hc8 => ?_)
    · have hq9 := ip hq9 hc8
      refine lv_iconst hx hb dX0_governmentsNow_30 kc_0 ?_
      have hq9 := Option.some.inj hq9
      subst hq9
      exact hjq9 _ _ _ _ _ hJ (lv_sub hl [0, 2] rfl)
    · have hq9 := im hq9 hc8
      refine lv_iconst hx hb dX0_governmentsNow_26 kc_1 ?_
      refine lv_goto (tgt := 31) hx hb dX0_governmentsNow_27 (by decide) ?_
      have hq9 := Option.some.inj hq9
      subst hq9
      exact hjq9 _ _ _ _ _ hJ (lv_sub hl [0, 2] rfl)
def C_carriedNow (σ : CM) : Option (Int32) :=
  (lp (S := Int32 × Int32) (T := Int32) (fun w1 =>
    if (20 : Int32) ≤ w1.2 then
        some (.inr w1.1)
      else
        (C_isCarried σ w1.2).bind fun c4 =>
        (if c4 = 0 then
            some (0 : Int32)
          else
            some (1 : Int32) : Option (Int32)).bind fun q7 =>
        some (.inl ((w1.1 + q7), (w1.2 + 1)))) 2000 ((0 : Int32), (0 : Int32))).bind fun q2 =>
  some q2
theorem hdC_carriedNow : yX0_carriedNow.cls = RX0 ∧ yX0_carriedNow.cls ≠ "java/lang/invoke/MethodHandle" ∧ yX0_carriedNow.cls ≠ "java/lang/invoke/VarHandle" ∧ (parseMethodDescriptor yX0_carriedNow.desc).map (fun d => d.parameters.length) = some 0 := by decide +kernel
set_option maxHeartbeats 4000000 in
theorem metC_carriedNow (l : Launch) (σ : CM) (res : Int32) (h : C_carriedNow σ = some res) : MetC l yX0_carriedNow (ws_ yX0_carriedNow cX0_carriedNow 3 (some .int)) 19 0 false false false false true true (fun G => [.ref (gA G 0 0)]) σ (fun _ => (some (.int res))) σ := by
  refine met_wC (own := RX0) (by decide +kernel) rfl (by simp [cRt]) (fun _ => Nat.le_of_ble_eq_true rfl) (fun G p e s m args below meth c Q hr1 hr2 C hE ls hl hJ => ?_)
  have hx := C.1.1
  have hb := C.1.2.1
  have hown := C.1.2.2.2.1
  have hts := C.1.2.2.2.2
  have hl : lv_has ls 3 [(0, .ref (gA G 0 0))] := hl
  have hJ := CJ.s1 (hr1 rfl) hJ
  have hJ := CJ.s2 (hr2 rfl) hJ
  unfold C_carriedNow at h
  refine lv_iconst hx hb dX0_carriedNow_0 kc_0 ?_
  refine lv_istore_n (lv' := [(1, .int (0 : Int32)), (0, .ref (gA G 0 0))]) hx hb dX0_carriedNow_1 rfl hl (Nat.le_of_ble_eq_true rfl) rfl (fun ls hl => ?_)
  refine lv_iconst hx hb dX0_carriedNow_2 kc_0 ?_
  refine lv_istore_n (lv' := [(2, .int (0 : Int32)), (1, .int (0 : Int32)), (0, .ref (gA G 0 0))]) hx hb dX0_carriedNow_3 rfl hl (Nat.le_of_ble_eq_true rfl) rfl (fun ls hl => ?_)
  obtain ⟨q2, hq2, h⟩ := ob h
  have hxq2 : ∀ (H : Heap) (locs : List Loc) (ce sl : Nat) (ls : Array Slot), CJ G s (RM 19 0 false false G) 0 false false true true G.2.2.2 σ H locs ce sl → lv_has ls 3 [(1, .int q2)] → W p l e (RM 19 0 false false G) s m args below meth c H locs ce sl Q (F0 m 32 ls []) := by
    intro H locs ce sl ls hJ hl
    refine lv_iload_n hx hb dX0_carriedNow_32 rfl (lv_at hl 0 rfl) ?_
    have h := Option.some.inj h
    subst h
    exact hE _ _ _ _ _ _ _ _ _ _ _ _ (some (.int (q2))) hJ (fun h => by cases h) (fun h => by cases h) ⟨_, rfl⟩ rfl dX0_carriedNow_33
  refine lp_ind (P := fun (w1 : Int32 × Int32) => ∀ (H : Heap) (locs : List Loc) (ce sl : Nat) (ls : Array Slot), CJ G s (RM 19 0 false false G) 0 false false true true G.2.2.2 σ H locs ce sl → lv_has ls 3 [(0, .ref (gA G 0 0)), (1, .int w1.1), (2, .int w1.2)] → W p l e (RM 19 0 false false G) s m args below meth c H locs ce sl Q (F0 m 4 ls [])) ?_ _ _ hq2 _ _ _ _ _ hJ (lv_sub hl [2, 1, 0] rfl)
  intro nw1 w1 ihw1 zw1 hzw1 hqw1 H locs ce sl ls hJ hl
  refine lv_iload_n hx hb dX0_carriedNow_4 rfl (lv_at hl 2 rfl) ?_
  refine lv_bipush hx hb dX0_carriedNow_5 kb_20 ?_
  refine lv_icmp_ge (tgt := 32) hx hb dX0_carriedNow_7 (by decide) (fun hc3 => ?_) (fun hc3 => ?_)
  · have hzw1 := ip hzw1 hc3
    have hzw1 := Option.some.inj hzw1
    subst hzw1
    have hqw1 : _ = q2 := hqw1
    subst hqw1
    exact hxq2 _ _ _ _ _ hJ (lv_sub hl [1] rfl)
  · have hzw1 := im hzw1 hc3
    refine lv_iload_n hx hb dX0_carriedNow_10 rfl (lv_at hl 1 rfl) ?_
    refine lv_aload_n hx hb dX0_carriedNow_11 rfl (lv_at hl 0 rfl) ?_
    refine lv_iload_n hx hb dX0_carriedNow_12 rfl (lv_at hl 2 rfl) ?_
    obtain ⟨c4, hc4, hzw1⟩ := ob hzw1
    refine cc_Vt (As := [.int w1.2]) (rest := [.int w1.1]) C hJ (metC_isCarried l σ w1.2 c4 hc4) rfl rfl (show 0 + 0 ≤ 0 from Nat.le_of_ble_eq_true rfl) (cost_ok false false false false _ _ (fun h => by cases h) (fun h => by cases h)) (fun _ => rfl) (fun _ => rfl) (cj_recv C hJ 0 0 (ad_s rfl) (Nat.le_of_ble_eq_true rfl) rfl rfl) (cwV 1 hts (lw_V q918 q920 qs24 q109 q921) rfl rfl rfl hdC_isCarried ⟨(Nat.le_of_ble_eq_true rfl), (Nat.le_of_ble_eq_true rfl)⟩) rfl hl.1 rfl (lv_room (Nat.le_of_ble_eq_true rfl)) dX0_carriedNow_13 (fun H locs hJ => ?_)
    obtain ⟨q7, hq7, hzw1⟩ := ob hzw1
    have hjq7 : ∀ (H : Heap) (locs : List Loc) (ce sl : Nat) (ls : Array Slot), CJ G s (RM 19 0 false false G) 0 false false true true G.2.2.2 σ H locs ce sl → lv_has ls 3 [(0, .ref (gA G 0 0)), (2, .int w1.2)] → W p l e (RM 19 0 false false G) s m args below meth c H locs ce sl Q (F0 m 24 ls [.int q7, .int w1.1]) := by
      intro H locs ce sl ls hJ hl
      refine lv_iadd hx hb dX0_carriedNow_24 ?_
      refine lv_istore_n (lv' := [(1, .int (w1.1 + q7)), (0, .ref (gA G 0 0)), (2, .int w1.2)]) hx hb dX0_carriedNow_25 rfl hl (Nat.le_of_ble_eq_true rfl) rfl (fun ls hl => ?_)
      refine lv_iinc (v := (w1.2 + 1)) (lv' := [(2, .int (w1.2 + 1)), (1, .int (w1.1 + q7)), (0, .ref (gA G 0 0))]) hx hb dX0_carriedNow_26 hl (k := 2) rfl rfl (Nat.le_of_ble_eq_true rfl) rfl (fun ls hl => ?_)
      refine lv_goto (tgt := 4) hx hb dX0_carriedNow_29 (by decide) ?_
      have hzw1 := Option.some.inj hzw1
      subst hzw1
      exact ihw1 _ hqw1 _ _ _ _ _ hJ (lv_sub hl [2, 1, 0] rfl)
    refine lv_if_eq (tgt := 23) hx hb dX0_carriedNow_16 (by decide) (fun hc6 => ?_) (fun hc6 => ?_)
    · have hq7 := ip hq7 hc6
      refine lv_iconst hx hb dX0_carriedNow_23 kc_0 ?_
      have hq7 := Option.some.inj hq7
      subst hq7
      exact hjq7 _ _ _ _ _ hJ (lv_sub hl [0, 2] rfl)
    · have hq7 := im hq7 hc6
      refine lv_iconst hx hb dX0_carriedNow_19 kc_1 ?_
      refine lv_goto (tgt := 24) hx hb dX0_carriedNow_20 (by decide) ?_
      have hq7 := Option.some.inj hq7
      subst hq7
      exact hjq7 _ _ _ _ _ hJ (lv_sub hl [0, 2] rfl)
def C_crowdBy (σ : CM) (v1 : Int32) : Option (Int32) :=
  (lp (S := Int32 × Int32 × Int32) (T := Int32 × Int32) (fun w1 =>
    if (240 : Int32) ≤ w1.2.2 then
        some (.inr (w1.1, w1.2.1))
      else
        (cix σ 8 0 (w1.2.2 / (12 : Int32))).bind fun n4 =>
        (C_many σ n4 (w1.2.2 - w1.2.2 / (12 : Int32) * (12 : Int32))).bind fun c5 =>
        if w1.2.1 < c5 then
          some (.inl (w1.2.2, c5, (w1.2.2 + 1)))
        else
          some (.inl (w1.1, w1.2.1, (w1.2.2 + 1)))) 2000 ((-1 : Int32), (0 : Int32), (0 : Int32))).bind fun q2 =>
  if q2.1 = (-1 : Int32) then
    some (-1 : Int32)
  else
    if v1 = 0 then
      some (q2.1 / (12 : Int32))
    else
      if v1 = (1 : Int32) then
        some (q2.1 - q2.1 / (12 : Int32) * (12 : Int32))
      else
        some q2.2
theorem hdC_crowdBy : yX0_crowdBy.cls = RX0 ∧ yX0_crowdBy.cls ≠ "java/lang/invoke/MethodHandle" ∧ yX0_crowdBy.cls ≠ "java/lang/invoke/VarHandle" ∧ (parseMethodDescriptor yX0_crowdBy.desc).map (fun d => d.parameters.length) = some 1 := by decide +kernel
set_option maxHeartbeats 4000000 in
theorem metC_crowdBy (l : Launch) (σ : CM) (v1 : Int32) (res : Int32) (h : C_crowdBy σ v1 = some res) : MetC l yX0_crowdBy (ws_ yX0_crowdBy cX0_crowdBy 6 (some .int)) 18 0 false false false false true true (fun G => [.ref (gA G 0 0), .int v1]) σ (fun _ => (some (.int res))) σ := by
  refine met_wC (own := RX0) (by decide +kernel) rfl (by simp [cRt]) (fun _ => Nat.le_of_ble_eq_true rfl) (fun G p e s m args below meth c Q hr1 hr2 C hE ls hl hJ => ?_)
  have hx := C.1.1
  have hb := C.1.2.1
  have hown := C.1.2.2.2.1
  have hts := C.1.2.2.2.2
  have hl : lv_has ls 6 [(0, .ref (gA G 0 0)), (1, .int v1)] := hl
  have hJ := CJ.s1 (hr1 rfl) hJ
  have hJ := CJ.s2 (hr2 rfl) hJ
  unfold C_crowdBy at h
  refine lv_iconst hx hb dX0_crowdBy_0 kc_m1 ?_
  refine lv_istore_n (lv' := [(2, .int (-1 : Int32)), (0, .ref (gA G 0 0)), (1, .int v1)]) hx hb dX0_crowdBy_1 rfl hl (Nat.le_of_ble_eq_true rfl) rfl (fun ls hl => ?_)
  refine lv_iconst hx hb dX0_crowdBy_2 kc_0 ?_
  refine lv_istore_n (lv' := [(3, .int (0 : Int32)), (2, .int (-1 : Int32)), (0, .ref (gA G 0 0)), (1, .int v1)]) hx hb dX0_crowdBy_3 rfl hl (Nat.le_of_ble_eq_true rfl) rfl (fun ls hl => ?_)
  refine lv_iconst hx hb dX0_crowdBy_4 kc_0 ?_
  refine lv_istore (lv' := [(4, .int (0 : Int32)), (3, .int (0 : Int32)), (2, .int (-1 : Int32)), (0, .ref (gA G 0 0)), (1, .int v1)]) hx hb dX0_crowdBy_5 hl (Nat.le_of_ble_eq_true rfl) rfl (fun ls hl => ?_)
  obtain ⟨q2, hq2, h⟩ := ob h
  have hxq2 : ∀ (H : Heap) (locs : List Loc) (ce sl : Nat) (ls : Array Slot), CJ G s (RM 18 0 false false G) 0 false false true true G.2.2.2 σ H locs ce sl → lv_has ls 6 [(1, .int v1), (2, .int q2.1), (3, .int q2.2)] → W p l e (RM 18 0 false false G) s m args below meth c H locs ce sl Q (F0 m 57 ls []) := by
    intro H locs ce sl ls hJ hl
    refine lv_iload_n hx hb dX0_crowdBy_57 rfl (lv_at hl 1 rfl) ?_
    refine lv_iconst hx hb dX0_crowdBy_58 kc_m1 ?_
    refine lv_icmp_ne (tgt := 66) hx hb dX0_crowdBy_59 (by decide) (fun hc8 => ?_) (fun hc8 => ?_)
    · have h := im h hc8
      refine lv_iload_n hx hb dX0_crowdBy_66 rfl (lv_at hl 0 rfl) ?_
      refine lv_if_ne (tgt := 77) hx hb dX0_crowdBy_67 (by decide) (fun hc9 => ?_) (fun hc9 => ?_)
      · have h := im h hc9
        refine lv_iload_n hx hb dX0_crowdBy_77 rfl (lv_at hl 0 rfl) ?_
        refine lv_iconst hx hb dX0_crowdBy_78 kc_1 ?_
        refine lv_icmp_ne (tgt := 89) hx hb dX0_crowdBy_79 (by decide) (fun hc10 => ?_) (fun hc10 => ?_)
        · have h := im h hc10
          refine lv_iload_n hx hb dX0_crowdBy_89 rfl (lv_at hl 2 rfl) ?_
          have h := Option.some.inj h
          subst h
          exact hE _ _ _ _ _ _ _ _ _ _ _ _ (some (.int (q2.2))) hJ (fun h => by cases h) (fun h => by cases h) ⟨_, rfl⟩ rfl dX0_crowdBy_90
        · have h := ip h hc10
          refine lv_iload_n hx hb dX0_crowdBy_82 rfl (lv_at hl 1 rfl) ?_
          refine lv_bipush hx hb dX0_crowdBy_83 kb_12 ?_
          refine lv_irem hx hb dX0_crowdBy_85 (by decide) ?_
          refine lv_goto (tgt := 90) hx hb dX0_crowdBy_86 (by decide) ?_
          have h := Option.some.inj h
          subst h
          exact hE _ _ _ _ _ _ _ _ _ _ _ _ (some (.int ((q2.1 - q2.1 / (12 : Int32) * (12 : Int32))))) hJ (fun h => by cases h) (fun h => by cases h) ⟨_, rfl⟩ rfl dX0_crowdBy_90
      · have h := ip h hc9
        refine lv_iload_n hx hb dX0_crowdBy_70 rfl (lv_at hl 1 rfl) ?_
        refine lv_bipush hx hb dX0_crowdBy_71 kb_12 ?_
        refine lv_idiv hx hb dX0_crowdBy_73 (by decide) ?_
        refine lv_goto (tgt := 90) hx hb dX0_crowdBy_74 (by decide) ?_
        have h := Option.some.inj h
        subst h
        exact hE _ _ _ _ _ _ _ _ _ _ _ _ (some (.int ((q2.1 / (12 : Int32))))) hJ (fun h => by cases h) (fun h => by cases h) ⟨_, rfl⟩ rfl dX0_crowdBy_90
    · have h := ip h hc8
      refine lv_iconst hx hb dX0_crowdBy_62 kc_m1 ?_
      refine lv_goto (tgt := 90) hx hb dX0_crowdBy_63 (by decide) ?_
      have h := Option.some.inj h
      subst h
      exact hE _ _ _ _ _ _ _ _ _ _ _ _ (some (.int ((-1 : Int32)))) hJ (fun h => by cases h) (fun h => by cases h) ⟨_, rfl⟩ rfl dX0_crowdBy_90
  refine lp_ind (P := fun (w1 : Int32 × Int32 × Int32) => ∀ (H : Heap) (locs : List Loc) (ce sl : Nat) (ls : Array Slot), CJ G s (RM 18 0 false false G) 0 false false true true G.2.2.2 σ H locs ce sl → lv_has ls 6 [(0, .ref (gA G 0 0)), (1, .int v1), (2, .int w1.1), (3, .int w1.2.1), (4, .int w1.2.2)] → W p l e (RM 18 0 false false G) s m args below meth c H locs ce sl Q (F0 m 7 ls [])) ?_ _ _ hq2 _ _ _ _ _ hJ (lv_sub hl [3, 4, 2, 1, 0] rfl)
  intro nw1 w1 ihw1 zw1 hzw1 hqw1 H locs ce sl ls hJ hl
  refine lv_iload hx hb dX0_crowdBy_7 (lv_at hl 4 rfl) ?_
  refine lv_sipush hx hb dX0_crowdBy_9 ks_240 ?_
  refine lv_icmp_ge (tgt := 57) hx hb dX0_crowdBy_12 (by decide) (fun hc3 => ?_) (fun hc3 => ?_)
  · have hzw1 := ip hzw1 hc3
    have hzw1 := Option.some.inj hzw1
    subst hzw1
    have hqw1 : _ = q2 := hqw1
    subst hqw1
    exact hxq2 _ _ _ _ _ hJ (lv_sub hl [1, 2, 3] rfl)
  · have hzw1 := im hzw1 hc3
    refine lv_aload_n hx hb dX0_crowdBy_15 rfl (lv_at hl 0 rfl) ?_
    refine lv_aload_n hx hb dX0_crowdBy_16 rfl (lv_at hl 0 rfl) ?_
    refine cj_gr (v := .ref (gA G 8 0)) C hJ 0 0 5 (ad_s rfl) (Nat.le_of_ble_eq_true rfl) (Nat.le_of_ble_eq_true rfl) rfl rfl (fl_X0_164_0 C) (fun _ _ => rfl) dX0_crowdBy_17 ?_
    refine lv_iload hx hb dX0_crowdBy_20 (lv_at hl 4 rfl) ?_
    refine lv_bipush hx hb dX0_crowdBy_22 kb_12 ?_
    refine lv_idiv hx hb dX0_crowdBy_24 (by decide) ?_
    obtain ⟨n4, hn4, hzw1⟩ := ob hzw1
    refine cj_al (v := .ref (gA G 7 n4)) C hJ 8 0 (ad_s rfl) rfl rfl hn4 rfl dX0_crowdBy_25 ?_
    refine lv_iload hx hb dX0_crowdBy_26 (lv_at hl 4 rfl) ?_
    refine lv_bipush hx hb dX0_crowdBy_28 kb_12 ?_
    refine lv_irem hx hb dX0_crowdBy_30 (by decide) ?_
    obtain ⟨c5, hc5, hzw1⟩ := ob hzw1
    refine cc_Vt (As := [.ref (gA G 7 n4), .int (w1.2.2 - w1.2.2 / (12 : Int32) * (12 : Int32))]) (rest := []) C hJ (metC_many l σ n4 (w1.2.2 - w1.2.2 / (12 : Int32) * (12 : Int32)) c5 hc5) rfl rfl (show 0 + 0 ≤ 0 from Nat.le_of_ble_eq_true rfl) (cost_ok false false false false _ _ (fun h => by cases h) (fun h => by cases h)) (fun _ => rfl) (fun _ => rfl) (cj_recv C hJ 0 0 (ad_s rfl) (Nat.le_of_ble_eq_true rfl) rfl rfl) (cwV 2 hts (lw_V q886 q888 qs20 q109 q889) rfl rfl rfl hdC_many ⟨(Nat.le_of_ble_eq_true rfl), (Nat.le_of_ble_eq_true rfl)⟩) rfl hl.1 rfl (lv_room (Nat.le_of_ble_eq_true rfl)) dX0_crowdBy_31 (fun H locs hJ => ?_)
    refine lv_istore (lv' := [(5, .int c5), (0, .ref (gA G 0 0)), (1, .int v1), (2, .int w1.1), (3, .int w1.2.1), (4, .int w1.2.2)]) hx hb dX0_crowdBy_34 hl (Nat.le_of_ble_eq_true rfl) rfl (fun ls hl => ?_)
    refine lv_iload hx hb dX0_crowdBy_36 (lv_at hl 0 rfl) ?_
    refine lv_iload_n hx hb dX0_crowdBy_38 rfl (lv_at hl 4 rfl) ?_
    refine lv_icmp_gt (tgt := 45) hx hb dX0_crowdBy_39 (by decide) (fun hc7 => ?_) (fun hc7 => ?_)
    · have hzw1 := ip hzw1 hc7
      refine lv_iload hx hb dX0_crowdBy_45 (lv_at hl 5 rfl) ?_
      refine lv_istore_n (lv' := [(2, .int w1.2.2), (5, .int c5), (0, .ref (gA G 0 0)), (1, .int v1), (3, .int w1.2.1), (4, .int w1.2.2)]) hx hb dX0_crowdBy_47 rfl hl (Nat.le_of_ble_eq_true rfl) rfl (fun ls hl => ?_)
      refine lv_iload hx hb dX0_crowdBy_48 (lv_at hl 1 rfl) ?_
      refine lv_istore_n (lv' := [(3, .int c5), (2, .int w1.2.2), (5, .int c5), (0, .ref (gA G 0 0)), (1, .int v1), (4, .int w1.2.2)]) hx hb dX0_crowdBy_50 rfl hl (Nat.le_of_ble_eq_true rfl) rfl (fun ls hl => ?_)
      refine lv_iinc (v := (w1.2.2 + 1)) (lv' := [(4, .int (w1.2.2 + 1)), (3, .int c5), (2, .int w1.2.2), (5, .int c5), (0, .ref (gA G 0 0)), (1, .int v1)]) hx hb dX0_crowdBy_51 hl (k := 5) rfl rfl (Nat.le_of_ble_eq_true rfl) rfl (fun ls hl => ?_)
      refine lv_goto (tgt := 7) hx hb dX0_crowdBy_54 (by decide) ?_
      have hzw1 := Option.some.inj hzw1
      subst hzw1
      exact ihw1 _ hqw1 _ _ _ _ _ hJ (lv_sub hl [4, 5, 2, 1, 0] rfl)
    · have hzw1 := im hzw1 hc7
      refine lv_goto (tgt := 51) hx hb dX0_crowdBy_42 (by decide) ?_
      refine lv_iinc (v := (w1.2.2 + 1)) (lv' := [(4, .int (w1.2.2 + 1)), (5, .int c5), (0, .ref (gA G 0 0)), (1, .int v1), (2, .int w1.1), (3, .int w1.2.1)]) hx hb dX0_crowdBy_51 hl (k := 5) rfl rfl (Nat.le_of_ble_eq_true rfl) rfl (fun ls hl => ?_)
      refine lv_goto (tgt := 7) hx hb dX0_crowdBy_54 (by decide) ?_
      have hzw1 := Option.some.inj hzw1
      subst hzw1
      exact ihw1 _ hqw1 _ _ _ _ _ hJ (lv_sub hl [2, 3, 4, 5, 0] rfl)
def C_oratorNow (σ : CM) : Option (Int32) :=
  (lp (S := Int32 × Int32) (T := Int32) (fun w1 =>
    (C_members σ).bind fun c3 =>
      if c3 ≤ w1.2 then
        some (.inr w1.1)
      else
        if w1.1 = (-1 : Int32) then
          some (.inl (w1.2, (w1.2 + 1)))
        else
          (cix σ 7 20 w1.2).bind fun n7 =>
          (cget σ 3 (8 * 20 + n7) 4).bind fun x8 =>
          (cix σ 7 20 w1.1).bind fun n9 =>
          (cget σ 3 (8 * 20 + n9) 4).bind fun x10 =>
          if x8 ≤ x10 then
            some (.inl (w1.1, (w1.2 + 1)))
          else
            some (.inl (w1.2, (w1.2 + 1)))) 2000 ((-1 : Int32), (0 : Int32))).bind fun q2 =>
  some q2
theorem hdC_oratorNow : yX0_oratorNow.cls = RX0 ∧ yX0_oratorNow.cls ≠ "java/lang/invoke/MethodHandle" ∧ yX0_oratorNow.cls ≠ "java/lang/invoke/VarHandle" ∧ (parseMethodDescriptor yX0_oratorNow.desc).map (fun d => d.parameters.length) = some 0 := by decide +kernel
set_option maxHeartbeats 4000000 in
theorem metC_oratorNow (l : Launch) (σ : CM) (res : Int32) (h : C_oratorNow σ = some res) : MetC l yX0_oratorNow (ws_ yX0_oratorNow cX0_oratorNow 3 (some .int)) 17 0 false false false false true true (fun G => [.ref (gA G 0 0)]) σ (fun _ => (some (.int res))) σ := by
  refine met_wC (own := RX0) (by decide +kernel) rfl (by simp [cRt]) (fun _ => Nat.le_of_ble_eq_true rfl) (fun G p e s m args below meth c Q hr1 hr2 C hE ls hl hJ => ?_)
  have hx := C.1.1
  have hb := C.1.2.1
  have hown := C.1.2.2.2.1
  have hts := C.1.2.2.2.2
  have hl : lv_has ls 3 [(0, .ref (gA G 0 0))] := hl
  have hJ := CJ.s1 (hr1 rfl) hJ
  have hJ := CJ.s2 (hr2 rfl) hJ
  unfold C_oratorNow at h
  refine lv_iconst hx hb dX0_oratorNow_0 kc_m1 ?_
  refine lv_istore_n (lv' := [(1, .int (-1 : Int32)), (0, .ref (gA G 0 0))]) hx hb dX0_oratorNow_1 rfl hl (Nat.le_of_ble_eq_true rfl) rfl (fun ls hl => ?_)
  refine lv_iconst hx hb dX0_oratorNow_2 kc_0 ?_
  refine lv_istore_n (lv' := [(2, .int (0 : Int32)), (1, .int (-1 : Int32)), (0, .ref (gA G 0 0))]) hx hb dX0_oratorNow_3 rfl hl (Nat.le_of_ble_eq_true rfl) rfl (fun ls hl => ?_)
  obtain ⟨q2, hq2, h⟩ := ob h
  have hxq2 : ∀ (H : Heap) (locs : List Loc) (ce sl : Nat) (ls : Array Slot), CJ G s (RM 17 0 false false G) 0 false false true true G.2.2.2 σ H locs ce sl → lv_has ls 3 [(1, .int q2)] → W p l e (RM 17 0 false false G) s m args below meth c H locs ce sl Q (F0 m 46 ls []) := by
    intro H locs ce sl ls hJ hl
    refine lv_iload_n hx hb dX0_oratorNow_46 rfl (lv_at hl 0 rfl) ?_
    have h := Option.some.inj h
    subst h
    exact hE _ _ _ _ _ _ _ _ _ _ _ _ (some (.int (q2))) hJ (fun h => by cases h) (fun h => by cases h) ⟨_, rfl⟩ rfl dX0_oratorNow_47
  refine lp_ind (P := fun (w1 : Int32 × Int32) => ∀ (H : Heap) (locs : List Loc) (ce sl : Nat) (ls : Array Slot), CJ G s (RM 17 0 false false G) 0 false false true true G.2.2.2 σ H locs ce sl → lv_has ls 3 [(0, .ref (gA G 0 0)), (1, .int w1.1), (2, .int w1.2)] → W p l e (RM 17 0 false false G) s m args below meth c H locs ce sl Q (F0 m 4 ls [])) ?_ _ _ hq2 _ _ _ _ _ hJ (lv_sub hl [2, 1, 0] rfl)
  intro nw1 w1 ihw1 zw1 hzw1 hqw1 H locs ce sl ls hJ hl
  refine lv_iload_n hx hb dX0_oratorNow_4 rfl (lv_at hl 2 rfl) ?_
  refine lv_aload_n hx hb dX0_oratorNow_5 rfl (lv_at hl 0 rfl) ?_
  obtain ⟨c3, hc3, hzw1⟩ := ob hzw1
  refine cc_Vt (As := []) (rest := [.int w1.2]) C hJ (metC_members l σ c3 hc3) rfl rfl (show 0 + 0 ≤ 0 from Nat.le_of_ble_eq_true rfl) (cost_ok false true false false _ _ (fun h => by cases h) (fun _ => Or.inr rfl)) (fun h => by cases h) (fun h => by cases h) (cj_recv C hJ 0 0 (ad_s rfl) (Nat.le_of_ble_eq_true rfl) rfl rfl) (cwV 0 hts (lw_V q521 q523 qs7 q109 q524) rfl rfl rfl hdC_members ⟨(Nat.le_of_ble_eq_true rfl), (Nat.le_of_ble_eq_true rfl)⟩) rfl hl.1 rfl (lv_room (Nat.le_of_ble_eq_true rfl)) dX0_oratorNow_6 (fun H locs hJ => ?_)
  refine lv_icmp_ge (tgt := 46) hx hb dX0_oratorNow_9 (by decide) (fun hc5 => ?_) (fun hc5 => ?_)
  · have hzw1 := ip hzw1 hc5
    have hzw1 := Option.some.inj hzw1
    subst hzw1
    have hqw1 : _ = q2 := hqw1
    subst hqw1
    exact hxq2 _ _ _ _ _ hJ (lv_sub hl [1] rfl)
  · have hzw1 := im hzw1 hc5
    refine lv_iload_n hx hb dX0_oratorNow_12 rfl (lv_at hl 1 rfl) ?_
    refine lv_iconst hx hb dX0_oratorNow_13 kc_m1 ?_
    refine lv_icmp_eq (tgt := 38) hx hb dX0_oratorNow_14 (by decide) (fun hc6 => ?_) (fun hc6 => ?_)
    · have hzw1 := ip hzw1 hc6
      refine lv_iload_n hx hb dX0_oratorNow_38 rfl (lv_at hl 2 rfl) ?_
      refine lv_istore_n (lv' := [(1, .int w1.2), (0, .ref (gA G 0 0)), (2, .int w1.2)]) hx hb dX0_oratorNow_39 rfl hl (Nat.le_of_ble_eq_true rfl) rfl (fun ls hl => ?_)
      refine lv_iinc (v := (w1.2 + 1)) (lv' := [(2, .int (w1.2 + 1)), (1, .int w1.2), (0, .ref (gA G 0 0))]) hx hb dX0_oratorNow_40 hl (k := 2) rfl rfl (Nat.le_of_ble_eq_true rfl) rfl (fun ls hl => ?_)
      refine lv_goto (tgt := 4) hx hb dX0_oratorNow_43 (by decide) ?_
      have hzw1 := Option.some.inj hzw1
      subst hzw1
      exact ihw1 _ hqw1 _ _ _ _ _ hJ (lv_sub hl [2, 1, 0] rfl)
    · have hzw1 := im hzw1 hc6
      refine lv_aload_n hx hb dX0_oratorNow_17 rfl (lv_at hl 0 rfl) ?_
      refine cj_gr (v := .ref (gA G 7 20)) C hJ 0 0 4 (ad_s rfl) (Nat.le_of_ble_eq_true rfl) (Nat.le_of_ble_eq_true rfl) rfl rfl (fl_X0_159_0 C) (fun _ _ => rfl) dX0_oratorNow_18 ?_
      refine lv_iload_n hx hb dX0_oratorNow_21 rfl (lv_at hl 2 rfl) ?_
      obtain ⟨n7, hn7, hzw1⟩ := ob hzw1
      refine cj_al (v := .ref (gA G 3 (8 * 20 + n7))) C hJ 7 20 (ad_s rfl) rfl rfl hn7 rfl dX0_oratorNow_22 ?_
      obtain ⟨x8, hx8, hzw1⟩ := ob hzw1
      refine cj_gi C hJ 3 (8 * 20 + n7) 4 (ad_s rfl) (Nat.le_of_ble_eq_true rfl) (Nat.le_of_ble_eq_true rfl) rfl rfl rfl (fl_X0_235_3 C) hx8 dX0_oratorNow_23 ?_
      refine lv_aload_n hx hb dX0_oratorNow_26 rfl (lv_at hl 0 rfl) ?_
      refine cj_gr (v := .ref (gA G 7 20)) C hJ 0 0 4 (ad_s rfl) (Nat.le_of_ble_eq_true rfl) (Nat.le_of_ble_eq_true rfl) rfl rfl (fl_X0_159_0 C) (fun _ _ => rfl) dX0_oratorNow_27 ?_
      refine lv_iload_n hx hb dX0_oratorNow_30 rfl (lv_at hl 1 rfl) ?_
      obtain ⟨n9, hn9, hzw1⟩ := ob hzw1
      refine cj_al (v := .ref (gA G 3 (8 * 20 + n9))) C hJ 7 20 (ad_s rfl) rfl rfl hn9 rfl dX0_oratorNow_31 ?_
      obtain ⟨x10, hx10, hzw1⟩ := ob hzw1
      refine cj_gi C hJ 3 (8 * 20 + n9) 4 (ad_s rfl) (Nat.le_of_ble_eq_true rfl) (Nat.le_of_ble_eq_true rfl) rfl rfl rfl (fl_X0_235_3 C) hx10 dX0_oratorNow_32 ?_
      refine lv_icmp_le (tgt := 40) hx hb dX0_oratorNow_35 (by decide) (fun hc11 => ?_) (fun hc11 => ?_)
      · have hzw1 := ip hzw1 hc11
        refine lv_iinc (v := (w1.2 + 1)) (lv' := [(2, .int (w1.2 + 1)), (0, .ref (gA G 0 0)), (1, .int w1.1)]) hx hb dX0_oratorNow_40 hl (k := 2) rfl rfl (Nat.le_of_ble_eq_true rfl) rfl (fun ls hl => ?_)
        refine lv_goto (tgt := 4) hx hb dX0_oratorNow_43 (by decide) ?_
        have hzw1 := Option.some.inj hzw1
        subst hzw1
        exact ihw1 _ hqw1 _ _ _ _ _ hJ (lv_sub hl [1, 2, 0] rfl)
      · have hzw1 := im hzw1 hc11
        refine lv_iload_n hx hb dX0_oratorNow_38 rfl (lv_at hl 2 rfl) ?_
        refine lv_istore_n (lv' := [(1, .int w1.2), (0, .ref (gA G 0 0)), (2, .int w1.2)]) hx hb dX0_oratorNow_39 rfl hl (Nat.le_of_ble_eq_true rfl) rfl (fun ls hl => ?_)
        refine lv_iinc (v := (w1.2 + 1)) (lv' := [(2, .int (w1.2 + 1)), (1, .int w1.2), (0, .ref (gA G 0 0))]) hx hb dX0_oratorNow_40 hl (k := 2) rfl rfl (Nat.le_of_ble_eq_true rfl) rfl (fun ls hl => ?_)
        refine lv_goto (tgt := 4) hx hb dX0_oratorNow_43 (by decide) ?_
        have hzw1 := Option.some.inj hzw1
        subst hzw1
        exact ihw1 _ hqw1 _ _ _ _ _ hJ (lv_sub hl [2, 1, 0] rfl)
def C_stillNow (σ : CM) : Option (Int32) :=
  (lp (S := Int32 × Int32) (T := Int32) (fun w1 =>
    (C_members σ).bind fun c3 =>
      if c3 ≤ w1.2 then
        some (.inr w1.1)
      else
        (cix σ 7 20 w1.2).bind fun n6 =>
        (cget σ 3 (8 * 20 + n6) 5).bind fun x7 =>
        (if x7 = 0 then
            some ((1 : Int32) <<< (w1.2 &&& 31))
          else
            some (0 : Int32) : Option (Int32)).bind fun q9 =>
        some (.inl ((w1.1 ||| q9), (w1.2 + 1)))) 2000 ((0 : Int32), (0 : Int32))).bind fun q2 =>
  some q2
theorem hdC_stillNow : yX0_stillNow.cls = RX0 ∧ yX0_stillNow.cls ≠ "java/lang/invoke/MethodHandle" ∧ yX0_stillNow.cls ≠ "java/lang/invoke/VarHandle" ∧ (parseMethodDescriptor yX0_stillNow.desc).map (fun d => d.parameters.length) = some 0 := by decide +kernel
set_option maxHeartbeats 4000000 in
theorem metC_stillNow (l : Launch) (σ : CM) (res : Int32) (h : C_stillNow σ = some res) : MetC l yX0_stillNow (ws_ yX0_stillNow cX0_stillNow 3 (some .int)) 17 0 false false false false true true (fun G => [.ref (gA G 0 0)]) σ (fun _ => (some (.int res))) σ := by
  refine met_wC (own := RX0) (by decide +kernel) rfl (by simp [cRt]) (fun _ => Nat.le_of_ble_eq_true rfl) (fun G p e s m args below meth c Q hr1 hr2 C hE ls hl hJ => ?_)
  have hx := C.1.1
  have hb := C.1.2.1
  have hown := C.1.2.2.2.1
  have hts := C.1.2.2.2.2
  have hl : lv_has ls 3 [(0, .ref (gA G 0 0))] := hl
  have hJ := CJ.s1 (hr1 rfl) hJ
  have hJ := CJ.s2 (hr2 rfl) hJ
  unfold C_stillNow at h
  refine lv_iconst hx hb dX0_stillNow_0 kc_0 ?_
  refine lv_istore_n (lv' := [(1, .int (0 : Int32)), (0, .ref (gA G 0 0))]) hx hb dX0_stillNow_1 rfl hl (Nat.le_of_ble_eq_true rfl) rfl (fun ls hl => ?_)
  refine lv_iconst hx hb dX0_stillNow_2 kc_0 ?_
  refine lv_istore_n (lv' := [(2, .int (0 : Int32)), (1, .int (0 : Int32)), (0, .ref (gA G 0 0))]) hx hb dX0_stillNow_3 rfl hl (Nat.le_of_ble_eq_true rfl) rfl (fun ls hl => ?_)
  obtain ⟨q2, hq2, h⟩ := ob h
  have hxq2 : ∀ (H : Heap) (locs : List Loc) (ce sl : Nat) (ls : Array Slot), CJ G s (RM 17 0 false false G) 0 false false true true G.2.2.2 σ H locs ce sl → lv_has ls 3 [(1, .int q2)] → W p l e (RM 17 0 false false G) s m args below meth c H locs ce sl Q (F0 m 40 ls []) := by
    intro H locs ce sl ls hJ hl
    refine lv_iload_n hx hb dX0_stillNow_40 rfl (lv_at hl 0 rfl) ?_
    have h := Option.some.inj h
    subst h
    exact hE _ _ _ _ _ _ _ _ _ _ _ _ (some (.int (q2))) hJ (fun h => by cases h) (fun h => by cases h) ⟨_, rfl⟩ rfl dX0_stillNow_41
  refine lp_ind (P := fun (w1 : Int32 × Int32) => ∀ (H : Heap) (locs : List Loc) (ce sl : Nat) (ls : Array Slot), CJ G s (RM 17 0 false false G) 0 false false true true G.2.2.2 σ H locs ce sl → lv_has ls 3 [(0, .ref (gA G 0 0)), (1, .int w1.1), (2, .int w1.2)] → W p l e (RM 17 0 false false G) s m args below meth c H locs ce sl Q (F0 m 4 ls [])) ?_ _ _ hq2 _ _ _ _ _ hJ (lv_sub hl [2, 1, 0] rfl)
  intro nw1 w1 ihw1 zw1 hzw1 hqw1 H locs ce sl ls hJ hl
  refine lv_iload_n hx hb dX0_stillNow_4 rfl (lv_at hl 2 rfl) ?_
  refine lv_aload_n hx hb dX0_stillNow_5 rfl (lv_at hl 0 rfl) ?_
  obtain ⟨c3, hc3, hzw1⟩ := ob hzw1
  refine cc_Vt (As := []) (rest := [.int w1.2]) C hJ (metC_members l σ c3 hc3) rfl rfl (show 0 + 0 ≤ 0 from Nat.le_of_ble_eq_true rfl) (cost_ok false true false false _ _ (fun h => by cases h) (fun _ => Or.inr rfl)) (fun h => by cases h) (fun h => by cases h) (cj_recv C hJ 0 0 (ad_s rfl) (Nat.le_of_ble_eq_true rfl) rfl rfl) (cwV 0 hts (lw_V q521 q523 qs7 q109 q524) rfl rfl rfl hdC_members ⟨(Nat.le_of_ble_eq_true rfl), (Nat.le_of_ble_eq_true rfl)⟩) rfl hl.1 rfl (lv_room (Nat.le_of_ble_eq_true rfl)) dX0_stillNow_6 (fun H locs hJ => ?_)
  refine lv_icmp_ge (tgt := 40) hx hb dX0_stillNow_9 (by decide) (fun hc5 => ?_) (fun hc5 => ?_)
  · have hzw1 := ip hzw1 hc5
    have hzw1 := Option.some.inj hzw1
    subst hzw1
    have hqw1 : _ = q2 := hqw1
    subst hqw1
    exact hxq2 _ _ _ _ _ hJ (lv_sub hl [1] rfl)
  · have hzw1 := im hzw1 hc5
    refine lv_iload_n hx hb dX0_stillNow_12 rfl (lv_at hl 1 rfl) ?_
    refine lv_aload_n hx hb dX0_stillNow_13 rfl (lv_at hl 0 rfl) ?_
    refine cj_gr (v := .ref (gA G 7 20)) C hJ 0 0 4 (ad_s rfl) (Nat.le_of_ble_eq_true rfl) (Nat.le_of_ble_eq_true rfl) rfl rfl (fl_X0_159_0 C) (fun _ _ => rfl) dX0_stillNow_14 ?_
    refine lv_iload_n hx hb dX0_stillNow_17 rfl (lv_at hl 2 rfl) ?_
    obtain ⟨n6, hn6, hzw1⟩ := ob hzw1
    refine cj_al (v := .ref (gA G 3 (8 * 20 + n6))) C hJ 7 20 (ad_s rfl) rfl rfl hn6 rfl dX0_stillNow_18 ?_
    obtain ⟨x7, hx7, hzw1⟩ := ob hzw1
    refine cj_gi C hJ 3 (8 * 20 + n6) 5 (ad_s rfl) (Nat.le_of_ble_eq_true rfl) (Nat.le_of_ble_eq_true rfl) rfl rfl rfl (fl_X0_244_3 C) hx7 dX0_stillNow_19 ?_
    obtain ⟨q9, hq9, hzw1⟩ := ob hzw1
    have hjq9 : ∀ (H : Heap) (locs : List Loc) (ce sl : Nat) (ls : Array Slot), CJ G s (RM 17 0 false false G) 0 false false true true G.2.2.2 σ H locs ce sl → lv_has ls 3 [(0, .ref (gA G 0 0)), (2, .int w1.2)] → W p l e (RM 17 0 false false G) s m args below meth c H locs ce sl Q (F0 m 32 ls [.int q9, .int w1.1]) := by
      intro H locs ce sl ls hJ hl
      refine lv_ior hx hb dX0_stillNow_32 ?_
      refine lv_istore_n (lv' := [(1, .int (w1.1 ||| q9)), (0, .ref (gA G 0 0)), (2, .int w1.2)]) hx hb dX0_stillNow_33 rfl hl (Nat.le_of_ble_eq_true rfl) rfl (fun ls hl => ?_)
      refine lv_iinc (v := (w1.2 + 1)) (lv' := [(2, .int (w1.2 + 1)), (1, .int (w1.1 ||| q9)), (0, .ref (gA G 0 0))]) hx hb dX0_stillNow_34 hl (k := 2) rfl rfl (Nat.le_of_ble_eq_true rfl) rfl (fun ls hl => ?_)
      refine lv_goto (tgt := 4) hx hb dX0_stillNow_37 (by decide) ?_
      have hzw1 := Option.some.inj hzw1
      subst hzw1
      exact ihw1 _ hqw1 _ _ _ _ _ hJ (lv_sub hl [2, 1, 0] rfl)
    refine lv_if_eq (tgt := 29) hx hb dX0_stillNow_22 (by decide) (fun hc8 => ?_) (fun hc8 => ?_)
    · have hq9 := ip hq9 hc8
      refine lv_iconst hx hb dX0_stillNow_29 kc_1 ?_
      refine lv_iload_n hx hb dX0_stillNow_30 rfl (lv_at hl 2 rfl) ?_
      refine lv_ishl hx hb dX0_stillNow_31 ?_
      have hq9 := Option.some.inj hq9
      subst hq9
      exact hjq9 _ _ _ _ _ hJ (lv_sub hl [0, 2] rfl)
    · have hq9 := im hq9 hc8
      refine lv_iconst hx hb dX0_stillNow_25 kc_0 ?_
      refine lv_goto (tgt := 32) hx hb dX0_stillNow_26 (by decide) ?_
      have hq9 := Option.some.inj hq9
      subst hq9
      exact hjq9 _ _ _ _ _ hJ (lv_sub hl [0, 2] rfl)
def C_allSpeeches (σ : CM) : Option (Int32) :=
  (lp (S := Int32 × Int32) (T := Int32) (fun w1 =>
    (C_members σ).bind fun c3 =>
      if c3 ≤ w1.2 then
        some (.inr w1.1)
      else
        (cix σ 7 20 w1.2).bind fun n6 =>
        (cget σ 3 (8 * 20 + n6) 4).bind fun x7 =>
        some (.inl ((w1.1 + x7), (w1.2 + 1)))) 2000 ((0 : Int32), (0 : Int32))).bind fun q2 =>
  some q2
theorem hdC_allSpeeches : yX0_allSpeeches.cls = RX0 ∧ yX0_allSpeeches.cls ≠ "java/lang/invoke/MethodHandle" ∧ yX0_allSpeeches.cls ≠ "java/lang/invoke/VarHandle" ∧ (parseMethodDescriptor yX0_allSpeeches.desc).map (fun d => d.parameters.length) = some 0 := by decide +kernel
set_option maxHeartbeats 4000000 in
theorem metC_allSpeeches (l : Launch) (σ : CM) (res : Int32) (h : C_allSpeeches σ = some res) : MetC l yX0_allSpeeches (ws_ yX0_allSpeeches cX0_allSpeeches 3 (some .int)) 17 0 false false false false true true (fun G => [.ref (gA G 0 0)]) σ (fun _ => (some (.int res))) σ := by
  refine met_wC (own := RX0) (by decide +kernel) rfl (by simp [cRt]) (fun _ => Nat.le_of_ble_eq_true rfl) (fun G p e s m args below meth c Q hr1 hr2 C hE ls hl hJ => ?_)
  have hx := C.1.1
  have hb := C.1.2.1
  have hown := C.1.2.2.2.1
  have hts := C.1.2.2.2.2
  have hl : lv_has ls 3 [(0, .ref (gA G 0 0))] := hl
  have hJ := CJ.s1 (hr1 rfl) hJ
  have hJ := CJ.s2 (hr2 rfl) hJ
  unfold C_allSpeeches at h
  refine lv_iconst hx hb dX0_allSpeeches_0 kc_0 ?_
  refine lv_istore_n (lv' := [(1, .int (0 : Int32)), (0, .ref (gA G 0 0))]) hx hb dX0_allSpeeches_1 rfl hl (Nat.le_of_ble_eq_true rfl) rfl (fun ls hl => ?_)
  refine lv_iconst hx hb dX0_allSpeeches_2 kc_0 ?_
  refine lv_istore_n (lv' := [(2, .int (0 : Int32)), (1, .int (0 : Int32)), (0, .ref (gA G 0 0))]) hx hb dX0_allSpeeches_3 rfl hl (Nat.le_of_ble_eq_true rfl) rfl (fun ls hl => ?_)
  obtain ⟨q2, hq2, h⟩ := ob h
  have hxq2 : ∀ (H : Heap) (locs : List Loc) (ce sl : Nat) (ls : Array Slot), CJ G s (RM 17 0 false false G) 0 false false true true G.2.2.2 σ H locs ce sl → lv_has ls 3 [(1, .int q2)] → W p l e (RM 17 0 false false G) s m args below meth c H locs ce sl Q (F0 m 30 ls []) := by
    intro H locs ce sl ls hJ hl
    refine lv_iload_n hx hb dX0_allSpeeches_30 rfl (lv_at hl 0 rfl) ?_
    have h := Option.some.inj h
    subst h
    exact hE _ _ _ _ _ _ _ _ _ _ _ _ (some (.int (q2))) hJ (fun h => by cases h) (fun h => by cases h) ⟨_, rfl⟩ rfl dX0_allSpeeches_31
  refine lp_ind (P := fun (w1 : Int32 × Int32) => ∀ (H : Heap) (locs : List Loc) (ce sl : Nat) (ls : Array Slot), CJ G s (RM 17 0 false false G) 0 false false true true G.2.2.2 σ H locs ce sl → lv_has ls 3 [(0, .ref (gA G 0 0)), (1, .int w1.1), (2, .int w1.2)] → W p l e (RM 17 0 false false G) s m args below meth c H locs ce sl Q (F0 m 4 ls [])) ?_ _ _ hq2 _ _ _ _ _ hJ (lv_sub hl [2, 1, 0] rfl)
  intro nw1 w1 ihw1 zw1 hzw1 hqw1 H locs ce sl ls hJ hl
  refine lv_iload_n hx hb dX0_allSpeeches_4 rfl (lv_at hl 2 rfl) ?_
  refine lv_aload_n hx hb dX0_allSpeeches_5 rfl (lv_at hl 0 rfl) ?_
  obtain ⟨c3, hc3, hzw1⟩ := ob hzw1
  refine cc_Vt (As := []) (rest := [.int w1.2]) C hJ (metC_members l σ c3 hc3) rfl rfl (show 0 + 0 ≤ 0 from Nat.le_of_ble_eq_true rfl) (cost_ok false true false false _ _ (fun h => by cases h) (fun _ => Or.inr rfl)) (fun h => by cases h) (fun h => by cases h) (cj_recv C hJ 0 0 (ad_s rfl) (Nat.le_of_ble_eq_true rfl) rfl rfl) (cwV 0 hts (lw_V q521 q523 qs7 q109 q524) rfl rfl rfl hdC_members ⟨(Nat.le_of_ble_eq_true rfl), (Nat.le_of_ble_eq_true rfl)⟩) rfl hl.1 rfl (lv_room (Nat.le_of_ble_eq_true rfl)) dX0_allSpeeches_6 (fun H locs hJ => ?_)
  refine lv_icmp_ge (tgt := 30) hx hb dX0_allSpeeches_9 (by decide) (fun hc5 => ?_) (fun hc5 => ?_)
  · have hzw1 := ip hzw1 hc5
    have hzw1 := Option.some.inj hzw1
    subst hzw1
    have hqw1 : _ = q2 := hqw1
    subst hqw1
    exact hxq2 _ _ _ _ _ hJ (lv_sub hl [1] rfl)
  · have hzw1 := im hzw1 hc5
    refine lv_iload_n hx hb dX0_allSpeeches_12 rfl (lv_at hl 1 rfl) ?_
    refine lv_aload_n hx hb dX0_allSpeeches_13 rfl (lv_at hl 0 rfl) ?_
    refine cj_gr (v := .ref (gA G 7 20)) C hJ 0 0 4 (ad_s rfl) (Nat.le_of_ble_eq_true rfl) (Nat.le_of_ble_eq_true rfl) rfl rfl (fl_X0_159_0 C) (fun _ _ => rfl) dX0_allSpeeches_14 ?_
    refine lv_iload_n hx hb dX0_allSpeeches_17 rfl (lv_at hl 2 rfl) ?_
    obtain ⟨n6, hn6, hzw1⟩ := ob hzw1
    refine cj_al (v := .ref (gA G 3 (8 * 20 + n6))) C hJ 7 20 (ad_s rfl) rfl rfl hn6 rfl dX0_allSpeeches_18 ?_
    obtain ⟨x7, hx7, hzw1⟩ := ob hzw1
    refine cj_gi C hJ 3 (8 * 20 + n6) 4 (ad_s rfl) (Nat.le_of_ble_eq_true rfl) (Nat.le_of_ble_eq_true rfl) rfl rfl rfl (fl_X0_235_3 C) hx7 dX0_allSpeeches_19 ?_
    refine lv_iadd hx hb dX0_allSpeeches_22 ?_
    refine lv_istore_n (lv' := [(1, .int (w1.1 + x7)), (0, .ref (gA G 0 0)), (2, .int w1.2)]) hx hb dX0_allSpeeches_23 rfl hl (Nat.le_of_ble_eq_true rfl) rfl (fun ls hl => ?_)
    refine lv_iinc (v := (w1.2 + 1)) (lv' := [(2, .int (w1.2 + 1)), (1, .int (w1.1 + x7)), (0, .ref (gA G 0 0))]) hx hb dX0_allSpeeches_24 hl (k := 2) rfl rfl (Nat.le_of_ble_eq_true rfl) rfl (fun ls hl => ?_)
    refine lv_goto (tgt := 4) hx hb dX0_allSpeeches_27 (by decide) ?_
    have hzw1 := Option.some.inj hzw1
    subst hzw1
    exact ihw1 _ hqw1 _ _ _ _ _ hJ (lv_sub hl [2, 1, 0] rfl)
def C_allAyes (σ : CM) : Option (Int32) :=
  (lp (S := Int32 × Int32) (T := Int32) (fun w1 =>
    if (20 : Int32) ≤ w1.2 then
        some (.inr w1.1)
      else
        (C_votes σ w1.2 (1 : Int32)).bind fun c4 =>
        some (.inl ((w1.1 + c4), (w1.2 + 1)))) 2000 ((0 : Int32), (0 : Int32))).bind fun q2 =>
  some q2
theorem hdC_allAyes : yX0_allAyes.cls = RX0 ∧ yX0_allAyes.cls ≠ "java/lang/invoke/MethodHandle" ∧ yX0_allAyes.cls ≠ "java/lang/invoke/VarHandle" ∧ (parseMethodDescriptor yX0_allAyes.desc).map (fun d => d.parameters.length) = some 0 := by decide +kernel
set_option maxHeartbeats 4000000 in
theorem metC_allAyes (l : Launch) (σ : CM) (res : Int32) (h : C_allAyes σ = some res) : MetC l yX0_allAyes (ws_ yX0_allAyes cX0_allAyes 3 (some .int)) 18 0 false false false false true true (fun G => [.ref (gA G 0 0)]) σ (fun _ => (some (.int res))) σ := by
  refine met_wC (own := RX0) (by decide +kernel) rfl (by simp [cRt]) (fun _ => Nat.le_of_ble_eq_true rfl) (fun G p e s m args below meth c Q hr1 hr2 C hE ls hl hJ => ?_)
  have hx := C.1.1
  have hb := C.1.2.1
  have hown := C.1.2.2.2.1
  have hts := C.1.2.2.2.2
  have hl : lv_has ls 3 [(0, .ref (gA G 0 0))] := hl
  have hJ := CJ.s1 (hr1 rfl) hJ
  have hJ := CJ.s2 (hr2 rfl) hJ
  unfold C_allAyes at h
  refine lv_iconst hx hb dX0_allAyes_0 kc_0 ?_
  refine lv_istore_n (lv' := [(1, .int (0 : Int32)), (0, .ref (gA G 0 0))]) hx hb dX0_allAyes_1 rfl hl (Nat.le_of_ble_eq_true rfl) rfl (fun ls hl => ?_)
  refine lv_iconst hx hb dX0_allAyes_2 kc_0 ?_
  refine lv_istore_n (lv' := [(2, .int (0 : Int32)), (1, .int (0 : Int32)), (0, .ref (gA G 0 0))]) hx hb dX0_allAyes_3 rfl hl (Nat.le_of_ble_eq_true rfl) rfl (fun ls hl => ?_)
  obtain ⟨q2, hq2, h⟩ := ob h
  have hxq2 : ∀ (H : Heap) (locs : List Loc) (ce sl : Nat) (ls : Array Slot), CJ G s (RM 18 0 false false G) 0 false false true true G.2.2.2 σ H locs ce sl → lv_has ls 3 [(1, .int q2)] → W p l e (RM 18 0 false false G) s m args below meth c H locs ce sl Q (F0 m 25 ls []) := by
    intro H locs ce sl ls hJ hl
    refine lv_iload_n hx hb dX0_allAyes_25 rfl (lv_at hl 0 rfl) ?_
    have h := Option.some.inj h
    subst h
    exact hE _ _ _ _ _ _ _ _ _ _ _ _ (some (.int (q2))) hJ (fun h => by cases h) (fun h => by cases h) ⟨_, rfl⟩ rfl dX0_allAyes_26
  refine lp_ind (P := fun (w1 : Int32 × Int32) => ∀ (H : Heap) (locs : List Loc) (ce sl : Nat) (ls : Array Slot), CJ G s (RM 18 0 false false G) 0 false false true true G.2.2.2 σ H locs ce sl → lv_has ls 3 [(0, .ref (gA G 0 0)), (1, .int w1.1), (2, .int w1.2)] → W p l e (RM 18 0 false false G) s m args below meth c H locs ce sl Q (F0 m 4 ls [])) ?_ _ _ hq2 _ _ _ _ _ hJ (lv_sub hl [2, 1, 0] rfl)
  intro nw1 w1 ihw1 zw1 hzw1 hqw1 H locs ce sl ls hJ hl
  refine lv_iload_n hx hb dX0_allAyes_4 rfl (lv_at hl 2 rfl) ?_
  refine lv_bipush hx hb dX0_allAyes_5 kb_20 ?_
  refine lv_icmp_ge (tgt := 25) hx hb dX0_allAyes_7 (by decide) (fun hc3 => ?_) (fun hc3 => ?_)
  · have hzw1 := ip hzw1 hc3
    have hzw1 := Option.some.inj hzw1
    subst hzw1
    have hqw1 : _ = q2 := hqw1
    subst hqw1
    exact hxq2 _ _ _ _ _ hJ (lv_sub hl [1] rfl)
  · have hzw1 := im hzw1 hc3
    refine lv_iload_n hx hb dX0_allAyes_10 rfl (lv_at hl 1 rfl) ?_
    refine lv_aload_n hx hb dX0_allAyes_11 rfl (lv_at hl 0 rfl) ?_
    refine lv_iload_n hx hb dX0_allAyes_12 rfl (lv_at hl 2 rfl) ?_
    refine lv_iconst hx hb dX0_allAyes_13 kc_1 ?_
    obtain ⟨c4, hc4, hzw1⟩ := ob hzw1
    refine cc_Vt (As := [.int w1.2, .int (1 : Int32)]) (rest := [.int w1.1]) C hJ (metC_votes l σ w1.2 (1 : Int32) c4 hc4) rfl rfl (show 0 + 0 ≤ 0 from Nat.le_of_ble_eq_true rfl) (cost_ok false false false false _ _ (fun h => by cases h) (fun h => by cases h)) (fun _ => rfl) (fun _ => rfl) (cj_recv C hJ 0 0 (ad_s rfl) (Nat.le_of_ble_eq_true rfl) rfl rfl) (cwV 2 hts (lw_V q914 q916 qs23 q109 q917) rfl rfl rfl hdC_votes ⟨(Nat.le_of_ble_eq_true rfl), (Nat.le_of_ble_eq_true rfl)⟩) rfl hl.1 rfl (lv_room (Nat.le_of_ble_eq_true rfl)) dX0_allAyes_14 (fun H locs hJ => ?_)
    refine lv_iadd hx hb dX0_allAyes_17 ?_
    refine lv_istore_n (lv' := [(1, .int (w1.1 + c4)), (0, .ref (gA G 0 0)), (2, .int w1.2)]) hx hb dX0_allAyes_18 rfl hl (Nat.le_of_ble_eq_true rfl) rfl (fun ls hl => ?_)
    refine lv_iinc (v := (w1.2 + 1)) (lv' := [(2, .int (w1.2 + 1)), (1, .int (w1.1 + c4)), (0, .ref (gA G 0 0))]) hx hb dX0_allAyes_19 hl (k := 2) rfl rfl (Nat.le_of_ble_eq_true rfl) rfl (fun ls hl => ?_)
    refine lv_goto (tgt := 4) hx hb dX0_allAyes_22 (by decide) ?_
    have hzw1 := Option.some.inj hzw1
    subst hzw1
    exact ihw1 _ hqw1 _ _ _ _ _ hJ (lv_sub hl [2, 1, 0] rfl)
def C_tellsHour (σ : CM) (v1 : Int64) (v3 : Int32) (v4 : Int32) : Option (Int64) :=
  (lp (S := Int64 × Int32) (T := Int64) (fun w1 =>
    if (4 : Int32) ≤ w1.2 then
        some (.inr w1.1)
      else
        (cix σ 8 0 v3).bind fun n4 =>
        (cix σ 7 n4 v4).bind fun n5 =>
        (clk σ 3 (8 * n4 + n5)).bind fun e7 =>
        (C_X4_by σ (8 * n4 + n5) w1.2).bind fun c6 =>
        some (.inl ((((31 : Int64) * w1.1) + c6.toInt64), (w1.2 + 1)))) 2000 (v1, (0 : Int32))).bind fun q2 =>
  some q2
theorem hdC_tellsHour : yX0_tellsHour.cls = RX0 ∧ yX0_tellsHour.cls ≠ "java/lang/invoke/MethodHandle" ∧ yX0_tellsHour.cls ≠ "java/lang/invoke/VarHandle" ∧ (parseMethodDescriptor yX0_tellsHour.desc).map (fun d => d.parameters.length) = some 3 := by decide +kernel
set_option maxHeartbeats 4000000 in
theorem metC_tellsHour (l : Launch) (σ : CM) (v1 : Int64) (v3 : Int32) (v4 : Int32) (res : Int64) (h : C_tellsHour σ v1 v3 v4 = some res) : MetC l yX0_tellsHour (ws_ yX0_tellsHour cX0_tellsHour 8 (some .long)) 2 0 false false false false true true (fun G => [.ref (gA G 0 0), .long v1, .int v3, .int v4]) σ (fun _ => (some (.long res))) σ := by
  refine met_wC (own := RX0) (by decide +kernel) rfl (by simp [cRt]) (fun _ => Nat.le_of_ble_eq_true rfl) (fun G p e s m args below meth c Q hr1 hr2 C hE ls hl hJ => ?_)
  have hx := C.1.1
  have hb := C.1.2.1
  have hown := C.1.2.2.2.1
  have hts := C.1.2.2.2.2
  have hl : lv_has ls 8 [(0, .ref (gA G 0 0)), (1, .long v1), (3, .int v3), (4, .int v4)] := hl
  have hJ := CJ.s1 (hr1 rfl) hJ
  have hJ := CJ.s2 (hr2 rfl) hJ
  unfold C_tellsHour at h
  refine lv_lload_n hx hb dX0_tellsHour_0 rfl (lv_at hl 1 rfl) ?_
  refine lv_lstore (lv' := [(5, .long v1), (0, .ref (gA G 0 0)), (1, .long v1), (3, .int v3), (4, .int v4)]) hx hb dX0_tellsHour_1 hl (Nat.le_of_ble_eq_true rfl) rfl (fun ls hl => ?_)
  refine lv_iconst hx hb dX0_tellsHour_3 kc_0 ?_
  refine lv_istore (lv' := [(7, .int (0 : Int32)), (5, .long v1), (0, .ref (gA G 0 0)), (1, .long v1), (3, .int v3), (4, .int v4)]) hx hb dX0_tellsHour_4 hl (Nat.le_of_ble_eq_true rfl) rfl (fun ls hl => ?_)
  obtain ⟨q2, hq2, h⟩ := ob h
  have hxq2 : ∀ (H : Heap) (locs : List Loc) (ce sl : Nat) (ls : Array Slot), CJ G s (RM 2 0 false false G) 0 false false true true G.2.2.2 σ H locs ce sl → lv_has ls 8 [(5, .long q2)] → W p l e (RM 2 0 false false G) s m args below meth c H locs ce sl Q (F0 m 42 ls []) := by
    intro H locs ce sl ls hJ hl
    refine lv_lload hx hb dX0_tellsHour_42 (lv_at hl 0 rfl) ?_
    have h := Option.some.inj h
    subst h
    exact hE _ _ _ _ _ _ _ _ _ _ _ _ (some (.long (q2))) hJ (fun h => by cases h) (fun h => by cases h) ⟨_, rfl⟩ rfl dX0_tellsHour_44
  refine lp_ind (P := fun (w1 : Int64 × Int32) => ∀ (H : Heap) (locs : List Loc) (ce sl : Nat) (ls : Array Slot), CJ G s (RM 2 0 false false G) 0 false false true true G.2.2.2 σ H locs ce sl → lv_has ls 8 [(0, .ref (gA G 0 0)), (3, .int v3), (4, .int v4), (5, .long w1.1), (7, .int w1.2)] → W p l e (RM 2 0 false false G) s m args below meth c H locs ce sl Q (F0 m 6 ls [])) ?_ _ _ hq2 _ _ _ _ _ hJ (lv_sub hl [2, 4, 5, 1, 0] rfl)
  intro nw1 w1 ihw1 zw1 hzw1 hqw1 H locs ce sl ls hJ hl
  refine lv_iload hx hb dX0_tellsHour_6 (lv_at hl 4 rfl) ?_
  refine lv_iconst hx hb dX0_tellsHour_8 kc_4 ?_
  refine lv_icmp_ge (tgt := 42) hx hb dX0_tellsHour_9 (by decide) (fun hc3 => ?_) (fun hc3 => ?_)
  · have hzw1 := ip hzw1 hc3
    have hzw1 := Option.some.inj hzw1
    subst hzw1
    have hqw1 : _ = q2 := hqw1
    subst hqw1
    exact hxq2 _ _ _ _ _ hJ (lv_sub hl [3] rfl)
  · have hzw1 := im hzw1 hc3
    refine lv_ldc2 (v := (31 : Int64)) hx hb hown (hts _ q1210) dX0_tellsHour_12 ?_
    refine lv_lload hx hb dX0_tellsHour_15 (lv_at hl 3 rfl) ?_
    refine lv_lmul hx hb dX0_tellsHour_17 ?_
    refine lv_aload_n hx hb dX0_tellsHour_18 rfl (lv_at hl 0 rfl) ?_
    refine cj_gr (v := .ref (gA G 8 0)) C hJ 0 0 5 (ad_s rfl) (Nat.le_of_ble_eq_true rfl) (Nat.le_of_ble_eq_true rfl) rfl rfl (fl_X0_164_0 C) (fun _ _ => rfl) dX0_tellsHour_19 ?_
    refine lv_iload_n hx hb dX0_tellsHour_22 rfl (lv_at hl 1 rfl) ?_
    obtain ⟨n4, hn4, hzw1⟩ := ob hzw1
    refine cj_al (v := .ref (gA G 7 n4)) C hJ 8 0 (ad_s rfl) rfl rfl hn4 rfl dX0_tellsHour_23 ?_
    refine lv_iload hx hb dX0_tellsHour_24 (lv_at hl 2 rfl) ?_
    obtain ⟨n5, hn5, hzw1⟩ := ob hzw1
    refine cj_al (v := .ref (gA G 3 (8 * n4 + n5))) C hJ 7 n4 (ad_s rfl) rfl rfl hn5 rfl dX0_tellsHour_26 ?_
    refine lv_iload hx hb dX0_tellsHour_27 (lv_at hl 4 rfl) ?_
    obtain ⟨e7, he7, hzw1⟩ := ob hzw1
    obtain ⟨c6, hc6, hzw1⟩ := ob hzw1
    refine cc_Vt (As := [.int w1.2]) (rest := [.long ((31 : Int64) * w1.1)]) C hJ (metC_X4_by l σ (8 * n4 + n5) w1.2 c6 hc6) rfl rfl (show 0 + 0 ≤ 0 from Nat.le_of_ble_eq_true rfl) (cost_ok false false false false _ _ (fun h => by cases h) (fun h => by cases h)) (fun h => by cases h) (fun h => by cases h) (cj_recv C hJ 3 (8 * n4 + n5) (ad_s rfl) (Nat.le_of_ble_eq_true rfl) rfl (clk_l he7)) (cwV 1 hts (lw_V q902 q903 q904 q116 q905) rfl rfl rfl hdC_X4_by ⟨(Nat.le_of_ble_eq_true rfl), (Nat.le_of_ble_eq_true rfl)⟩) rfl hl.1 rfl (lv_room (Nat.le_of_ble_eq_true rfl)) dX0_tellsHour_29 (fun H locs hJ => ?_)
    refine lv_i2l (v := c6.toInt64) hx hb dX0_tellsHour_32 rfl ?_
    refine lv_ladd hx hb dX0_tellsHour_33 ?_
    refine lv_lstore (lv' := [(5, .long (((31 : Int64) * w1.1) + c6.toInt64)), (0, .ref (gA G 0 0)), (3, .int v3), (4, .int v4), (7, .int w1.2)]) hx hb dX0_tellsHour_34 hl (Nat.le_of_ble_eq_true rfl) rfl (fun ls hl => ?_)
    refine lv_iinc (v := (w1.2 + 1)) (lv' := [(7, .int (w1.2 + 1)), (5, .long (((31 : Int64) * w1.1) + c6.toInt64)), (0, .ref (gA G 0 0)), (3, .int v3), (4, .int v4)]) hx hb dX0_tellsHour_36 hl (k := 4) rfl rfl (Nat.le_of_ble_eq_true rfl) rfl (fun ls hl => ?_)
    refine lv_goto (tgt := 6) hx hb dX0_tellsHour_39 (by decide) ?_
    have hzw1 := Option.some.inj hzw1
    subst hzw1
    exact ihw1 _ hqw1 _ _ _ _ _ hJ (lv_sub hl [2, 3, 4, 1, 0] rfl)
def C_damp (σ : CM) (v1 : Int32) (v2 : Int32) (v3 : Int32) : Option (Int32 × CM) :=
  (C_find σ).bind fun c1 =>
  (C_isHour c1 v1).bind fun c4 =>
  if c4 = 0 then
    some ((-2 : Int32), c1)
  else
    (C_isPlace c1 v2).bind fun c6 =>
    if c6 = 0 then
      some ((-2 : Int32), c1)
    else
      (C_isTwo c1 v3).bind fun c8 =>
      if c8 = 0 then
        some ((-2 : Int32), c1)
      else
        (C_dampBy c1 v1 v2 v3).bind fun c10 =>
        some (c10, c1)
theorem hdC_damp : yX0_damp.cls = RX0 ∧ yX0_damp.cls ≠ "java/lang/invoke/MethodHandle" ∧ yX0_damp.cls ≠ "java/lang/invoke/VarHandle" ∧ (parseMethodDescriptor yX0_damp.desc).map (fun d => d.parameters.length) = some 3 := by decide +kernel
set_option maxHeartbeats 4000000 in
theorem metC_damp (l : Launch) (σ : CM) (v1 : Int32) (v2 : Int32) (v3 : Int32) (res : Int32 × CM) (h : C_damp σ v1 v2 v3 = some res) : MetC l yX0_damp (ws_ yX0_damp cX0_damp 4 (some .int)) 21 0 true true false false false false (fun G => [.ref (gA G 0 0), .int v1, .int v2, .int v3]) σ (fun _ => (some (.int res.1))) res.2 := by
  refine met_wC (own := RX0) (by decide +kernel) rfl (by simp [cRt]) (fun _ => Nat.le_of_ble_eq_true rfl) (fun G p e s m args below meth c Q hr1 hr2 C hE ls hl hJ => ?_)
  have hx := C.1.1
  have hb := C.1.2.1
  have hown := C.1.2.2.2.1
  have hts := C.1.2.2.2.2
  have hl : lv_has ls 4 [(0, .ref (gA G 0 0)), (1, .int v1), (2, .int v2), (3, .int v3)] := hl
  unfold C_damp at h
  refine lv_aload_n hx hb dX0_damp_0 rfl (lv_at hl 0 rfl) ?_
  obtain ⟨c1, hc1, h⟩ := ob h
  refine cc_V (As := []) (rest := []) C hJ (metC_find l σ c1 hc1) rfl rfl (show 0 + 0 ≤ 0 from Nat.le_of_ble_eq_true rfl) (cost_ok true true true true _ _ (fun _ => Or.inl rfl) (fun _ => Or.inl rfl)) (fun h => by cases h) (fun h => by cases h) (cj_recv C hJ 0 0 (ad_s rfl) (Nat.le_of_ble_eq_true rfl) rfl rfl) (cwV 0 hts (lw_V q809 q811 qs10 q109 q812) rfl rfl rfl hdC_find ⟨(Nat.le_of_ble_eq_true rfl), (Nat.le_of_ble_eq_true rfl)⟩) rfl hl.1 rfl (lv_room (Nat.le_of_ble_eq_true rfl)) dX0_damp_1 (fun D2 H locs _ hJ => ?_)
  refine lv_iload_n hx hb dX0_damp_4 rfl (lv_at hl 1 rfl) ?_
  obtain ⟨c4, hc4, h⟩ := ob h
  refine cc_St (As := [.int v1]) (rest := []) C hJ (metC_isHour l c1 v1 c4 hc4) rfl rfl (show 0 + 0 ≤ 0 from Nat.le_of_ble_eq_true rfl) (cost_ok false false true true _ _ (fun h => by cases h) (fun h => by cases h)) (fun h => by cases h) (fun h => by cases h) (va_cwS 1 hts (lw_S q569 q570 q109 q571) rfl rfl rfl hdC_isHour ⟨(Nat.le_of_ble_eq_true rfl), (Nat.le_of_ble_eq_true rfl)⟩) rfl hl.1 rfl (lv_room (Nat.le_of_ble_eq_true rfl)) dX0_damp_5 (fun H locs hJ => ?_)
  refine lv_if_eq (tgt := 35) hx hb dX0_damp_8 (by decide) (fun hc5 => ?_) (fun hc5 => ?_)
  · have h := ip h hc5
    refine lv_bipush hx hb dX0_damp_35 kb_m2 ?_
    have h := Option.some.inj h
    subst h
    exact hE _ _ _ _ _ _ _ _ _ _ _ _ (some (.int ((-2 : Int32)))) hJ (fun h => by cases h) (fun h => by cases h) ⟨_, rfl⟩ rfl dX0_damp_37
  · have h := im h hc5
    refine lv_iload_n hx hb dX0_damp_11 rfl (lv_at hl 2 rfl) ?_
    obtain ⟨c6, hc6, h⟩ := ob h
    refine cc_St (As := [.int v2]) (rest := []) C hJ (metC_isPlace l c1 v2 c6 hc6) rfl rfl (show 0 + 0 ≤ 0 from Nat.le_of_ble_eq_true rfl) (cost_ok false false true true _ _ (fun h => by cases h) (fun h => by cases h)) (fun h => by cases h) (fun h => by cases h) (va_cwS 1 hts (lw_S q501 q502 q109 q503) rfl rfl rfl hdC_isPlace ⟨(Nat.le_of_ble_eq_true rfl), (Nat.le_of_ble_eq_true rfl)⟩) rfl hl.1 rfl (lv_room (Nat.le_of_ble_eq_true rfl)) dX0_damp_12 (fun H locs hJ => ?_)
    refine lv_if_eq (tgt := 35) hx hb dX0_damp_15 (by decide) (fun hc7 => ?_) (fun hc7 => ?_)
    · have h := ip h hc7
      refine lv_bipush hx hb dX0_damp_35 kb_m2 ?_
      have h := Option.some.inj h
      subst h
      exact hE _ _ _ _ _ _ _ _ _ _ _ _ (some (.int ((-2 : Int32)))) hJ (fun h => by cases h) (fun h => by cases h) ⟨_, rfl⟩ rfl dX0_damp_37
    · have h := im h hc7
      refine lv_iload_n hx hb dX0_damp_18 rfl (lv_at hl 3 rfl) ?_
      obtain ⟨c8, hc8, h⟩ := ob h
      refine cc_St (As := [.int v3]) (rest := []) C hJ (metC_isTwo l c1 v3 c8 hc8) rfl rfl (show 0 + 0 ≤ 0 from Nat.le_of_ble_eq_true rfl) (cost_ok false false true true _ _ (fun h => by cases h) (fun h => by cases h)) (fun h => by cases h) (fun h => by cases h) (va_cwS 1 hts (lw_S q142 q143 q109 q144) rfl rfl rfl hdC_isTwo ⟨(Nat.le_of_ble_eq_true rfl), (Nat.le_of_ble_eq_true rfl)⟩) rfl hl.1 rfl (lv_room (Nat.le_of_ble_eq_true rfl)) dX0_damp_19 (fun H locs hJ => ?_)
      refine lv_if_eq (tgt := 35) hx hb dX0_damp_22 (by decide) (fun hc9 => ?_) (fun hc9 => ?_)
      · have h := ip h hc9
        refine lv_bipush hx hb dX0_damp_35 kb_m2 ?_
        have h := Option.some.inj h
        subst h
        exact hE _ _ _ _ _ _ _ _ _ _ _ _ (some (.int ((-2 : Int32)))) hJ (fun h => by cases h) (fun h => by cases h) ⟨_, rfl⟩ rfl dX0_damp_37
      · have h := im h hc9
        refine lv_aload_n hx hb dX0_damp_25 rfl (lv_at hl 0 rfl) ?_
        refine lv_iload_n hx hb dX0_damp_26 rfl (lv_at hl 1 rfl) ?_
        refine lv_iload_n hx hb dX0_damp_27 rfl (lv_at hl 2 rfl) ?_
        refine lv_iload_n hx hb dX0_damp_28 rfl (lv_at hl 3 rfl) ?_
        obtain ⟨c10, hc10, h⟩ := ob h
        refine cc_Vt (As := [.int v1, .int v2, .int v3]) (rest := []) C hJ (metC_dampBy l c1 v1 v2 v3 c10 hc10) rfl rfl (show 0 + 0 ≤ 0 from Nat.le_of_ble_eq_true rfl) (cost_ok false false true true _ _ (fun h => by cases h) (fun h => by cases h)) (fun _ => rfl) (fun _ => rfl) (cj_recv C hJ 0 0 (ad_s rfl) (Nat.le_of_ble_eq_true rfl) rfl rfl) (cwV 3 hts (lw_V q894 q896 qs21 q109 q897) rfl rfl rfl hdC_dampBy ⟨(Nat.le_of_ble_eq_true rfl), (Nat.le_of_ble_eq_true rfl)⟩) rfl hl.1 rfl (lv_room (Nat.le_of_ble_eq_true rfl)) dX0_damp_29 (fun H locs hJ => ?_)
        refine lv_goto (tgt := 37) hx hb dX0_damp_32 (by decide) ?_
        have h := Option.some.inj h
        subst h
        exact hE _ _ _ _ _ _ _ _ _ _ _ _ (some (.int (c10))) hJ (fun h => by cases h) (fun h => by cases h) ⟨_, rfl⟩ rfl dX0_damp_37
def C_at (σ : CM) (v1 : Int32) (v2 : Int32) (v3 : Int32) : Option (Int32 × CM) :=
  (C_find σ).bind fun c1 =>
  (C_isHour c1 v1).bind fun c4 =>
  if c4 = 0 then
    some ((-2 : Int32), c1)
  else
    (C_isMember c1 v2).bind fun c6 =>
    if c6 = 0 then
      some ((-2 : Int32), c1)
    else
      (C_in c1 v3.toInt64 (0 : Int64) (3 : Int64)).bind fun c9 =>
      if c9 = 0 then
        some ((-2 : Int32), c1)
      else
        (cix c1 8 0 v1).bind fun n11 =>
        (cix c1 7 n11 v2).bind fun n12 =>
        (clk c1 3 (8 * n11 + n12)).bind fun e14 =>
        (C_X4_by c1 (8 * n11 + n12) v3).bind fun c13 =>
        some (c13, c1)
theorem hdC_at : yX0_at.cls = RX0 ∧ yX0_at.cls ≠ "java/lang/invoke/MethodHandle" ∧ yX0_at.cls ≠ "java/lang/invoke/VarHandle" ∧ (parseMethodDescriptor yX0_at.desc).map (fun d => d.parameters.length) = some 3 := by decide +kernel
set_option maxHeartbeats 4000000 in
theorem metC_at (l : Launch) (σ : CM) (v1 : Int32) (v2 : Int32) (v3 : Int32) (res : Int32 × CM) (h : C_at σ v1 v2 v3 = some res) : MetC l yX0_at (ws_ yX0_at cX0_at 4 (some .int)) 21 0 true true false false false false (fun G => [.ref (gA G 0 0), .int v1, .int v2, .int v3]) σ (fun _ => (some (.int res.1))) res.2 := by
  refine met_wC (own := RX0) (by decide +kernel) rfl (by simp [cRt]) (fun _ => Nat.le_of_ble_eq_true rfl) (fun G p e s m args below meth c Q hr1 hr2 C hE ls hl hJ => ?_)
  have hx := C.1.1
  have hb := C.1.2.1
  have hown := C.1.2.2.2.1
  have hts := C.1.2.2.2.2
  have hl : lv_has ls 4 [(0, .ref (gA G 0 0)), (1, .int v1), (2, .int v2), (3, .int v3)] := hl
  unfold C_at at h
  refine lv_aload_n hx hb dX0_at_0 rfl (lv_at hl 0 rfl) ?_
  obtain ⟨c1, hc1, h⟩ := ob h
  refine cc_V (As := []) (rest := []) C hJ (metC_find l σ c1 hc1) rfl rfl (show 0 + 0 ≤ 0 from Nat.le_of_ble_eq_true rfl) (cost_ok true true true true _ _ (fun _ => Or.inl rfl) (fun _ => Or.inl rfl)) (fun h => by cases h) (fun h => by cases h) (cj_recv C hJ 0 0 (ad_s rfl) (Nat.le_of_ble_eq_true rfl) rfl rfl) (cwV 0 hts (lw_V q809 q811 qs10 q109 q812) rfl rfl rfl hdC_find ⟨(Nat.le_of_ble_eq_true rfl), (Nat.le_of_ble_eq_true rfl)⟩) rfl hl.1 rfl (lv_room (Nat.le_of_ble_eq_true rfl)) dX0_at_1 (fun D2 H locs _ hJ => ?_)
  refine lv_iload_n hx hb dX0_at_4 rfl (lv_at hl 1 rfl) ?_
  obtain ⟨c4, hc4, h⟩ := ob h
  refine cc_St (As := [.int v1]) (rest := []) C hJ (metC_isHour l c1 v1 c4 hc4) rfl rfl (show 0 + 0 ≤ 0 from Nat.le_of_ble_eq_true rfl) (cost_ok false false true true _ _ (fun h => by cases h) (fun h => by cases h)) (fun h => by cases h) (fun h => by cases h) (va_cwS 1 hts (lw_S q569 q570 q109 q571) rfl rfl rfl hdC_isHour ⟨(Nat.le_of_ble_eq_true rfl), (Nat.le_of_ble_eq_true rfl)⟩) rfl hl.1 rfl (lv_room (Nat.le_of_ble_eq_true rfl)) dX0_at_5 (fun H locs hJ => ?_)
  refine lv_if_eq (tgt := 46) hx hb dX0_at_8 (by decide) (fun hc5 => ?_) (fun hc5 => ?_)
  · have h := ip h hc5
    refine lv_bipush hx hb dX0_at_46 kb_m2 ?_
    have h := Option.some.inj h
    subst h
    exact hE _ _ _ _ _ _ _ _ _ _ _ _ (some (.int ((-2 : Int32)))) hJ (fun h => by cases h) (fun h => by cases h) ⟨_, rfl⟩ rfl dX0_at_48
  · have h := im h hc5
    refine lv_aload_n hx hb dX0_at_11 rfl (lv_at hl 0 rfl) ?_
    refine lv_iload_n hx hb dX0_at_12 rfl (lv_at hl 2 rfl) ?_
    obtain ⟨c6, hc6, h⟩ := ob h
    refine cc_Vt (As := [.int v2]) (rest := []) C hJ (metC_isMember l c1 v2 c6 hc6) rfl rfl (show 0 + 0 ≤ 0 from Nat.le_of_ble_eq_true rfl) (cost_ok false true true true _ _ (fun h => by cases h) (fun _ => Or.inr rfl)) (fun h => by cases h) (fun h => by cases h) (cj_recv C hJ 0 0 (ad_s rfl) (Nat.le_of_ble_eq_true rfl) rfl rfl) (cwV 1 hts (lw_V q517 q519 qs6 q109 q520) rfl rfl rfl hdC_isMember ⟨(Nat.le_of_ble_eq_true rfl), (Nat.le_of_ble_eq_true rfl)⟩) rfl hl.1 rfl (lv_room (Nat.le_of_ble_eq_true rfl)) dX0_at_13 (fun H locs hJ => ?_)
    refine lv_if_eq (tgt := 46) hx hb dX0_at_16 (by decide) (fun hc8 => ?_) (fun hc8 => ?_)
    · have h := ip h hc8
      refine lv_bipush hx hb dX0_at_46 kb_m2 ?_
      have h := Option.some.inj h
      subst h
      exact hE _ _ _ _ _ _ _ _ _ _ _ _ (some (.int ((-2 : Int32)))) hJ (fun h => by cases h) (fun h => by cases h) ⟨_, rfl⟩ rfl dX0_at_48
    · have h := im h hc8
      refine lv_iload_n hx hb dX0_at_19 rfl (lv_at hl 3 rfl) ?_
      refine lv_i2l (v := v3.toInt64) hx hb dX0_at_20 rfl ?_
      refine lv_lconst (v := (0 : Int64)) hx hb dX0_at_21 rfl ?_
      refine lv_ldc2 (v := (3 : Int64)) hx hb hown (hts _ q568) dX0_at_22 ?_
      obtain ⟨c9, hc9, h⟩ := ob h
      refine cc_St (As := [.long v3.toInt64, .long (0 : Int64), .long (3 : Int64)]) (rest := []) C hJ (metC_in l c1 v3.toInt64 (0 : Int64) (3 : Int64) c9 hc9) rfl rfl (show 0 + 0 ≤ 0 from Nat.le_of_ble_eq_true rfl) (cost_ok false false true true _ _ (fun h => by cases h) (fun h => by cases h)) (fun h => by cases h) (fun h => by cases h) (va_cwS 3 hts (lw_S q145 q146 q109 q147) rfl rfl rfl hdC_in ⟨(Nat.le_of_ble_eq_true rfl), (Nat.le_of_ble_eq_true rfl)⟩) rfl hl.1 rfl (lv_room (Nat.le_of_ble_eq_true rfl)) dX0_at_25 (fun H locs hJ => ?_)
      refine lv_if_eq (tgt := 46) hx hb dX0_at_28 (by decide) (fun hc10 => ?_) (fun hc10 => ?_)
      · have h := ip h hc10
        refine lv_bipush hx hb dX0_at_46 kb_m2 ?_
        have h := Option.some.inj h
        subst h
        exact hE _ _ _ _ _ _ _ _ _ _ _ _ (some (.int ((-2 : Int32)))) hJ (fun h => by cases h) (fun h => by cases h) ⟨_, rfl⟩ rfl dX0_at_48
      · have h := im h hc10
        refine lv_aload_n hx hb dX0_at_31 rfl (lv_at hl 0 rfl) ?_
        refine cj_gr (v := .ref (gA G 8 0)) C hJ 0 0 5 (ad_s rfl) (Nat.le_of_ble_eq_true rfl) (Nat.le_of_ble_eq_true rfl) rfl rfl (fl_X0_164_0 C) (fun _ _ => rfl) dX0_at_32 ?_
        refine lv_iload_n hx hb dX0_at_35 rfl (lv_at hl 1 rfl) ?_
        obtain ⟨n11, hn11, h⟩ := ob h
        refine cj_al (v := .ref (gA G 7 n11)) C hJ 8 0 (ad_s rfl) rfl rfl hn11 rfl dX0_at_36 ?_
        refine lv_iload_n hx hb dX0_at_37 rfl (lv_at hl 2 rfl) ?_
        obtain ⟨n12, hn12, h⟩ := ob h
        refine cj_al (v := .ref (gA G 3 (8 * n11 + n12))) C hJ 7 n11 (ad_s rfl) rfl rfl hn12 rfl dX0_at_38 ?_
        refine lv_iload_n hx hb dX0_at_39 rfl (lv_at hl 3 rfl) ?_
        obtain ⟨e14, he14, h⟩ := ob h
        obtain ⟨c13, hc13, h⟩ := ob h
        refine cc_Vt (As := [.int v3]) (rest := []) C hJ (metC_X4_by l c1 (8 * n11 + n12) v3 c13 hc13) rfl rfl (show 0 + 0 ≤ 0 from Nat.le_of_ble_eq_true rfl) (cost_ok false false true true _ _ (fun h => by cases h) (fun h => by cases h)) (fun h => by cases h) (fun h => by cases h) (cj_recv C hJ 3 (8 * n11 + n12) (ad_s rfl) (Nat.le_of_ble_eq_true rfl) rfl (clk_l he14)) (cwV 1 hts (lw_V q902 q903 q904 q116 q905) rfl rfl rfl hdC_X4_by ⟨(Nat.le_of_ble_eq_true rfl), (Nat.le_of_ble_eq_true rfl)⟩) rfl hl.1 rfl (lv_room (Nat.le_of_ble_eq_true rfl)) dX0_at_40 (fun H locs hJ => ?_)
        refine lv_goto (tgt := 48) hx hb dX0_at_43 (by decide) ?_
        have h := Option.some.inj h
        subst h
        exact hE _ _ _ _ _ _ _ _ _ _ _ _ (some (.int (c13))) hJ (fun h => by cases h) (fun h => by cases h) ⟨_, rfl⟩ rfl dX0_at_48
def C_house (σ : CM) (v1 : Int32) (v2 : Int32) : Option (Int32 × CM) :=
  (C_find σ).bind fun c1 =>
  (C_isHour c1 v1).bind fun c4 =>
  if c4 = 0 then
    some ((-2 : Int32), c1)
  else
    (C_in c1 v2.toInt64 (0 : Int64) (2 : Int64)).bind fun c6 =>
    if c6 = 0 then
      some ((-2 : Int32), c1)
    else
      (C_houseBy c1 v1 v2).bind fun c8 =>
      some (c8, c1)
theorem hdC_house : yX0_house.cls = RX0 ∧ yX0_house.cls ≠ "java/lang/invoke/MethodHandle" ∧ yX0_house.cls ≠ "java/lang/invoke/VarHandle" ∧ (parseMethodDescriptor yX0_house.desc).map (fun d => d.parameters.length) = some 2 := by decide +kernel
set_option maxHeartbeats 4000000 in
theorem metC_house (l : Launch) (σ : CM) (v1 : Int32) (v2 : Int32) (res : Int32 × CM) (h : C_house σ v1 v2 = some res) : MetC l yX0_house (ws_ yX0_house cX0_house 3 (some .int)) 21 0 true true false false false false (fun G => [.ref (gA G 0 0), .int v1, .int v2]) σ (fun _ => (some (.int res.1))) res.2 := by
  refine met_wC (own := RX0) (by decide +kernel) rfl (by simp [cRt]) (fun _ => Nat.le_of_ble_eq_true rfl) (fun G p e s m args below meth c Q hr1 hr2 C hE ls hl hJ => ?_)
  have hx := C.1.1
  have hb := C.1.2.1
  have hown := C.1.2.2.2.1
  have hts := C.1.2.2.2.2
  have hl : lv_has ls 3 [(0, .ref (gA G 0 0)), (1, .int v1), (2, .int v2)] := hl
  unfold C_house at h
  refine lv_aload_n hx hb dX0_house_0 rfl (lv_at hl 0 rfl) ?_
  obtain ⟨c1, hc1, h⟩ := ob h
  refine cc_V (As := []) (rest := []) C hJ (metC_find l σ c1 hc1) rfl rfl (show 0 + 0 ≤ 0 from Nat.le_of_ble_eq_true rfl) (cost_ok true true true true _ _ (fun _ => Or.inl rfl) (fun _ => Or.inl rfl)) (fun h => by cases h) (fun h => by cases h) (cj_recv C hJ 0 0 (ad_s rfl) (Nat.le_of_ble_eq_true rfl) rfl rfl) (cwV 0 hts (lw_V q809 q811 qs10 q109 q812) rfl rfl rfl hdC_find ⟨(Nat.le_of_ble_eq_true rfl), (Nat.le_of_ble_eq_true rfl)⟩) rfl hl.1 rfl (lv_room (Nat.le_of_ble_eq_true rfl)) dX0_house_1 (fun D2 H locs _ hJ => ?_)
  refine lv_iload_n hx hb dX0_house_4 rfl (lv_at hl 1 rfl) ?_
  obtain ⟨c4, hc4, h⟩ := ob h
  refine cc_St (As := [.int v1]) (rest := []) C hJ (metC_isHour l c1 v1 c4 hc4) rfl rfl (show 0 + 0 ≤ 0 from Nat.le_of_ble_eq_true rfl) (cost_ok false false true true _ _ (fun h => by cases h) (fun h => by cases h)) (fun h => by cases h) (fun h => by cases h) (va_cwS 1 hts (lw_S q569 q570 q109 q571) rfl rfl rfl hdC_isHour ⟨(Nat.le_of_ble_eq_true rfl), (Nat.le_of_ble_eq_true rfl)⟩) rfl hl.1 rfl (lv_room (Nat.le_of_ble_eq_true rfl)) dX0_house_5 (fun H locs hJ => ?_)
  refine lv_if_eq (tgt := 32) hx hb dX0_house_8 (by decide) (fun hc5 => ?_) (fun hc5 => ?_)
  · have h := ip h hc5
    refine lv_bipush hx hb dX0_house_32 kb_m2 ?_
    have h := Option.some.inj h
    subst h
    exact hE _ _ _ _ _ _ _ _ _ _ _ _ (some (.int ((-2 : Int32)))) hJ (fun h => by cases h) (fun h => by cases h) ⟨_, rfl⟩ rfl dX0_house_34
  · have h := im h hc5
    refine lv_iload_n hx hb dX0_house_11 rfl (lv_at hl 2 rfl) ?_
    refine lv_i2l (v := v2.toInt64) hx hb dX0_house_12 rfl ?_
    refine lv_lconst (v := (0 : Int64)) hx hb dX0_house_13 rfl ?_
    refine lv_ldc2 (v := (2 : Int64)) hx hb hown (hts _ q529) dX0_house_14 ?_
    obtain ⟨c6, hc6, h⟩ := ob h
    refine cc_St (As := [.long v2.toInt64, .long (0 : Int64), .long (2 : Int64)]) (rest := []) C hJ (metC_in l c1 v2.toInt64 (0 : Int64) (2 : Int64) c6 hc6) rfl rfl (show 0 + 0 ≤ 0 from Nat.le_of_ble_eq_true rfl) (cost_ok false false true true _ _ (fun h => by cases h) (fun h => by cases h)) (fun h => by cases h) (fun h => by cases h) (va_cwS 3 hts (lw_S q145 q146 q109 q147) rfl rfl rfl hdC_in ⟨(Nat.le_of_ble_eq_true rfl), (Nat.le_of_ble_eq_true rfl)⟩) rfl hl.1 rfl (lv_room (Nat.le_of_ble_eq_true rfl)) dX0_house_17 (fun H locs hJ => ?_)
    refine lv_if_eq (tgt := 32) hx hb dX0_house_20 (by decide) (fun hc7 => ?_) (fun hc7 => ?_)
    · have h := ip h hc7
      refine lv_bipush hx hb dX0_house_32 kb_m2 ?_
      have h := Option.some.inj h
      subst h
      exact hE _ _ _ _ _ _ _ _ _ _ _ _ (some (.int ((-2 : Int32)))) hJ (fun h => by cases h) (fun h => by cases h) ⟨_, rfl⟩ rfl dX0_house_34
    · have h := im h hc7
      refine lv_aload_n hx hb dX0_house_23 rfl (lv_at hl 0 rfl) ?_
      refine lv_iload_n hx hb dX0_house_24 rfl (lv_at hl 1 rfl) ?_
      refine lv_iload_n hx hb dX0_house_25 rfl (lv_at hl 2 rfl) ?_
      obtain ⟨c8, hc8, h⟩ := ob h
      refine cc_Vt (As := [.int v1, .int v2]) (rest := []) C hJ (metC_houseBy l c1 v1 v2 c8 hc8) rfl rfl (show 0 + 0 ≤ 0 from Nat.le_of_ble_eq_true rfl) (cost_ok false false true true _ _ (fun h => by cases h) (fun h => by cases h)) (fun _ => rfl) (fun _ => rfl) (cj_recv C hJ 0 0 (ad_s rfl) (Nat.le_of_ble_eq_true rfl) rfl rfl) (cwV 2 hts (lw_V q910 q912 qs22 q109 q913) rfl rfl rfl hdC_houseBy ⟨(Nat.le_of_ble_eq_true rfl), (Nat.le_of_ble_eq_true rfl)⟩) rfl hl.1 rfl (lv_room (Nat.le_of_ble_eq_true rfl)) dX0_house_26 (fun H locs hJ => ?_)
      refine lv_goto (tgt := 34) hx hb dX0_house_29 (by decide) ?_
      have h := Option.some.inj h
      subst h
      exact hE _ _ _ _ _ _ _ _ _ _ _ _ (some (.int (c8))) hJ (fun h => by cases h) (fun h => by cases h) ⟨_, rfl⟩ rfl dX0_house_34
