/-! the component, walked (printed by tool/gen_c.py) -/
set_option maxRecDepth 100000
def C_askOf (σ : CM) (v1 : Int32) : Option (Int32 × CM) :=
  (C_wetOf σ v1).bind fun c1 =>
  (lp (S := Int32 × Int32) (T := Int32) (fun w4 =>
    if (20 : Int32) ≤ w4.2 then
        some (.inr w4.1)
      else
        (C_alike c1.2 c1.1 w4.2).bind fun c8 =>
        (C_alike c1.2 c1.1 w4.1).bind fun c11 =>
        if c11 ≤ c8 then
          some (.inl (w4.1, (w4.2 + 1)))
        else
          some (.inl (w4.2, (w4.2 + 1)))) 2000 ((0 : Int32), (1 : Int32))).bind fun q5 =>
  some (q5, c1.2)
theorem hdC_askOf : yX0_askOf.cls = RX0 ∧ yX0_askOf.cls ≠ "java/lang/invoke/MethodHandle" ∧ yX0_askOf.cls ≠ "java/lang/invoke/VarHandle" ∧ (parseMethodDescriptor yX0_askOf.desc).map (fun d => d.parameters.length) = some 1 := by decide +kernel
set_option maxHeartbeats 4000000 in
theorem metC_askOf (l : Launch) (σ : CM) (v1 : Int32) (res : Int32 × CM) (h : C_askOf σ v1 = some res) : MetC l yX0_askOf (ws_ yX0_askOf cX0_askOf 5 (some .int)) 23 0 true true false false false false (fun G => [.ref (gA G 0 0), .int v1]) σ (fun _ => (some (.int res.1))) res.2 := by
  refine met_wC (own := RX0) (by decide +kernel) rfl (by simp [cRt]) (fun _ => Nat.le_of_ble_eq_true rfl) (fun G p e s m args below meth c Q hr1 hr2 C hE ls hl hJ => ?_)
  have hx := C.1.1
  have hb := C.1.2.1
  have hown := C.1.2.2.2.1
  have hts := C.1.2.2.2.2
  have hl : lv_has ls 5 [(0, .ref (gA G 0 0)), (1, .int v1)] := hl
  unfold C_askOf at h
  refine lv_aload_n hx hb dX0_askOf_0 rfl (lv_at hl 0 rfl) ?_
  refine lv_iload_n hx hb dX0_askOf_1 rfl (lv_at hl 1 rfl) ?_
  obtain ⟨c1, hc1, h⟩ := ob h
  refine cc_VW (As := [.int v1]) (rest := []) C hJ (metC_wetOf l σ v1 c1 hc1) rfl rfl (show 0 + 0 ≤ 0 from Nat.le_of_ble_eq_true rfl) (cost_in true true true true _ _ (fun _ => Or.inl rfl) (fun _ => Or.inl rfl)) (fun h => by cases h) (fun h => by cases h) (cj_recv C hJ 0 0 (ad_s rfl) (Nat.le_of_ble_eq_true rfl) rfl rfl) (lw_VW q1034 q1036 qs38 q109 q1037) rfl hdC_wetOf ⟨(Nat.le_of_ble_eq_true rfl), (Nat.le_of_ble_eq_true rfl)⟩ rfl hl.1 rfl (lv_room (Nat.le_of_ble_eq_true rfl)) dX0_askOf_2 (fun D2 H locs _ hJ => ?_)
  refine lv_istore_n (lv' := [(2, .int c1.1), (0, .ref (gA G 0 0)), (1, .int v1)]) hx hb dX0_askOf_5 rfl hl (Nat.le_of_ble_eq_true rfl) rfl (fun ls hl => ?_)
  refine lv_iconst hx hb dX0_askOf_6 kc_0 ?_
  refine lv_istore_n (lv' := [(3, .int (0 : Int32)), (2, .int c1.1), (0, .ref (gA G 0 0)), (1, .int v1)]) hx hb dX0_askOf_7 rfl hl (Nat.le_of_ble_eq_true rfl) rfl (fun ls hl => ?_)
  refine lv_iconst hx hb dX0_askOf_8 kc_1 ?_
  refine lv_istore (lv' := [(4, .int (1 : Int32)), (3, .int (0 : Int32)), (2, .int c1.1), (0, .ref (gA G 0 0)), (1, .int v1)]) hx hb dX0_askOf_9 hl (Nat.le_of_ble_eq_true rfl) rfl (fun ls hl => ?_)
  obtain ⟨q5, hq5, h⟩ := ob h
  have hxq5 : ∀ (D15 : Nat → Nat → Nat) (H : Heap) (locs : List Loc) (ce sl : Nat) (ls : Array Slot), CJ G s (RM 23 0 true true G) 0 false false G.2.1 G.2.2.1 D15 c1.2 H locs ce sl → lv_has ls 5 [(3, .int q5)] → W p l e (RM 23 0 true true G) s m args below meth c H locs ce sl Q (F0 m 47 ls []) := by
    intro D15 H locs ce sl ls hJ hl
    refine lv_iload_n hx hb dX0_askOf_47 rfl (lv_at hl 0 rfl) ?_
    have h := Option.some.inj h
    subst h
    exact hE _ _ _ _ _ _ _ _ _ _ _ _ (some (.int (q5))) hJ (fun h => by cases h) (fun h => by cases h) ⟨_, rfl⟩ rfl dX0_askOf_48
  refine lp_ind (P := fun (w4 : Int32 × Int32) => ∀ (D6 : Nat → Nat → Nat) (H : Heap) (locs : List Loc) (ce sl : Nat) (ls : Array Slot), CJ G s (RM 23 0 true true G) 0 false false G.2.1 G.2.2.1 D6 c1.2 H locs ce sl → lv_has ls 5 [(0, .ref (gA G 0 0)), (2, .int c1.1), (3, .int w4.1), (4, .int w4.2)] → W p l e (RM 23 0 true true G) s m args below meth c H locs ce sl Q (F0 m 11 ls [])) ?_ _ _ hq5 _ _ _ _ _ _ hJ (lv_sub hl [3, 2, 1, 0] rfl)
  intro nw4 w4 ihw4 zw4 hzw4 hqw4 D6 H locs ce sl ls hJ hl
  refine lv_iload hx hb dX0_askOf_11 (lv_at hl 3 rfl) ?_
  refine lv_bipush hx hb dX0_askOf_13 kb_20 ?_
  refine lv_icmp_ge (tgt := 47) hx hb dX0_askOf_15 (by decide) (fun hc7 => ?_) (fun hc7 => ?_)
  · have hzw4 := ip hzw4 hc7
    have hzw4 := Option.some.inj hzw4
    subst hzw4
    have hqw4 : _ = q5 := hqw4
    subst hqw4
    exact hxq5 _ _ _ _ _ _ hJ (lv_sub hl [2] rfl)
  · have hzw4 := im hzw4 hc7
    refine lv_aload_n hx hb dX0_askOf_18 rfl (lv_at hl 0 rfl) ?_
    refine lv_iload_n hx hb dX0_askOf_19 rfl (lv_at hl 1 rfl) ?_
    refine lv_iload hx hb dX0_askOf_20 (lv_at hl 3 rfl) ?_
    obtain ⟨c8, hc8, hzw4⟩ := ob hzw4
    refine cc_V (As := [.int c1.1, .int w4.2]) (rest := []) C hJ (metC_alike l c1.2 c1.1 w4.2 c8 hc8) rfl rfl (show 0 + 0 ≤ 0 from Nat.le_of_ble_eq_true rfl) (cost_ok false false false false _ _ (fun h => by cases h) (fun h => by cases h)) (fun h => by cases h) (fun h => by cases h) (cj_recv C hJ 0 0 (ad_s rfl) (Nat.le_of_ble_eq_true rfl) rfl rfl) (cwV 2 hts (lw_V q1046 q1048 qs40 q109 q1049) rfl rfl rfl hdC_alike ⟨(Nat.le_of_ble_eq_true rfl), (Nat.le_of_ble_eq_true rfl)⟩) rfl hl.1 rfl (lv_room (Nat.le_of_ble_eq_true rfl)) dX0_askOf_22 (fun D9 H locs _ hJ => ?_)
    refine lv_aload_n hx hb dX0_askOf_25 rfl (lv_at hl 0 rfl) ?_
    refine lv_iload_n hx hb dX0_askOf_26 rfl (lv_at hl 1 rfl) ?_
    refine lv_iload_n hx hb dX0_askOf_27 rfl (lv_at hl 2 rfl) ?_
    obtain ⟨c11, hc11, hzw4⟩ := ob hzw4
    refine cc_V (As := [.int c1.1, .int w4.1]) (rest := [.int c8]) C hJ (metC_alike l c1.2 c1.1 w4.1 c11 hc11) rfl rfl (show 0 + 0 ≤ 0 from Nat.le_of_ble_eq_true rfl) (cost_ok false false false false _ _ (fun h => by cases h) (fun h => by cases h)) (fun h => by cases h) (fun h => by cases h) (cj_recv C hJ 0 0 (ad_s rfl) (Nat.le_of_ble_eq_true rfl) rfl rfl) (cwV 2 hts (lw_V q1046 q1048 qs40 q109 q1049) rfl rfl rfl hdC_alike ⟨(Nat.le_of_ble_eq_true rfl), (Nat.le_of_ble_eq_true rfl)⟩) rfl hl.1 rfl (lv_room (Nat.le_of_ble_eq_true rfl)) dX0_askOf_28 (fun D12 H locs _ hJ => ?_)
    refine lv_icmp_ge (tgt := 39) hx hb dX0_askOf_31 (by decide) (fun hc14 => ?_) (fun hc14 => ?_)
    · have hzw4 := ip hzw4 hc14
      refine lv_iload_n hx hb dX0_askOf_39 rfl (lv_at hl 2 rfl) ?_
      refine lv_istore_n (lv' := [(3, .int w4.1), (0, .ref (gA G 0 0)), (2, .int c1.1), (4, .int w4.2)]) hx hb dX0_askOf_40 rfl hl (Nat.le_of_ble_eq_true rfl) rfl (fun ls hl => ?_)
      refine lv_iinc (v := (w4.2 + 1)) (lv' := [(4, .int (w4.2 + 1)), (3, .int w4.1), (0, .ref (gA G 0 0)), (2, .int c1.1)]) hx hb dX0_askOf_41 hl (k := 3) rfl rfl (Nat.le_of_ble_eq_true rfl) rfl (fun ls hl => ?_)
      refine lv_goto (tgt := 11) hx hb dX0_askOf_44 (by decide) ?_
      have hzw4 := Option.some.inj hzw4
      subst hzw4
      exact ihw4 _ hqw4 _ _ _ _ _ _ hJ (lv_sub hl [2, 3, 1, 0] rfl)
    · have hzw4 := im hzw4 hc14
      refine lv_iload hx hb dX0_askOf_34 (lv_at hl 3 rfl) ?_
      refine lv_goto (tgt := 40) hx hb dX0_askOf_36 (by decide) ?_
      refine lv_istore_n (lv' := [(3, .int w4.2), (0, .ref (gA G 0 0)), (2, .int c1.1), (4, .int w4.2)]) hx hb dX0_askOf_40 rfl hl (Nat.le_of_ble_eq_true rfl) rfl (fun ls hl => ?_)
      refine lv_iinc (v := (w4.2 + 1)) (lv' := [(4, .int (w4.2 + 1)), (3, .int w4.2), (0, .ref (gA G 0 0)), (2, .int c1.1)]) hx hb dX0_askOf_41 hl (k := 3) rfl rfl (Nat.le_of_ble_eq_true rfl) rfl (fun ls hl => ?_)
      refine lv_goto (tgt := 11) hx hb dX0_askOf_44 (by decide) ?_
      have hzw4 := Option.some.inj hzw4
      subst hzw4
      exact ihw4 _ hqw4 _ _ _ _ _ _ hJ (lv_sub hl [2, 3, 1, 0] rfl)
def C_ask (σ : CM) (v1 : Int32) : Option (Int32 × CM) :=
  (C_isPlace σ v1).bind fun c1 =>
  if c1 = 0 then
    some ((-2 : Int32), σ)
  else
    (C_askOf σ v1).bind fun c4 =>
    some (c4.1, c4.2)
theorem hdC_ask : yX0_ask.cls = RX0 ∧ yX0_ask.cls ≠ "java/lang/invoke/MethodHandle" ∧ yX0_ask.cls ≠ "java/lang/invoke/VarHandle" ∧ (parseMethodDescriptor yX0_ask.desc).map (fun d => d.parameters.length) = some 1 := by decide +kernel
set_option maxHeartbeats 4000000 in
theorem metC_ask (l : Launch) (σ : CM) (v1 : Int32) (res : Int32 × CM) (h : C_ask σ v1 = some res) : MetC l yX0_ask (ws_ yX0_ask cX0_ask 2 (some .int)) 24 0 true true false false false false (fun G => [.ref (gA G 0 0), .int v1]) σ (fun _ => (some (.int res.1))) res.2 := by
  refine met_wC (own := RX0) (by decide +kernel) rfl (by simp [cRt]) (fun _ => Nat.le_of_ble_eq_true rfl) (fun G p e s m args below meth c Q hr1 hr2 C hE ls hl hJ => ?_)
  have hx := C.1.1
  have hb := C.1.2.1
  have hown := C.1.2.2.2.1
  have hts := C.1.2.2.2.2
  have hl : lv_has ls 2 [(0, .ref (gA G 0 0)), (1, .int v1)] := hl
  unfold C_ask at h
  refine lv_iload_n hx hb dX0_ask_0 rfl (lv_at hl 1 rfl) ?_
  obtain ⟨c1, hc1, h⟩ := ob h
  refine cc_S (As := [.int v1]) (rest := []) C hJ (metC_isPlace l σ v1 c1 hc1) rfl rfl (show 0 + 0 ≤ 0 from Nat.le_of_ble_eq_true rfl) (cost_ok false false true true _ _ (fun h => by cases h) (fun h => by cases h)) (fun h => by cases h) (fun h => by cases h) (va_cwS 1 hts (lw_S q501 q502 q109 q503) rfl rfl rfl hdC_isPlace ⟨(Nat.le_of_ble_eq_true rfl), (Nat.le_of_ble_eq_true rfl)⟩) rfl hl.1 rfl (lv_room (Nat.le_of_ble_eq_true rfl)) dX0_ask_1 (fun D2 H locs _ hJ => ?_)
  refine lv_if_eq (tgt := 15) hx hb dX0_ask_4 (by decide) (fun hc3 => ?_) (fun hc3 => ?_)
  · have h := ip h hc3
    refine lv_bipush hx hb dX0_ask_15 kb_m2 ?_
    have h := Option.some.inj h
    subst h
    exact hE _ _ _ _ _ _ _ _ _ _ _ _ (some (.int ((-2 : Int32)))) hJ (fun h => by cases h) (fun h => by cases h) ⟨_, rfl⟩ rfl dX0_ask_17
  · have h := im h hc3
    refine lv_aload_n hx hb dX0_ask_7 rfl (lv_at hl 0 rfl) ?_
    refine lv_iload_n hx hb dX0_ask_8 rfl (lv_at hl 1 rfl) ?_
    obtain ⟨c4, hc4, h⟩ := ob h
    refine cc_V (As := [.int v1]) (rest := []) C hJ (metC_askOf l σ v1 c4 hc4) rfl rfl (show 0 + 0 ≤ 0 from Nat.le_of_ble_eq_true rfl) (cost_in true true true true _ _ (fun _ => Or.inl rfl) (fun _ => Or.inl rfl)) (fun h => by cases h) (fun h => by cases h) (cj_recv C hJ 0 0 (ad_s rfl) (Nat.le_of_ble_eq_true rfl) rfl rfl) (cwV 1 hts (lw_V q1042 q1044 qs39 q109 q1045) rfl rfl rfl hdC_askOf ⟨(Nat.le_of_ble_eq_true rfl), (Nat.le_of_ble_eq_true rfl)⟩) rfl hl.1 rfl (lv_room (Nat.le_of_ble_eq_true rfl)) dX0_ask_9 (fun D5 H locs _ hJ => ?_)
    refine lv_goto (tgt := 17) hx hb dX0_ask_12 (by decide) ?_
    have h := Option.some.inj h
    subst h
    exact hE _ _ _ _ _ _ _ _ _ _ _ _ (some (.int (c4.1))) hJ (fun h => by cases h) (fun h => by cases h) ⟨_, rfl⟩ rfl dX0_ask_17
def C_part (σ : CM) (v0 : Int64) (v2 : Int64) (v4 : Int32) : Option (Int64) :=
  (if v4 = 0 then
      some v0
    else
      some v2 : Option (Int64)).bind fun q2 =>
  (C_divisor σ v0 v2).bind fun c3 =>
  (ldv q2 c3).bind fun x5 =>
  some x5
theorem hdC_part : yX0_part.cls ≠ "java/lang/invoke/MethodHandle" ∧ yX0_part.cls ≠ "java/lang/invoke/VarHandle" ∧ (parseMethodDescriptor yX0_part.desc).map (fun d => d.parameters.length) = some 3 := by decide +kernel
set_option maxHeartbeats 4000000 in
theorem metC_part (l : Launch) (σ : CM) (v0 : Int64) (v2 : Int64) (v4 : Int32) (res : Int64) (h : C_part σ v0 v2 v4 = some res) : MetC l yX0_part (ws_ yX0_part cX0_part 5 (some .long)) 101 0 false false false false false false (fun G => [.long v0, .long v2, .int v4]) σ (fun _ => (some (.long res))) σ := by
  refine met_wC (own := RX0) (by decide +kernel) rfl (by simp [cRt]) (fun _ => Nat.le_of_ble_eq_true rfl) (fun G p e s m args below meth c Q hr1 hr2 C hE ls hl hJ => ?_)
  have hx := C.1.1
  have hb := C.1.2.1
  have hown := C.1.2.2.2.1
  have hts := C.1.2.2.2.2
  have hl : lv_has ls 5 [(0, .long v0), (2, .long v2), (4, .int v4)] := hl
  unfold C_part at h
  refine lv_iload hx hb dX0_part_0 (lv_at hl 2 rfl) ?_
  obtain ⟨q2, hq2, h⟩ := ob h
  have hjq2 : ∀ (H : Heap) (locs : List Loc) (ce sl : Nat) (ls : Array Slot), CJ G s (RM 101 0 false false G) 0 false false G.2.1 G.2.2.1 G.2.2.2 σ H locs ce sl → lv_has ls 5 [(0, .long v0), (2, .long v2)] → W p l e (RM 101 0 false false G) s m args below meth c H locs ce sl Q (F0 m 10 ls [.long q2]) := by
    intro H locs ce sl ls hJ hl
    refine lv_lload_n hx hb dX0_part_10 rfl (lv_at hl 0 rfl) ?_
    refine lv_lload_n hx hb dX0_part_11 rfl (lv_at hl 1 rfl) ?_
    obtain ⟨c3, hc3, h⟩ := ob h
    refine cc_S (As := [.long v0, .long v2]) (rest := [.long q2]) C hJ (metC_divisor l σ v0 v2 c3 hc3) rfl rfl (show 0 + 0 ≤ 0 from Nat.le_of_ble_eq_true rfl) (cost_ok false false false false _ _ (fun h => by cases h) (fun h => by cases h)) (fun h => by cases h) (fun h => by cases h) (va_cwS 2 hts (lw_S q1062 q1063 q109 q1064) rfl rfl rfl hdC_divisor ⟨(Nat.le_of_ble_eq_true rfl), (Nat.le_of_ble_eq_true rfl)⟩) rfl hl.1 rfl (lv_room (Nat.le_of_ble_eq_true rfl)) dX0_part_12 (fun D4 H locs _ hJ => ?_)
    obtain ⟨x5, hx5, h⟩ := ob h
    refine my_ldiv hx hb hx5 dX0_part_15 ?_
    have h := Option.some.inj h
    subst h
    exact hE _ _ _ _ _ _ _ _ _ _ _ _ (some (.long (x5))) hJ (fun h => by cases h) (fun h => by cases h) ⟨_, rfl⟩ rfl dX0_part_16
  refine lv_if_ne (tgt := 9) hx hb dX0_part_2 (by decide) (fun hc1 => ?_) (fun hc1 => ?_)
  · have hq2 := im hq2 hc1
    refine lv_lload_n hx hb dX0_part_9 rfl (lv_at hl 1 rfl) ?_
    have hq2 := Option.some.inj hq2
    subst hq2
    exact hjq2 _ _ _ _ _ hJ (lv_sub hl [0, 1] rfl)
  · have hq2 := ip hq2 hc1
    refine lv_lload_n hx hb dX0_part_5 rfl (lv_at hl 0 rfl) ?_
    refine lv_goto (tgt := 10) hx hb dX0_part_6 (by decide) ?_
    have hq2 := Option.some.inj hq2
    subst hq2
    exact hjq2 _ _ _ _ _ hJ (lv_sub hl [0, 1] rfl)
def C_chanceOf (σ : CM) (v1 : Int32) (v2 : Int32) (v3 : Int32) : Option (Int64 × CM) :=
  (some (cput σ 0 0 8 (0 : Int32))).bind fun σ2 =>
  (lp (S := Int64 × CM) (T := Int64 × CM) (fun w3 =>
    if ((1 : Int32) <<< ((σ 6 (evl (σ 0 0 3)) 2) &&& 31)) ≤ (w3.2 0 0 8) then
        some (.inr (w3.1, w3.2))
      else
        (C_find w3.2).bind fun c9 =>
        (C_isCarried c9 v2).bind fun c12 =>
        (if c12 = 0 then
            some w3.1
          else
            (lp (S := Int64 × Int32) (T := Int64) (fun w15 =>
              if (σ 6 (evl (σ 0 0 3)) 2) ≤ w15.2 then
                  some (.inr w15.1)
                else
                  (C_isIn c9 (c9 0 0 8) w15.2).bind fun c18 =>
                  (if c18 = 0 then
                      some v1.toInt64
                    else
                      some (((16 : Int32) - v1).toInt64) : Option (Int64)).bind fun q20 =>
                  some (.inl ((w15.1 * q20), (w15.2 + 1)))) 2000 ((1 : Int64), (0 : Int32))).bind fun q16 =>
            some (w3.1 + q16) : Option (Int64)).bind fun q21 =>
        (some (cput c9 0 0 8 ((c9 0 0 8) + (1 : Int32)))).bind fun σ22 =>
        some (.inl (q21, σ22))) 2000 ((0 : Int64), σ2)).bind fun q4 =>
  (some (cput q4.2 0 0 8 (0 : Int32))).bind fun σ26 =>
  (C_part σ26 q4.1 ((1 : Int64) <<< (((4 : Int32) * (σ 6 (evl (σ 0 0 3)) 2)).toInt64 &&& 63)) v3).bind fun c27 =>
  some (c27, σ26)
theorem hdC_chanceOf : yX0_chanceOf.cls = RX0 ∧ yX0_chanceOf.cls ≠ "java/lang/invoke/MethodHandle" ∧ yX0_chanceOf.cls ≠ "java/lang/invoke/VarHandle" ∧ (parseMethodDescriptor yX0_chanceOf.desc).map (fun d => d.parameters.length) = some 3 := by decide +kernel
set_option maxHeartbeats 4000000 in
theorem metC_chanceOf (l : Launch) (σ : CM) (v1 : Int32) (v2 : Int32) (v3 : Int32) (res : Int64 × CM) (h : C_chanceOf σ v1 v2 v3 = some res) : MetC l yX0_chanceOf (wsW_ yX0_chanceOf cX0_chanceOf 11 (some .long) [((12 : Nat), (109 : Nat), (117 : Nat), (0 : Nat)), ((117 : Nat), (119 : Nat), (117 : Nat), (0 : Nat))]) 102 0 true true false false false false (fun G => [.ref (gA G 0 0), .int v1, .int v2, .int v3]) σ (fun _ => (some (.long res.1))) res.2 := by
  refine met_wCW (own := RX0) (by decide +kernel) rfl (by simp [cRt]) (fun _ => Nat.le_of_ble_eq_true rfl) (fun G p e s m args below meth c Q hr1 hr2 C hE ls hl hJ => ?_)
  have hx := C.1.1
  have hb := C.1.2.1
  have hown := C.1.2.2.2.1
  have hts := C.1.2.2.2.2
  have hl : lv_has ls 11 [(0, .ref (gA G 0 0)), (1, .int v1), (2, .int v2), (3, .int v3)] := hl
  unfold C_chanceOf at h
  refine lv_aload_n hx hb dX0_chanceOf_0 rfl (lv_at hl 0 rfl) ?_
  refine cj_gr (v := .ref (gA G 6 (evl (σ 0 0 3)))) C hJ 0 0 3 (ad_s rfl) (Nat.le_of_ble_eq_true rfl) (Nat.le_of_ble_eq_true rfl) rfl rfl (fl_X0_102_0 C) (fun _ hL => evq hL) dX0_chanceOf_1 ?_
  refine cj_size C hJ (evl (σ 0 0 3)) (evl_4 _) (evl_3 _) q528 ⟨(Nat.le_of_ble_eq_true rfl), (Nat.le_of_ble_eq_true rfl)⟩ hl.1 (Nat.le_of_ble_eq_true rfl) dX0_chanceOf_4 (fun D1 H locs _ hJ => ?_)
  refine lv_istore (lv' := [(4, .int (σ 6 (evl (σ 0 0 3)) 2)), (0, .ref (gA G 0 0)), (1, .int v1), (2, .int v2), (3, .int v3)]) hx hb dX0_chanceOf_7 hl (Nat.le_of_ble_eq_true rfl) rfl (fun ls hl => ?_)
  refine lv_lconst (v := (0 : Int64)) hx hb dX0_chanceOf_9 rfl ?_
  refine lv_lstore (lv' := [(5, .long (0 : Int64)), (4, .int (σ 6 (evl (σ 0 0 3)) 2)), (0, .ref (gA G 0 0)), (1, .int v1), (2, .int v2), (3, .int v3)]) hx hb dX0_chanceOf_10 hl (Nat.le_of_ble_eq_true rfl) rfl (fun ls hl => ?_)
  refine lv_aload_n hx hb dX0_chanceOf_12 rfl (lv_at hl 2 rfl) ?_
  refine lv_iconst hx hb dX0_chanceOf_13 kc_0 ?_
  obtain ⟨σ2, hσ2, h⟩ := ob h
  refine cj_p0 C hJ 0 0 8 (ad_s rfl) (Nat.le_of_ble_eq_true rfl) (Nat.le_of_ble_eq_true rfl) rfl rfl rfl rfl rfl rfl rfl (fl_X0_251_0 C) hσ2 dX0_chanceOf_14 (fun H locs hJ => ?_)
  obtain ⟨q4, hq4, h⟩ := ob h
  have hxq4 : ∀ (u23 : Bool) (u24 : Bool) (D25 : Nat → Nat → Nat) (H : Heap) (locs : List Loc) (ce sl : Nat) (ls : Array Slot), CJ G s (RM 102 0 true true G) 0 true true u23 u24 D25 q4.2 H locs ce sl → lv_has ls 11 [(0, .ref (gA G 0 0)), (3, .int v3), (4, .int (σ 6 (evl (σ 0 0 3)) 2)), (5, .long q4.1)] → W p l e (RM 102 0 true true G) s m args below meth c H locs ce sl Q (F0 m 109 ls []) := by
    intro u23 u24 D25 H locs ce sl ls hJ hl
    refine lv_aload_n hx hb dX0_chanceOf_109 rfl (lv_at hl 0 rfl) ?_
    refine lv_iconst hx hb dX0_chanceOf_110 kc_0 ?_
    obtain ⟨σ26, hσ26, h⟩ := ob h
    refine cj_p0 C hJ 0 0 8 (ad_s rfl) (Nat.le_of_ble_eq_true rfl) (Nat.le_of_ble_eq_true rfl) rfl rfl rfl rfl rfl rfl rfl (fl_X0_251_0 C) hσ26 dX0_chanceOf_111 (fun H locs hJ => ?_)
    refine lv_goto (tgt := 127) hx hb dX0_chanceOf_114 (by decide) ?_
    refine lv_lload hx hb dX0_chanceOf_127 (lv_at hl 3 rfl) ?_
    refine lv_lconst (v := (1 : Int64)) hx hb dX0_chanceOf_129 rfl ?_
    refine lv_iconst hx hb dX0_chanceOf_130 kc_4 ?_
    refine lv_iload hx hb dX0_chanceOf_131 (lv_at hl 2 rfl) ?_
    refine lv_imul hx hb dX0_chanceOf_133 ?_
    refine lv_lshl (v := ((1 : Int64) <<< (((4 : Int32) * (σ 6 (evl (σ 0 0 3)) 2)).toInt64 &&& 63))) hx hb dX0_chanceOf_134 rfl ?_
    refine lv_iload_n hx hb dX0_chanceOf_135 rfl (lv_at hl 1 rfl) ?_
    obtain ⟨c27, hc27, h⟩ := ob h
    refine cc_S (As := [.long q4.1, .long ((1 : Int64) <<< (((4 : Int32) * (σ 6 (evl (σ 0 0 3)) 2)).toInt64 &&& 63)), .int v3]) (rest := []) C hJ (metC_part l σ26 q4.1 ((1 : Int64) <<< (((4 : Int32) * (σ 6 (evl (σ 0 0 3)) 2)).toInt64 &&& 63)) v3 c27 hc27) rfl rfl (show 0 + 0 ≤ 0 from Nat.le_of_ble_eq_true rfl) (cost_ok false false true true _ _ (fun h => by cases h) (fun h => by cases h)) (fun h => by cases h) (fun h => by cases h) (va_cwS 3 hts (lw_S q1059 q1060 q109 q1061) rfl rfl rfl hdC_part ⟨(Nat.le_of_ble_eq_true rfl), (Nat.le_of_ble_eq_true rfl)⟩) rfl hl.1 rfl (lv_room (Nat.le_of_ble_eq_true rfl)) dX0_chanceOf_136 (fun D28 H locs _ hJ => ?_)
    have h := Option.some.inj h
    subst h
    exact hE _ _ _ _ _ _ _ _ _ _ _ _ (some (.long (c27))) hJ (fun h => by cases h) (fun h => by cases h) ⟨_, rfl⟩ rfl dX0_chanceOf_139
  refine lp_ind (P := fun (w3 : Int64 × CM) => ∀ (u5 : Bool) (u6 : Bool) (D7 : Nat → Nat → Nat) (H : Heap) (locs : List Loc) (ce sl : Nat) (ls : Array Slot), CJ G s (RM 102 0 true true G) 0 true true u5 u6 D7 w3.2 H locs ce sl → lv_has ls 11 [(0, .ref (gA G 0 0)), (1, .int v1), (2, .int v2), (3, .int v3), (4, .int (σ 6 (evl (σ 0 0 3)) 2)), (5, .long w3.1)] → W p l e (RM 102 0 true true G) s m args below meth c H locs ce sl Q (F0 m 17 ls [])) ?_ _ _ hq4 _ _ _ _ _ _ _ _ hJ (lv_sub hl [2, 3, 4, 5, 1, 0] rfl)
  intro nw3 w3 ihw3 zw3 hzw3 hqw3 u5 u6 D7 H locs ce sl ls hJ hl
  refine lv_aload_n hx hb dX0_chanceOf_17 rfl (lv_at hl 0 rfl) ?_
  refine cj_g0 C hJ 0 0 8 (ad_s rfl) (Nat.le_of_ble_eq_true rfl) (Nat.le_of_ble_eq_true rfl) rfl rfl rfl rfl (fl_X0_251_0 C) dX0_chanceOf_18 ?_
  refine lv_iconst hx hb dX0_chanceOf_21 kc_1 ?_
  refine lv_iload hx hb dX0_chanceOf_22 (lv_at hl 4 rfl) ?_
  refine lv_ishl hx hb dX0_chanceOf_24 ?_
  refine lv_icmp_ge (tgt := 109) hx hb dX0_chanceOf_25 (by decide) (fun hc8 => ?_) (fun hc8 => ?_)
  · have hzw3 := ip hzw3 hc8
    have hzw3 := Option.some.inj hzw3
    subst hzw3
    have hqw3 : _ = q4 := hqw3
    subst hqw3
    exact hxq4 _ _ _ _ _ _ _ _ hJ (lv_sub hl [0, 3, 4, 5] rfl)
  · have hzw3 := im hzw3 hc8
    refine lv_aload_n hx hb dX0_chanceOf_28 rfl (lv_at hl 0 rfl) ?_
    obtain ⟨c9, hc9, hzw3⟩ := ob hzw3
    refine cc_V (As := []) (rest := []) C hJ (metC_find l w3.2 c9 hc9) rfl rfl (show 0 + 0 ≤ 0 from Nat.le_of_ble_eq_true rfl) (cost_ok true true true true _ _ (fun _ => Or.inl rfl) (fun _ => Or.inl rfl)) (fun h => by cases h) (fun h => by cases h) (cj_recv C hJ 0 0 (ad_s rfl) (Nat.le_of_ble_eq_true rfl) rfl rfl) (cwV 0 hts (lw_V q809 q811 qs10 q109 q812) rfl rfl rfl hdC_find ⟨(Nat.le_of_ble_eq_true rfl), (Nat.le_of_ble_eq_true rfl)⟩) rfl hl.1 rfl (lv_room (Nat.le_of_ble_eq_true rfl)) dX0_chanceOf_29 (fun D10 H locs _ hJ => ?_)
    refine lv_aload_n hx hb dX0_chanceOf_32 rfl (lv_at hl 0 rfl) ?_
    refine lv_iload_n hx hb dX0_chanceOf_33 rfl (lv_at hl 2 rfl) ?_
    obtain ⟨c12, hc12, hzw3⟩ := ob hzw3
    refine cc_Vt (As := [.int v2]) (rest := []) C hJ (metC_isCarried l c9 v2 c12 hc12) rfl rfl (show 0 + 0 ≤ 0 from Nat.le_of_ble_eq_true rfl) (cost_ok false false true true _ _ (fun h => by cases h) (fun h => by cases h)) (fun _ => rfl) (fun _ => rfl) (cj_recv C hJ 0 0 (ad_s rfl) (Nat.le_of_ble_eq_true rfl) rfl rfl) (cwV 1 hts (lw_V q918 q920 qs24 q109 q921) rfl rfl rfl hdC_isCarried ⟨(Nat.le_of_ble_eq_true rfl), (Nat.le_of_ble_eq_true rfl)⟩) rfl hl.1 rfl (lv_room (Nat.le_of_ble_eq_true rfl)) dX0_chanceOf_34 (fun H locs hJ => ?_)
    obtain ⟨q21, hq21, hzw3⟩ := ob hzw3
    have hjq21 : ∀ (H : Heap) (locs : List Loc) (ce sl : Nat) (ls : Array Slot), CJ G s (RM 102 0 true true G) 0 true true true true D10 c9 H locs ce sl → lv_has ls 11 [(0, .ref (gA G 0 0)), (1, .int v1), (2, .int v2), (3, .int v3), (4, .int (σ 6 (evl (σ 0 0 3)) 2)), (5, .long q21)] → W p l e (RM 102 0 true true G) s m args below meth c H locs ce sl Q (F0 m 96 ls []) := by
      intro H locs ce sl ls hJ hl
      refine lv_aload_n hx hb dX0_chanceOf_96 rfl (lv_at hl 0 rfl) ?_
      refine lv_dup hx hb dX0_chanceOf_97 rfl ?_
      refine cj_g0 C hJ 0 0 8 (ad_s rfl) (Nat.le_of_ble_eq_true rfl) (Nat.le_of_ble_eq_true rfl) rfl rfl rfl rfl (fl_X0_251_0 C) dX0_chanceOf_98 ?_
      refine lv_iconst hx hb dX0_chanceOf_101 kc_1 ?_
      refine lv_iadd hx hb dX0_chanceOf_102 ?_
      obtain ⟨σ22, hσ22, hzw3⟩ := ob hzw3
      refine cj_p0 C hJ 0 0 8 (ad_s rfl) (Nat.le_of_ble_eq_true rfl) (Nat.le_of_ble_eq_true rfl) rfl rfl rfl rfl rfl rfl rfl (fl_X0_251_0 C) hσ22 dX0_chanceOf_103 (fun H locs hJ => ?_)
      refine lv_goto (tgt := 17) hx hb dX0_chanceOf_106 (by decide) ?_
      have hzw3 := Option.some.inj hzw3
      subst hzw3
      exact ihw3 _ hqw3 _ _ _ _ _ _ _ _ hJ (lv_sub hl [0, 1, 2, 3, 4, 5] rfl)
    refine lv_if_ne (tgt := 43) hx hb dX0_chanceOf_37 (by decide) (fun hc14 => ?_) (fun hc14 => ?_)
    · have hq21 := im hq21 hc14
      refine lv_lconst (v := (1 : Int64)) hx hb dX0_chanceOf_43 rfl ?_
      refine lv_lstore (lv' := [(7, .long (1 : Int64)), (0, .ref (gA G 0 0)), (1, .int v1), (2, .int v2), (3, .int v3), (4, .int (σ 6 (evl (σ 0 0 3)) 2)), (5, .long w3.1)]) hx hb dX0_chanceOf_44 hl (Nat.le_of_ble_eq_true rfl) rfl (fun ls hl => ?_)
      refine lv_iconst hx hb dX0_chanceOf_46 kc_0 ?_
      refine lv_istore (lv' := [(9, .int (0 : Int32)), (7, .long (1 : Int64)), (0, .ref (gA G 0 0)), (1, .int v1), (2, .int v2), (3, .int v3), (4, .int (σ 6 (evl (σ 0 0 3)) 2)), (5, .long w3.1)]) hx hb dX0_chanceOf_47 hl (Nat.le_of_ble_eq_true rfl) rfl (fun ls hl => ?_)
      obtain ⟨q16, hq16, hq21⟩ := ob hq21
      have hxq16 : ∀ (H : Heap) (locs : List Loc) (ce sl : Nat) (ls : Array Slot), CJ G s (RM 102 0 true true G) 0 true true true true D10 c9 H locs ce sl → lv_has ls 11 [(0, .ref (gA G 0 0)), (1, .int v1), (2, .int v2), (3, .int v3), (4, .int (σ 6 (evl (σ 0 0 3)) 2)), (5, .long w3.1), (7, .long q16)] → W p l e (RM 102 0 true true G) s m args below meth c H locs ce sl Q (F0 m 89 ls []) := by
        intro H locs ce sl ls hJ hl
        refine lv_lload hx hb dX0_chanceOf_89 (lv_at hl 5 rfl) ?_
        refine lv_lload hx hb dX0_chanceOf_91 (lv_at hl 6 rfl) ?_
        refine lv_ladd hx hb dX0_chanceOf_93 ?_
        refine lv_lstore (lv' := [(5, .long (w3.1 + q16)), (0, .ref (gA G 0 0)), (1, .int v1), (2, .int v2), (3, .int v3), (4, .int (σ 6 (evl (σ 0 0 3)) 2)), (7, .long q16)]) hx hb dX0_chanceOf_94 hl (Nat.le_of_ble_eq_true rfl) rfl (fun ls hl => ?_)
        have hq21 := Option.some.inj hq21
        subst hq21
        exact hjq21 _ _ _ _ _ hJ (lv_sub hl [1, 2, 3, 4, 5, 0] rfl)
      refine lp_ind (P := fun (w15 : Int64 × Int32) => ∀ (H : Heap) (locs : List Loc) (ce sl : Nat) (ls : Array Slot), CJ G s (RM 102 0 true true G) 0 true true true true D10 c9 H locs ce sl → lv_has ls 11 [(0, .ref (gA G 0 0)), (1, .int v1), (2, .int v2), (3, .int v3), (4, .int (σ 6 (evl (σ 0 0 3)) 2)), (5, .long w3.1), (7, .long w15.1), (9, .int w15.2)] → W p l e (RM 102 0 true true G) s m args below meth c H locs ce sl Q (F0 m 49 ls [])) ?_ _ _ hq16 _ _ _ _ _ hJ (lv_sub hl [2, 3, 4, 5, 6, 7, 1, 0] rfl)
      intro nw15 w15 ihw15 zw15 hzw15 hqw15 H locs ce sl ls hJ hl
      refine lv_iload hx hb dX0_chanceOf_49 (lv_at hl 7 rfl) ?_
      refine lv_iload hx hb dX0_chanceOf_51 (lv_at hl 4 rfl) ?_
      refine lv_icmp_ge (tgt := 89) hx hb dX0_chanceOf_53 (by decide) (fun hc17 => ?_) (fun hc17 => ?_)
      · have hzw15 := ip hzw15 hc17
        have hzw15 := Option.some.inj hzw15
        subst hzw15
        have hqw15 : _ = q16 := hqw15
        subst hqw15
        exact hxq16 _ _ _ _ _ hJ (lv_sub hl [0, 1, 2, 3, 4, 5, 6] rfl)
      · have hzw15 := im hzw15 hc17
        refine lv_lload hx hb dX0_chanceOf_56 (lv_at hl 6 rfl) ?_
        refine lv_aload_n hx hb dX0_chanceOf_58 rfl (lv_at hl 0 rfl) ?_
        refine cj_g0 C hJ 0 0 8 (ad_s rfl) (Nat.le_of_ble_eq_true rfl) (Nat.le_of_ble_eq_true rfl) rfl rfl rfl rfl (fl_X0_251_0 C) dX0_chanceOf_59 ?_
        refine lv_iload hx hb dX0_chanceOf_62 (lv_at hl 7 rfl) ?_
        obtain ⟨c18, hc18, hzw15⟩ := ob hzw15
        refine cc_St (As := [.int (c9 0 0 8), .int w15.2]) (rest := [.long w15.1]) C hJ (metC_isIn l c9 (c9 0 0 8) w15.2 c18 hc18) rfl rfl (show 0 + 0 ≤ 0 from Nat.le_of_ble_eq_true rfl) (cost_ok false false true true _ _ (fun h => by cases h) (fun h => by cases h)) (fun h => by cases h) (fun h => by cases h) (va_cwS 2 hts (lw_S q823 q824 q109 q825) rfl rfl rfl hdC_isIn ⟨(Nat.le_of_ble_eq_true rfl), (Nat.le_of_ble_eq_true rfl)⟩) rfl hl.1 rfl (lv_room (Nat.le_of_ble_eq_true rfl)) dX0_chanceOf_64 (fun H locs hJ => ?_)
        obtain ⟨q20, hq20, hzw15⟩ := ob hzw15
        have hjq20 : ∀ (H : Heap) (locs : List Loc) (ce sl : Nat) (ls : Array Slot), CJ G s (RM 102 0 true true G) 0 true true true true D10 c9 H locs ce sl → lv_has ls 11 [(0, .ref (gA G 0 0)), (1, .int v1), (2, .int v2), (3, .int v3), (4, .int (σ 6 (evl (σ 0 0 3)) 2)), (5, .long w3.1), (9, .int w15.2)] → W p l e (RM 102 0 true true G) s m args below meth c H locs ce sl Q (F0 m 80 ls [.long q20, .long w15.1]) := by
          intro H locs ce sl ls hJ hl
          refine lv_lmul hx hb dX0_chanceOf_80 ?_
          refine lv_lstore (lv' := [(7, .long (w15.1 * q20)), (0, .ref (gA G 0 0)), (1, .int v1), (2, .int v2), (3, .int v3), (4, .int (σ 6 (evl (σ 0 0 3)) 2)), (5, .long w3.1), (9, .int w15.2)]) hx hb dX0_chanceOf_81 hl (Nat.le_of_ble_eq_true rfl) rfl (fun ls hl => ?_)
          refine lv_iinc (v := (w15.2 + 1)) (lv' := [(9, .int (w15.2 + 1)), (7, .long (w15.1 * q20)), (0, .ref (gA G 0 0)), (1, .int v1), (2, .int v2), (3, .int v3), (4, .int (σ 6 (evl (σ 0 0 3)) 2)), (5, .long w3.1)]) hx hb dX0_chanceOf_83 hl (k := 7) rfl rfl (Nat.le_of_ble_eq_true rfl) rfl (fun ls hl => ?_)
          refine lv_goto (tgt := 49) hx hb dX0_chanceOf_86 (by decide) ?_
          have hzw15 := Option.some.inj hzw15
          subst hzw15
          exact ihw15 _ hqw15 _ _ _ _ _ hJ (lv_sub hl [2, 3, 4, 5, 6, 7, 1, 0] rfl)
        refine lv_if_eq (tgt := 78) hx hb dX0_chanceOf_67 (by decide) (fun hc19 => ?_) (fun hc19 => ?_)
        · have hq20 := ip hq20 hc19
          refine lv_iload_n hx hb dX0_chanceOf_78 rfl (lv_at hl 1 rfl) ?_
          refine lv_i2l (v := v1.toInt64) hx hb dX0_chanceOf_79 rfl ?_
          have hq20 := Option.some.inj hq20
          subst hq20
          exact hjq20 _ _ _ _ _ hJ (lv_sub hl [0, 1, 2, 3, 4, 5, 7] rfl)
        · have hq20 := im hq20 hc19
          refine lv_bipush hx hb dX0_chanceOf_70 kb_16 ?_
          refine lv_iload_n hx hb dX0_chanceOf_72 rfl (lv_at hl 1 rfl) ?_
          refine lv_isub hx hb dX0_chanceOf_73 ?_
          refine lv_i2l (v := ((16 : Int32) - v1).toInt64) hx hb dX0_chanceOf_74 rfl ?_
          refine lv_goto (tgt := 80) hx hb dX0_chanceOf_75 (by decide) ?_
          have hq20 := Option.some.inj hq20
          subst hq20
          exact hjq20 _ _ _ _ _ hJ (lv_sub hl [0, 1, 2, 3, 4, 5, 7] rfl)
    · have hq21 := ip hq21 hc14
      refine lv_goto (tgt := 96) hx hb dX0_chanceOf_40 (by decide) ?_
      have hq21 := Option.some.inj hq21
      subst hq21
      exact hjq21 _ _ _ _ _ hJ (lv_sub hl [0, 1, 2, 3, 4, 5] rfl)
def C_chance (σ : CM) (v1 : Int32) (v2 : Int32) (v3 : Int32) : Option (Int64 × CM) :=
  (C_in σ v1.toInt64 (0 : Int64) (16 : Int64)).bind fun c1 =>
  if c1 = 0 then
    (C_no σ (-2 : Int32)).bind fun c4 =>
    some (c4, σ)
  else
    (C_isHour σ v2).bind fun c6 =>
    if c6 = 0 then
      (C_no σ (-2 : Int32)).bind fun c9 =>
      some (c9, σ)
    else
      (C_isTwo σ v3).bind fun c11 =>
      if c11 = 0 then
        (C_no σ (-2 : Int32)).bind fun c14 =>
        some (c14, σ)
      else
        (C_chanceOf σ v1 v2 v3).bind fun c16 =>
        some (c16.1, c16.2)
theorem hdC_chance : yX0_chance.cls = RX0 ∧ yX0_chance.cls ≠ "java/lang/invoke/MethodHandle" ∧ yX0_chance.cls ≠ "java/lang/invoke/VarHandle" ∧ (parseMethodDescriptor yX0_chance.desc).map (fun d => d.parameters.length) = some 3 := by decide +kernel
set_option maxHeartbeats 4000000 in
theorem metC_chance (l : Launch) (σ : CM) (v1 : Int32) (v2 : Int32) (v3 : Int32) (res : Int64 × CM) (h : C_chance σ v1 v2 v3 = some res) : MetC l yX0_chance (ws_ yX0_chance cX0_chance 4 (some .long)) 103 0 true true false false false false (fun G => [.ref (gA G 0 0), .int v1, .int v2, .int v3]) σ (fun _ => (some (.long res.1))) res.2 := by
  refine met_wC (own := RX0) (by decide +kernel) rfl (by simp [cRt]) (fun _ => Nat.le_of_ble_eq_true rfl) (fun G p e s m args below meth c Q hr1 hr2 C hE ls hl hJ => ?_)
  have hx := C.1.1
  have hb := C.1.2.1
  have hown := C.1.2.2.2.1
  have hts := C.1.2.2.2.2
  have hl : lv_has ls 4 [(0, .ref (gA G 0 0)), (1, .int v1), (2, .int v2), (3, .int v3)] := hl
  unfold C_chance at h
  refine lv_iload_n hx hb dX0_chance_0 rfl (lv_at hl 1 rfl) ?_
  refine lv_i2l (v := v1.toInt64) hx hb dX0_chance_1 rfl ?_
  refine lv_lconst (v := (0 : Int64)) hx hb dX0_chance_2 rfl ?_
  refine lv_ldc2 (v := (16 : Int64)) hx hb hown (hts _ q1054) dX0_chance_3 ?_
  obtain ⟨c1, hc1, h⟩ := ob h
  refine cc_S (As := [.long v1.toInt64, .long (0 : Int64), .long (16 : Int64)]) (rest := []) C hJ (metC_in l σ v1.toInt64 (0 : Int64) (16 : Int64) c1 hc1) rfl rfl (show 0 + 0 ≤ 0 from Nat.le_of_ble_eq_true rfl) (cost_ok false false true true _ _ (fun h => by cases h) (fun h => by cases h)) (fun h => by cases h) (fun h => by cases h) (va_cwS 3 hts (lw_S q145 q146 q109 q147) rfl rfl rfl hdC_in ⟨(Nat.le_of_ble_eq_true rfl), (Nat.le_of_ble_eq_true rfl)⟩) rfl hl.1 rfl (lv_room (Nat.le_of_ble_eq_true rfl)) dX0_chance_6 (fun D2 H locs _ hJ => ?_)
  refine lv_if_eq (tgt := 36) hx hb dX0_chance_9 (by decide) (fun hc3 => ?_) (fun hc3 => ?_)
  · have h := ip h hc3
    refine lv_bipush hx hb dX0_chance_36 kb_m2 ?_
    obtain ⟨c4, hc4, h⟩ := ob h
    refine cc_S (As := [.int (-2 : Int32)]) (rest := []) C hJ (metC_no l σ (-2 : Int32) c4 hc4) rfl rfl (show 0 + 0 ≤ 0 from Nat.le_of_ble_eq_true rfl) (cost_ok false false true true _ _ (fun h => by cases h) (fun h => by cases h)) (fun h => by cases h) (fun h => by cases h) (va_cwS 1 hts (lw_S q1065 q1066 q109 q1067) rfl rfl rfl hdC_no ⟨(Nat.le_of_ble_eq_true rfl), (Nat.le_of_ble_eq_true rfl)⟩) rfl hl.1 rfl (lv_room (Nat.le_of_ble_eq_true rfl)) dX0_chance_38 (fun D5 H locs _ hJ => ?_)
    have h := Option.some.inj h
    subst h
    exact hE _ _ _ _ _ _ _ _ _ _ _ _ (some (.long (c4))) hJ (fun h => by cases h) (fun h => by cases h) ⟨_, rfl⟩ rfl dX0_chance_41
  · have h := im h hc3
    refine lv_iload_n hx hb dX0_chance_12 rfl (lv_at hl 2 rfl) ?_
    obtain ⟨c6, hc6, h⟩ := ob h
    refine cc_S (As := [.int v2]) (rest := []) C hJ (metC_isHour l σ v2 c6 hc6) rfl rfl (show 0 + 0 ≤ 0 from Nat.le_of_ble_eq_true rfl) (cost_ok false false true true _ _ (fun h => by cases h) (fun h => by cases h)) (fun h => by cases h) (fun h => by cases h) (va_cwS 1 hts (lw_S q569 q570 q109 q571) rfl rfl rfl hdC_isHour ⟨(Nat.le_of_ble_eq_true rfl), (Nat.le_of_ble_eq_true rfl)⟩) rfl hl.1 rfl (lv_room (Nat.le_of_ble_eq_true rfl)) dX0_chance_13 (fun D7 H locs _ hJ => ?_)
    refine lv_if_eq (tgt := 36) hx hb dX0_chance_16 (by decide) (fun hc8 => ?_) (fun hc8 => ?_)
    · have h := ip h hc8
      refine lv_bipush hx hb dX0_chance_36 kb_m2 ?_
      obtain ⟨c9, hc9, h⟩ := ob h
      refine cc_S (As := [.int (-2 : Int32)]) (rest := []) C hJ (metC_no l σ (-2 : Int32) c9 hc9) rfl rfl (show 0 + 0 ≤ 0 from Nat.le_of_ble_eq_true rfl) (cost_ok false false true true _ _ (fun h => by cases h) (fun h => by cases h)) (fun h => by cases h) (fun h => by cases h) (va_cwS 1 hts (lw_S q1065 q1066 q109 q1067) rfl rfl rfl hdC_no ⟨(Nat.le_of_ble_eq_true rfl), (Nat.le_of_ble_eq_true rfl)⟩) rfl hl.1 rfl (lv_room (Nat.le_of_ble_eq_true rfl)) dX0_chance_38 (fun D10 H locs _ hJ => ?_)
      have h := Option.some.inj h
      subst h
      exact hE _ _ _ _ _ _ _ _ _ _ _ _ (some (.long (c9))) hJ (fun h => by cases h) (fun h => by cases h) ⟨_, rfl⟩ rfl dX0_chance_41
    · have h := im h hc8
      refine lv_iload_n hx hb dX0_chance_19 rfl (lv_at hl 3 rfl) ?_
      obtain ⟨c11, hc11, h⟩ := ob h
      refine cc_S (As := [.int v3]) (rest := []) C hJ (metC_isTwo l σ v3 c11 hc11) rfl rfl (show 0 + 0 ≤ 0 from Nat.le_of_ble_eq_true rfl) (cost_ok false false true true _ _ (fun h => by cases h) (fun h => by cases h)) (fun h => by cases h) (fun h => by cases h) (va_cwS 1 hts (lw_S q142 q143 q109 q144) rfl rfl rfl hdC_isTwo ⟨(Nat.le_of_ble_eq_true rfl), (Nat.le_of_ble_eq_true rfl)⟩) rfl hl.1 rfl (lv_room (Nat.le_of_ble_eq_true rfl)) dX0_chance_20 (fun D12 H locs _ hJ => ?_)
      refine lv_if_eq (tgt := 36) hx hb dX0_chance_23 (by decide) (fun hc13 => ?_) (fun hc13 => ?_)
      · have h := ip h hc13
        refine lv_bipush hx hb dX0_chance_36 kb_m2 ?_
        obtain ⟨c14, hc14, h⟩ := ob h
        refine cc_S (As := [.int (-2 : Int32)]) (rest := []) C hJ (metC_no l σ (-2 : Int32) c14 hc14) rfl rfl (show 0 + 0 ≤ 0 from Nat.le_of_ble_eq_true rfl) (cost_ok false false true true _ _ (fun h => by cases h) (fun h => by cases h)) (fun h => by cases h) (fun h => by cases h) (va_cwS 1 hts (lw_S q1065 q1066 q109 q1067) rfl rfl rfl hdC_no ⟨(Nat.le_of_ble_eq_true rfl), (Nat.le_of_ble_eq_true rfl)⟩) rfl hl.1 rfl (lv_room (Nat.le_of_ble_eq_true rfl)) dX0_chance_38 (fun D15 H locs _ hJ => ?_)
        have h := Option.some.inj h
        subst h
        exact hE _ _ _ _ _ _ _ _ _ _ _ _ (some (.long (c14))) hJ (fun h => by cases h) (fun h => by cases h) ⟨_, rfl⟩ rfl dX0_chance_41
      · have h := im h hc13
        refine lv_aload_n hx hb dX0_chance_26 rfl (lv_at hl 0 rfl) ?_
        refine lv_iload_n hx hb dX0_chance_27 rfl (lv_at hl 1 rfl) ?_
        refine lv_iload_n hx hb dX0_chance_28 rfl (lv_at hl 2 rfl) ?_
        refine lv_iload_n hx hb dX0_chance_29 rfl (lv_at hl 3 rfl) ?_
        obtain ⟨c16, hc16, h⟩ := ob h
        refine cc_VW (As := [.int v1, .int v2, .int v3]) (rest := []) C hJ (metC_chanceOf l σ v1 v2 v3 c16 hc16) rfl rfl (show 0 + 0 ≤ 0 from Nat.le_of_ble_eq_true rfl) (cost_in true true true true _ _ (fun _ => Or.inl rfl) (fun _ => Or.inl rfl)) (fun h => by cases h) (fun h => by cases h) (cj_recv C hJ 0 0 (ad_s rfl) (Nat.le_of_ble_eq_true rfl) rfl rfl) (lw_VW q1055 q1057 qs41 q109 q1058) rfl hdC_chanceOf ⟨(Nat.le_of_ble_eq_true rfl), (Nat.le_of_ble_eq_true rfl)⟩ rfl hl.1 rfl (lv_room (Nat.le_of_ble_eq_true rfl)) dX0_chance_30 (fun D17 H locs _ hJ => ?_)
        refine lv_goto (tgt := 41) hx hb dX0_chance_33 (by decide) ?_
        have h := Option.some.inj h
        subst h
        exact hE _ _ _ _ _ _ _ _ _ _ _ _ (some (.long (c16.1))) hJ (fun h => by cases h) (fun h => by cases h) ⟨_, rfl⟩ rfl dX0_chance_41
def C_fault (σ : CM) (v1 : Int32) : Option (Int32) :=
  (C_isTwo σ v1).bind fun c1 =>
  if c1 = 0 then
    some (-2 : Int32)
  else
    (rdT σ v1).bind fun x5 =>
    some x5
theorem hdC_fault : yX0_fault.cls = RX0 ∧ yX0_fault.cls ≠ "java/lang/invoke/MethodHandle" ∧ yX0_fault.cls ≠ "java/lang/invoke/VarHandle" ∧ (parseMethodDescriptor yX0_fault.desc).map (fun d => d.parameters.length) = some 1 := by decide +kernel
set_option maxHeartbeats 4000000 in
theorem metC_fault (l : Launch) (σ : CM) (v1 : Int32) (res : Int32) (h : C_fault σ v1 = some res) : MetC l yX0_fault (ws_ yX0_fault cX0_fault 2 (some .int)) 16 0 true true false false false false (fun G => [.ref (gA G 0 0), .int v1]) σ (fun _ => (some (.int res))) σ := by
  refine met_wC (own := RX0) (by decide +kernel) rfl (by simp [cRt]) (fun _ => Nat.le_of_ble_eq_true rfl) (fun G p e s m args below meth c Q hr1 hr2 C hE ls hl hJ => ?_)
  have hx := C.1.1
  have hb := C.1.2.1
  have hown := C.1.2.2.2.1
  have hts := C.1.2.2.2.2
  have hl : lv_has ls 2 [(0, .ref (gA G 0 0)), (1, .int v1)] := hl
  unfold C_fault at h
  refine lv_iload_n hx hb dX0_fault_0 rfl (lv_at hl 1 rfl) ?_
  obtain ⟨c1, hc1, h⟩ := ob h
  refine cc_S (As := [.int v1]) (rest := []) C hJ (metC_isTwo l σ v1 c1 hc1) rfl rfl (show 0 + 0 ≤ 0 from Nat.le_of_ble_eq_true rfl) (cost_ok false false true true _ _ (fun h => by cases h) (fun h => by cases h)) (fun h => by cases h) (fun h => by cases h) (va_cwS 1 hts (lw_S q142 q143 q109 q144) rfl rfl rfl hdC_isTwo ⟨(Nat.le_of_ble_eq_true rfl), (Nat.le_of_ble_eq_true rfl)⟩) rfl hl.1 rfl (lv_room (Nat.le_of_ble_eq_true rfl)) dX0_fault_1 (fun D2 H locs _ hJ => ?_)
  refine lv_if_eq (tgt := 18) hx hb dX0_fault_4 (by decide) (fun hc3 => ?_) (fun hc3 => ?_)
  · have h := ip h hc3
    refine lv_bipush hx hb dX0_fault_18 kb_m2 ?_
    have h := Option.some.inj h
    subst h
    exact hE _ _ _ _ _ _ _ _ _ _ _ _ (some (.int ((-2 : Int32)))) hJ (fun h => by cases h) (fun h => by cases h) ⟨_, rfl⟩ rfl dX0_fault_20
  · have h := im h hc3
    refine lv_aload_n hx hb dX0_fault_7 rfl (lv_at hl 0 rfl) ?_
    refine lv_iload_n hx hb dX0_fault_8 rfl (lv_at hl 1 rfl) ?_
    refine cj_text C hJ q149 ⟨(Nat.le_of_ble_eq_true rfl), (Nat.le_of_ble_eq_true rfl)⟩ hl.1 (Nat.le_of_ble_eq_true rfl) dX0_fault_9 (fun D4 H locs _ hJ => ?_)
    obtain ⟨x5, hx5, h⟩ := ob h
    refine cj_tread C hJ (Or.inl rfl) (Or.inl rfl) q184 ⟨(Nat.le_of_ble_eq_true rfl), (Nat.le_of_ble_eq_true rfl)⟩ hl.1 (Nat.le_of_ble_eq_true rfl) hx5 dX0_fault_12 (fun D6 H locs ce sl hJ => ?_)
    refine lv_goto (tgt := 20) hx hb dX0_fault_15 (by decide) ?_
    have h := Option.some.inj h
    subst h
    exact hE _ _ _ _ _ _ _ _ _ _ _ _ (some (.int (x5))) hJ (fun h => by cases h) (fun h => by cases h) ⟨_, rfl⟩ rfl dX0_fault_20
def C_count (σ : CM) (v1 : Int32) : Option (Int32 × CM) :=
  (C_find σ).bind fun c1 =>
  if v1 = 0 then
    (C_members c1).bind fun c4 =>
    some (c4, c1)
  else
  if v1 = 1 then
    some ((c1 6 (evl (c1 0 0 3)) 2), c1)
  else
  if v1 = 2 then
    some ((txL c1 (v1 - (2 : Int32))), c1)
  else
  if v1 = 3 then
    some ((txL c1 (v1 - (2 : Int32))), c1)
  else
  if v1 = 4 then
    (C_allSpeeches c1).bind fun c6 =>
    some (c6, c1)
  else
  if v1 = 5 then
    (C_allAyes c1).bind fun c8 =>
    some (c8, c1)
  else
  if v1 = 6 then
    some ((c1 1 0 6), c1)
  else
  if v1 = 7 then
    some ((c1 6 2 2), c1)
  else
  if v1 = 8 then
    some ((c1 0 0 0), c1)
  else
  some ((-2 : Int32), c1)
theorem hdC_count : yX0_count.cls = RX0 ∧ yX0_count.cls ≠ "java/lang/invoke/MethodHandle" ∧ yX0_count.cls ≠ "java/lang/invoke/VarHandle" ∧ (parseMethodDescriptor yX0_count.desc).map (fun d => d.parameters.length) = some 1 := by decide +kernel
set_option maxHeartbeats 4000000 in
theorem metC_count (l : Launch) (σ : CM) (v1 : Int32) (res : Int32 × CM) (h : C_count σ v1 = some res) : MetC l yX0_count (ws_ yX0_count cX0_count 2 (some .int)) 21 0 true true true true false false (fun G => [.ref (gA G 0 0), .int v1]) σ (fun _ => (some (.int res.1))) res.2 := by
  refine met_wC (own := RX0) (by decide +kernel) rfl (by simp [cRt]) (fun _ => Nat.le_of_ble_eq_true rfl) (fun G p e s m args below meth c Q hr1 hr2 C hE ls hl hJ => ?_)
  have hx := C.1.1
  have hb := C.1.2.1
  have hown := C.1.2.2.2.1
  have hts := C.1.2.2.2.2
  have hl : lv_has ls 2 [(0, .ref (gA G 0 0)), (1, .int v1)] := hl
  unfold C_count at h
  refine lv_aload_n hx hb dX0_count_0 rfl (lv_at hl 0 rfl) ?_
  obtain ⟨c1, hc1, h⟩ := ob h
  refine cc_V (As := []) (rest := []) C hJ (metC_find l σ c1 hc1) rfl rfl (show 0 + 0 ≤ 0 from Nat.le_of_ble_eq_true rfl) (cost_ok true true true true _ _ (fun _ => Or.inl rfl) (fun _ => Or.inl rfl)) (fun h => by cases h) (fun h => by cases h) (cj_recv C hJ 0 0 (ad_s rfl) (Nat.le_of_ble_eq_true rfl) rfl rfl) (cwV 0 hts (lw_V q809 q811 qs10 q109 q812) rfl rfl rfl hdC_find ⟨(Nat.le_of_ble_eq_true rfl), (Nat.le_of_ble_eq_true rfl)⟩) rfl hl.1 rfl (lv_room (Nat.le_of_ble_eq_true rfl)) dX0_count_1 (fun D2 H locs _ hJ => ?_)
  refine lv_iload_n hx hb dX0_count_4 rfl (lv_at hl 1 rfl) ?_
  by_cases hc10_0 : v1 = 0
  · have h := ip h hc10_0
    refine lv_tableIn (tgt := 56) (off := 51) hx hb dX0_count_5 (by rw [hc10_0]; decide) (by rw [hc10_0]; decide) (by rw [hc10_0]; rfl) (by decide) ?_
    refine lv_aload_n hx hb dX0_count_56 rfl (lv_at hl 0 rfl) ?_
    obtain ⟨c4, hc4, h⟩ := ob h
    refine cc_Vt (As := []) (rest := []) C hJ (metC_members l c1 c4 hc4) rfl rfl (show 0 + 0 ≤ 0 from Nat.le_of_ble_eq_true rfl) (cost_ok false true true true _ _ (fun h => by cases h) (fun _ => Or.inr rfl)) (fun h => by cases h) (fun h => by cases h) (cj_recv C hJ 0 0 (ad_s rfl) (Nat.le_of_ble_eq_true rfl) rfl rfl) (cwV 0 hts (lw_V q521 q523 qs7 q109 q524) rfl rfl rfl hdC_members ⟨(Nat.le_of_ble_eq_true rfl), (Nat.le_of_ble_eq_true rfl)⟩) rfl hl.1 rfl (lv_room (Nat.le_of_ble_eq_true rfl)) dX0_count_57 (fun H locs hJ => ?_)
    have h := Option.some.inj h
    subst h
    exact hE _ _ _ _ _ _ _ _ _ _ _ _ (some (.int (c4))) hJ (fun _ => rfl) (fun _ => rfl) ⟨_, rfl⟩ rfl dX0_count_60
  have h := im h hc10_0
  by_cases hc10_1 : v1 = 1
  · have h := ip h hc10_1
    refine lv_tableIn (tgt := 61) (off := 56) hx hb dX0_count_5 (by rw [hc10_1]; decide) (by rw [hc10_1]; decide) (by rw [hc10_1]; rfl) (by decide) ?_
    refine lv_aload_n hx hb dX0_count_61 rfl (lv_at hl 0 rfl) ?_
    refine cj_gr (v := .ref (gA G 6 (evl (c1 0 0 3)))) C hJ 0 0 3 (ad_s rfl) (Nat.le_of_ble_eq_true rfl) (Nat.le_of_ble_eq_true rfl) rfl rfl (fl_X0_102_0 C) (fun _ hL => evq hL) dX0_count_62 ?_
    refine cj_sizeT C hJ (evl (c1 0 0 3)) (evl_4 _) (evl_3 _) q528 ⟨(Nat.le_of_ble_eq_true rfl), (Nat.le_of_ble_eq_true rfl)⟩ hl.1 (Nat.le_of_ble_eq_true rfl) dX0_count_65 (fun H locs hJ => ?_)
    have h := Option.some.inj h
    subst h
    exact hE _ _ _ _ _ _ _ _ _ _ _ _ (some (.int ((c1 6 (evl (c1 0 0 3)) 2)))) hJ (fun _ => rfl) (fun _ => rfl) ⟨_, rfl⟩ rfl dX0_count_68
  have h := im h hc10_1
  by_cases hc10_2 : v1 = 2
  · have h := ip h hc10_2
    refine lv_tableIn (tgt := 69) (off := 64) hx hb dX0_count_5 (by rw [hc10_2]; decide) (by rw [hc10_2]; decide) (by rw [hc10_2]; rfl) (by decide) ?_
    refine lv_aload_n hx hb dX0_count_69 rfl (lv_at hl 0 rfl) ?_
    refine lv_iload_n hx hb dX0_count_70 rfl (lv_at hl 1 rfl) ?_
    refine lv_iconst hx hb dX0_count_71 kc_2 ?_
    refine lv_isub hx hb dX0_count_72 ?_
    refine cj_textT C hJ q149 ⟨(Nat.le_of_ble_eq_true rfl), (Nat.le_of_ble_eq_true rfl)⟩ hl.1 (Nat.le_of_ble_eq_true rfl) dX0_count_73 (fun H locs hJ => ?_)
    refine cj_tlenT C hJ q1191 ⟨(Nat.le_of_ble_eq_true rfl), (Nat.le_of_ble_eq_true rfl)⟩ hl.1 (Nat.le_of_ble_eq_true rfl) dX0_count_76 (fun H locs hJ => ?_)
    have h := Option.some.inj h
    subst h
    exact hE _ _ _ _ _ _ _ _ _ _ _ _ (some (.int ((txL c1 (v1 - (2 : Int32)))))) hJ (fun _ => rfl) (fun _ => rfl) ⟨_, rfl⟩ rfl dX0_count_79
  have h := im h hc10_2
  by_cases hc10_3 : v1 = 3
  · have h := ip h hc10_3
    refine lv_tableIn (tgt := 69) (off := 64) hx hb dX0_count_5 (by rw [hc10_3]; decide) (by rw [hc10_3]; decide) (by rw [hc10_3]; rfl) (by decide) ?_
    refine lv_aload_n hx hb dX0_count_69 rfl (lv_at hl 0 rfl) ?_
    refine lv_iload_n hx hb dX0_count_70 rfl (lv_at hl 1 rfl) ?_
    refine lv_iconst hx hb dX0_count_71 kc_2 ?_
    refine lv_isub hx hb dX0_count_72 ?_
    refine cj_textT C hJ q149 ⟨(Nat.le_of_ble_eq_true rfl), (Nat.le_of_ble_eq_true rfl)⟩ hl.1 (Nat.le_of_ble_eq_true rfl) dX0_count_73 (fun H locs hJ => ?_)
    refine cj_tlenT C hJ q1191 ⟨(Nat.le_of_ble_eq_true rfl), (Nat.le_of_ble_eq_true rfl)⟩ hl.1 (Nat.le_of_ble_eq_true rfl) dX0_count_76 (fun H locs hJ => ?_)
    have h := Option.some.inj h
    subst h
    exact hE _ _ _ _ _ _ _ _ _ _ _ _ (some (.int ((txL c1 (v1 - (2 : Int32)))))) hJ (fun _ => rfl) (fun _ => rfl) ⟨_, rfl⟩ rfl dX0_count_79
  have h := im h hc10_3
  by_cases hc10_4 : v1 = 4
  · have h := ip h hc10_4
    refine lv_tableIn (tgt := 80) (off := 75) hx hb dX0_count_5 (by rw [hc10_4]; decide) (by rw [hc10_4]; decide) (by rw [hc10_4]; rfl) (by decide) ?_
    refine lv_aload_n hx hb dX0_count_80 rfl (lv_at hl 0 rfl) ?_
    obtain ⟨c6, hc6, h⟩ := ob h
    refine cc_Vt (As := []) (rest := []) C hJ (metC_allSpeeches l c1 c6 hc6) rfl rfl (show 0 + 0 ≤ 0 from Nat.le_of_ble_eq_true rfl) (cost_ok false false true true _ _ (fun h => by cases h) (fun h => by cases h)) (fun _ => rfl) (fun _ => rfl) (cj_recv C hJ 0 0 (ad_s rfl) (Nat.le_of_ble_eq_true rfl) rfl rfl) (cwV 0 hts (lw_V q1197 q1199 qs46 q109 q1200) rfl rfl rfl hdC_allSpeeches ⟨(Nat.le_of_ble_eq_true rfl), (Nat.le_of_ble_eq_true rfl)⟩) rfl hl.1 rfl (lv_room (Nat.le_of_ble_eq_true rfl)) dX0_count_81 (fun H locs hJ => ?_)
    have h := Option.some.inj h
    subst h
    exact hE _ _ _ _ _ _ _ _ _ _ _ _ (some (.int (c6))) hJ (fun _ => rfl) (fun _ => rfl) ⟨_, rfl⟩ rfl dX0_count_84
  have h := im h hc10_4
  by_cases hc10_5 : v1 = 5
  · have h := ip h hc10_5
    refine lv_tableIn (tgt := 85) (off := 80) hx hb dX0_count_5 (by rw [hc10_5]; decide) (by rw [hc10_5]; decide) (by rw [hc10_5]; rfl) (by decide) ?_
    refine lv_aload_n hx hb dX0_count_85 rfl (lv_at hl 0 rfl) ?_
    obtain ⟨c8, hc8, h⟩ := ob h
    refine cc_Vt (As := []) (rest := []) C hJ (metC_allAyes l c1 c8 hc8) rfl rfl (show 0 + 0 ≤ 0 from Nat.le_of_ble_eq_true rfl) (cost_ok false false true true _ _ (fun h => by cases h) (fun h => by cases h)) (fun _ => rfl) (fun _ => rfl) (cj_recv C hJ 0 0 (ad_s rfl) (Nat.le_of_ble_eq_true rfl) rfl rfl) (cwV 0 hts (lw_V q1201 q1203 qs47 q109 q1204) rfl rfl rfl hdC_allAyes ⟨(Nat.le_of_ble_eq_true rfl), (Nat.le_of_ble_eq_true rfl)⟩) rfl hl.1 rfl (lv_room (Nat.le_of_ble_eq_true rfl)) dX0_count_86 (fun H locs hJ => ?_)
    have h := Option.some.inj h
    subst h
    exact hE _ _ _ _ _ _ _ _ _ _ _ _ (some (.int (c8))) hJ (fun _ => rfl) (fun _ => rfl) ⟨_, rfl⟩ rfl dX0_count_89
  have h := im h hc10_5
  by_cases hc10_6 : v1 = 6
  · have h := ip h hc10_6
    refine lv_tableIn (tgt := 90) (off := 85) hx hb dX0_count_5 (by rw [hc10_6]; decide) (by rw [hc10_6]; decide) (by rw [hc10_6]; rfl) (by decide) ?_
    refine lv_aload_n hx hb dX0_count_90 rfl (lv_at hl 0 rfl) ?_
    refine cj_gr (v := .ref (gA G 1 0)) C hJ 0 0 1 (ad_s rfl) (Nat.le_of_ble_eq_true rfl) (Nat.le_of_ble_eq_true rfl) rfl rfl (fl_X0_22_0 C) (fun _ _ => rfl) dX0_count_91 ?_
    refine cj_g0 C hJ 1 0 6 (ad_s rfl) (Nat.le_of_ble_eq_true rfl) (Nat.le_of_ble_eq_true rfl) rfl rfl rfl rfl (fl_X0_431_1 C) dX0_count_94 ?_
    have h := Option.some.inj h
    subst h
    exact hE _ _ _ _ _ _ _ _ _ _ _ _ (some (.int ((c1 1 0 6)))) hJ (fun _ => rfl) (fun _ => rfl) ⟨_, rfl⟩ rfl dX0_count_97
  have h := im h hc10_6
  by_cases hc10_7 : v1 = 7
  · have h := ip h hc10_7
    refine lv_tableIn (tgt := 98) (off := 93) hx hb dX0_count_5 (by rw [hc10_7]; decide) (by rw [hc10_7]; decide) (by rw [hc10_7]; rfl) (by decide) ?_
    refine lv_aload_n hx hb dX0_count_98 rfl (lv_at hl 0 rfl) ?_
    refine cj_gr (v := .ref (gA G 6 2)) C hJ 0 0 12 (ad_s rfl) (Nat.le_of_ble_eq_true rfl) (Nat.le_of_ble_eq_true rfl) rfl rfl (fl_X0_179_0 C) (fun _ _ => rfl) dX0_count_99 ?_
    refine cj_sizeT C hJ 2 (Nat.le_of_ble_eq_true rfl) (fun h => by cases h) q528 ⟨(Nat.le_of_ble_eq_true rfl), (Nat.le_of_ble_eq_true rfl)⟩ hl.1 (Nat.le_of_ble_eq_true rfl) dX0_count_102 (fun H locs hJ => ?_)
    have h := Option.some.inj h
    subst h
    exact hE _ _ _ _ _ _ _ _ _ _ _ _ (some (.int ((c1 6 2 2)))) hJ (fun _ => rfl) (fun _ => rfl) ⟨_, rfl⟩ rfl dX0_count_105
  have h := im h hc10_7
  by_cases hc10_8 : v1 = 8
  · have h := ip h hc10_8
    refine lv_tableIn (tgt := 106) (off := 101) hx hb dX0_count_5 (by rw [hc10_8]; decide) (by rw [hc10_8]; decide) (by rw [hc10_8]; rfl) (by decide) ?_
    refine lv_aload_n hx hb dX0_count_106 rfl (lv_at hl 0 rfl) ?_
    refine cj_g0 C hJ 0 0 0 (ad_s rfl) (Nat.le_of_ble_eq_true rfl) (Nat.le_of_ble_eq_true rfl) rfl rfl rfl rfl (fl_X0_9_0 C) dX0_count_107 ?_
    have h := Option.some.inj h
    subst h
    exact hE _ _ _ _ _ _ _ _ _ _ _ _ (some (.int ((c1 0 0 0)))) hJ (fun _ => rfl) (fun _ => rfl) ⟨_, rfl⟩ rfl dX0_count_110
  have h := im h hc10_8
  have hthc10_0 := lv_neT (a := 0) hc10_0 (by decide)
  have hthc10_1 := lv_neT (a := 1) hc10_1 (by decide)
  have hthc10_2 := lv_neT (a := 2) hc10_2 (by decide)
  have hthc10_3 := lv_neT (a := 3) hc10_3 (by decide)
  have hthc10_4 := lv_neT (a := 4) hc10_4 (by decide)
  have hthc10_5 := lv_neT (a := 5) hc10_5 (by decide)
  have hthc10_6 := lv_neT (a := 6) hc10_6 (by decide)
  have hthc10_7 := lv_neT (a := 7) hc10_7 (by decide)
  have hthc10_8 := lv_neT (a := 8) hc10_8 (by decide)
  refine lv_tableOut (tgt := 111) hx hb dX0_count_5 (by omega) (by decide) ?_
  refine lv_bipush hx hb dX0_count_111 kb_m2 ?_
  have h := Option.some.inj h
  subst h
  exact hE _ _ _ _ _ _ _ _ _ _ _ _ (some (.int ((-2 : Int32)))) hJ (fun _ => rfl) (fun _ => rfl) ⟨_, rfl⟩ rfl dX0_count_113
def C_tellsPlace (σ : CM) (v1 : Int64) (v3 : Int32) : Option (Int64 × CM) :=
  (C_find σ).bind fun c1 =>
  (C_stoneAt c1 v3).bind fun c3 =>
  (lp (S := Int64 × Int32) (T := Int64) (fun w5 =>
    if (2 : Int32) ≤ w5.2 then
        some (.inr w5.1)
      else
        (C_dampBy c1 (6 : Int32) v3 w5.2).bind fun c8 =>
        some (.inl ((((31 : Int64) * w5.1) + c8.toInt64), (w5.2 + 1)))) 2000 ((((31 : Int64) * v1) + c3.toInt64), (0 : Int32))).bind fun q6 =>
  (lp (S := Int64 × Int32) (T := Int64) (fun w10 =>
    if (2 : Int32) ≤ w10.2 then
        some (.inr w10.1)
      else
        (C_dampBy c1 (19 : Int32) v3 w10.2).bind fun c13 =>
        some (.inl ((((31 : Int64) * w10.1) + c13.toInt64), (w10.2 + 1)))) 2000 (q6, (0 : Int32))).bind fun q11 =>
  (C_wetOf c1 v3).bind fun c15 =>
  (C_askOf c15.2 v3).bind fun c17 =>
  some ((((31 : Int64) * (((31 : Int64) * q11) + c15.1.toInt64)) + c17.1.toInt64), c17.2)
theorem hdC_tellsPlace : yX0_tellsPlace.cls = RX0 ∧ yX0_tellsPlace.cls ≠ "java/lang/invoke/MethodHandle" ∧ yX0_tellsPlace.cls ≠ "java/lang/invoke/VarHandle" ∧ (parseMethodDescriptor yX0_tellsPlace.desc).map (fun d => d.parameters.length) = some 2 := by decide +kernel
set_option maxHeartbeats 4000000 in
theorem metC_tellsPlace (l : Launch) (σ : CM) (v1 : Int64) (v3 : Int32) (res : Int64 × CM) (h : C_tellsPlace σ v1 v3 = some res) : MetC l yX0_tellsPlace (ws_ yX0_tellsPlace cX0_tellsPlace 7 (some .long)) 24 0 false false false false true true (fun G => [.ref (gA G 0 0), .long v1, .int v3]) σ (fun _ => (some (.long res.1))) res.2 := by
  refine met_wC (own := RX0) (by decide +kernel) rfl (by simp [cRt]) (fun _ => Nat.le_of_ble_eq_true rfl) (fun G p e s m args below meth c Q hr1 hr2 C hE ls hl hJ => ?_)
  have hx := C.1.1
  have hb := C.1.2.1
  have hown := C.1.2.2.2.1
  have hts := C.1.2.2.2.2
  have hl : lv_has ls 7 [(0, .ref (gA G 0 0)), (1, .long v1), (3, .int v3)] := hl
  have hJ := CJ.s1 (hr1 rfl) hJ
  have hJ := CJ.s2 (hr2 rfl) hJ
  unfold C_tellsPlace at h
  refine lv_aload_n hx hb dX0_tellsPlace_0 rfl (lv_at hl 0 rfl) ?_
  obtain ⟨c1, hc1, h⟩ := ob h
  refine cc_Vt (As := []) (rest := []) C hJ (metC_find l σ c1 hc1) rfl rfl (show 0 + 0 ≤ 0 from Nat.le_of_ble_eq_true rfl) (cost_ok true true false false _ _ (fun _ => Or.inr rfl) (fun _ => Or.inr rfl)) (fun h => by cases h) (fun h => by cases h) (cj_recv C hJ 0 0 (ad_s rfl) (Nat.le_of_ble_eq_true rfl) rfl rfl) (cwV 0 hts (lw_V q809 q811 qs10 q109 q812) rfl rfl rfl hdC_find ⟨(Nat.le_of_ble_eq_true rfl), (Nat.le_of_ble_eq_true rfl)⟩) rfl hl.1 rfl (lv_room (Nat.le_of_ble_eq_true rfl)) dX0_tellsPlace_1 (fun H locs hJ => ?_)
  refine lv_ldc2 (v := (31 : Int64)) hx hb hown (hts _ q1210) dX0_tellsPlace_4 ?_
  refine lv_lload_n hx hb dX0_tellsPlace_7 rfl (lv_at hl 1 rfl) ?_
  refine lv_lmul hx hb dX0_tellsPlace_8 ?_
  refine lv_aload_n hx hb dX0_tellsPlace_9 rfl (lv_at hl 0 rfl) ?_
  refine lv_iload_n hx hb dX0_tellsPlace_10 rfl (lv_at hl 2 rfl) ?_
  obtain ⟨c3, hc3, h⟩ := ob h
  refine cc_Vt (As := [.int v3]) (rest := [.long ((31 : Int64) * v1)]) C hJ (metC_stoneAt l c1 v3 c3 hc3) rfl rfl (show 0 + 0 ≤ 0 from Nat.le_of_ble_eq_true rfl) (cost_ok true false false false _ _ (fun _ => Or.inr rfl) (fun h => by cases h)) (fun h => by cases h) (fun h => by cases h) (cj_recv C hJ 0 0 (ad_s rfl) (Nat.le_of_ble_eq_true rfl) rfl rfl) (cwV 1 hts (lw_V q505 q507 qs5 q109 q508) rfl rfl rfl hdC_stoneAt ⟨(Nat.le_of_ble_eq_true rfl), (Nat.le_of_ble_eq_true rfl)⟩) rfl hl.1 rfl (lv_room (Nat.le_of_ble_eq_true rfl)) dX0_tellsPlace_11 (fun H locs hJ => ?_)
  refine lv_i2l (v := c3.toInt64) hx hb dX0_tellsPlace_14 rfl ?_
  refine lv_ladd hx hb dX0_tellsPlace_15 ?_
  refine lv_lstore (lv' := [(4, .long (((31 : Int64) * v1) + c3.toInt64)), (0, .ref (gA G 0 0)), (1, .long v1), (3, .int v3)]) hx hb dX0_tellsPlace_16 hl (Nat.le_of_ble_eq_true rfl) rfl (fun ls hl => ?_)
  refine lv_iconst hx hb dX0_tellsPlace_18 kc_0 ?_
  refine lv_istore (lv' := [(6, .int (0 : Int32)), (4, .long (((31 : Int64) * v1) + c3.toInt64)), (0, .ref (gA G 0 0)), (1, .long v1), (3, .int v3)]) hx hb dX0_tellsPlace_19 hl (Nat.le_of_ble_eq_true rfl) rfl (fun ls hl => ?_)
  obtain ⟨q6, hq6, h⟩ := ob h
  have hxq6 : ∀ (H : Heap) (locs : List Loc) (ce sl : Nat) (ls : Array Slot), CJ G s (RM 24 0 false false G) 0 false false true true G.2.2.2 c1 H locs ce sl → lv_has ls 7 [(0, .ref (gA G 0 0)), (3, .int v3), (4, .long q6)] → W p l e (RM 24 0 false false G) s m args below meth c H locs ce sl Q (F0 m 52 ls []) := by
    intro H locs ce sl ls hJ hl
    refine lv_iconst hx hb dX0_tellsPlace_52 kc_0 ?_
    refine lv_istore (lv' := [(6, .int (0 : Int32)), (0, .ref (gA G 0 0)), (3, .int v3), (4, .long q6)]) hx hb dX0_tellsPlace_53 hl (Nat.le_of_ble_eq_true rfl) rfl (fun ls hl => ?_)
    obtain ⟨q11, hq11, h⟩ := ob h
    have hxq11 : ∀ (H : Heap) (locs : List Loc) (ce sl : Nat) (ls : Array Slot), CJ G s (RM 24 0 false false G) 0 false false true true G.2.2.2 c1 H locs ce sl → lv_has ls 7 [(0, .ref (gA G 0 0)), (3, .int v3), (4, .long q11)] → W p l e (RM 24 0 false false G) s m args below meth c H locs ce sl Q (F0 m 86 ls []) := by
      intro H locs ce sl ls hJ hl
      refine lv_ldc2 (v := (31 : Int64)) hx hb hown (hts _ q1210) dX0_tellsPlace_86 ?_
      refine lv_lload hx hb dX0_tellsPlace_89 (lv_at hl 2 rfl) ?_
      refine lv_lmul hx hb dX0_tellsPlace_91 ?_
      refine lv_aload_n hx hb dX0_tellsPlace_92 rfl (lv_at hl 0 rfl) ?_
      refine lv_iload_n hx hb dX0_tellsPlace_93 rfl (lv_at hl 1 rfl) ?_
      obtain ⟨c15, hc15, h⟩ := ob h
      refine cc_VWt (As := [.int v3]) (rest := [.long ((31 : Int64) * q11)]) C hJ (metC_wetOf l c1 v3 c15 hc15) rfl rfl (show 0 + 0 ≤ 0 from Nat.le_of_ble_eq_true rfl) (cost_ok true true false false _ _ (fun _ => Or.inr rfl) (fun _ => Or.inr rfl)) (fun h => by cases h) (fun h => by cases h) (cj_recv C hJ 0 0 (ad_s rfl) (Nat.le_of_ble_eq_true rfl) rfl rfl) (lw_VW q1034 q1036 qs38 q109 q1037) rfl hdC_wetOf ⟨(Nat.le_of_ble_eq_true rfl), (Nat.le_of_ble_eq_true rfl)⟩ rfl hl.1 rfl (lv_room (Nat.le_of_ble_eq_true rfl)) dX0_tellsPlace_94 (fun H locs hJ => ?_)
      refine lv_i2l (v := c15.1.toInt64) hx hb dX0_tellsPlace_97 rfl ?_
      refine lv_ladd hx hb dX0_tellsPlace_98 ?_
      refine lv_lstore (lv' := [(4, .long (((31 : Int64) * q11) + c15.1.toInt64)), (0, .ref (gA G 0 0)), (3, .int v3)]) hx hb dX0_tellsPlace_99 hl (Nat.le_of_ble_eq_true rfl) rfl (fun ls hl => ?_)
      refine lv_ldc2 (v := (31 : Int64)) hx hb hown (hts _ q1210) dX0_tellsPlace_101 ?_
      refine lv_lload hx hb dX0_tellsPlace_104 (lv_at hl 0 rfl) ?_
      refine lv_lmul hx hb dX0_tellsPlace_106 ?_
      refine lv_aload_n hx hb dX0_tellsPlace_107 rfl (lv_at hl 1 rfl) ?_
      refine lv_iload_n hx hb dX0_tellsPlace_108 rfl (lv_at hl 2 rfl) ?_
      obtain ⟨c17, hc17, h⟩ := ob h
      refine cc_Vt (As := [.int v3]) (rest := [.long ((31 : Int64) * (((31 : Int64) * q11) + c15.1.toInt64))]) C hJ (metC_askOf l c15.2 v3 c17 hc17) rfl rfl (show 0 + 0 ≤ 0 from Nat.le_of_ble_eq_true rfl) (cost_ok true true false false _ _ (fun _ => Or.inr rfl) (fun _ => Or.inr rfl)) (fun h => by cases h) (fun h => by cases h) (cj_recv C hJ 0 0 (ad_s rfl) (Nat.le_of_ble_eq_true rfl) rfl rfl) (cwV 1 hts (lw_V q1042 q1044 qs39 q109 q1045) rfl rfl rfl hdC_askOf ⟨(Nat.le_of_ble_eq_true rfl), (Nat.le_of_ble_eq_true rfl)⟩) rfl hl.1 rfl (lv_room (Nat.le_of_ble_eq_true rfl)) dX0_tellsPlace_109 (fun H locs hJ => ?_)
      refine lv_i2l (v := c17.1.toInt64) hx hb dX0_tellsPlace_112 rfl ?_
      refine lv_ladd hx hb dX0_tellsPlace_113 ?_
      have h := Option.some.inj h
      subst h
      exact hE _ _ _ _ _ _ _ _ _ _ _ _ (some (.long ((((31 : Int64) * (((31 : Int64) * q11) + c15.1.toInt64)) + c17.1.toInt64)))) hJ (fun h => by cases h) (fun h => by cases h) ⟨_, rfl⟩ rfl dX0_tellsPlace_114
    refine lp_ind (P := fun (w10 : Int64 × Int32) => ∀ (H : Heap) (locs : List Loc) (ce sl : Nat) (ls : Array Slot), CJ G s (RM 24 0 false false G) 0 false false true true G.2.2.2 c1 H locs ce sl → lv_has ls 7 [(0, .ref (gA G 0 0)), (3, .int v3), (4, .long w10.1), (6, .int w10.2)] → W p l e (RM 24 0 false false G) s m args below meth c H locs ce sl Q (F0 m 55 ls [])) ?_ _ _ hq11 _ _ _ _ _ hJ (lv_sub hl [1, 2, 3, 0] rfl)
    intro nw10 w10 ihw10 zw10 hzw10 hqw10 H locs ce sl ls hJ hl
    refine lv_iload hx hb dX0_tellsPlace_55 (lv_at hl 3 rfl) ?_
    refine lv_iconst hx hb dX0_tellsPlace_57 kc_2 ?_
    refine lv_icmp_ge (tgt := 86) hx hb dX0_tellsPlace_58 (by decide) (fun hc12 => ?_) (fun hc12 => ?_)
    · have hzw10 := ip hzw10 hc12
      have hzw10 := Option.some.inj hzw10
      subst hzw10
      have hqw10 : _ = q11 := hqw10
      subst hqw10
      exact hxq11 _ _ _ _ _ hJ (lv_sub hl [0, 1, 2] rfl)
    · have hzw10 := im hzw10 hc12
      refine lv_ldc2 (v := (31 : Int64)) hx hb hown (hts _ q1210) dX0_tellsPlace_61 ?_
      refine lv_lload hx hb dX0_tellsPlace_64 (lv_at hl 2 rfl) ?_
      refine lv_lmul hx hb dX0_tellsPlace_66 ?_
      refine lv_aload_n hx hb dX0_tellsPlace_67 rfl (lv_at hl 0 rfl) ?_
      refine lv_bipush hx hb dX0_tellsPlace_68 kb_19 ?_
      refine lv_iload_n hx hb dX0_tellsPlace_70 rfl (lv_at hl 1 rfl) ?_
      refine lv_iload hx hb dX0_tellsPlace_71 (lv_at hl 3 rfl) ?_
      obtain ⟨c13, hc13, hzw10⟩ := ob hzw10
      refine cc_Vt (As := [.int (19 : Int32), .int v3, .int w10.2]) (rest := [.long ((31 : Int64) * w10.1)]) C hJ (metC_dampBy l c1 (19 : Int32) v3 w10.2 c13 hc13) rfl rfl (show 0 + 0 ≤ 0 from Nat.le_of_ble_eq_true rfl) (cost_ok false false false false _ _ (fun h => by cases h) (fun h => by cases h)) (fun _ => rfl) (fun _ => rfl) (cj_recv C hJ 0 0 (ad_s rfl) (Nat.le_of_ble_eq_true rfl) rfl rfl) (cwV 3 hts (lw_V q894 q896 qs21 q109 q897) rfl rfl rfl hdC_dampBy ⟨(Nat.le_of_ble_eq_true rfl), (Nat.le_of_ble_eq_true rfl)⟩) rfl hl.1 rfl (lv_room (Nat.le_of_ble_eq_true rfl)) dX0_tellsPlace_73 (fun H locs hJ => ?_)
      refine lv_i2l (v := c13.toInt64) hx hb dX0_tellsPlace_76 rfl ?_
      refine lv_ladd hx hb dX0_tellsPlace_77 ?_
      refine lv_lstore (lv' := [(4, .long (((31 : Int64) * w10.1) + c13.toInt64)), (0, .ref (gA G 0 0)), (3, .int v3), (6, .int w10.2)]) hx hb dX0_tellsPlace_78 hl (Nat.le_of_ble_eq_true rfl) rfl (fun ls hl => ?_)
      refine lv_iinc (v := (w10.2 + 1)) (lv' := [(6, .int (w10.2 + 1)), (4, .long (((31 : Int64) * w10.1) + c13.toInt64)), (0, .ref (gA G 0 0)), (3, .int v3)]) hx hb dX0_tellsPlace_80 hl (k := 3) rfl rfl (Nat.le_of_ble_eq_true rfl) rfl (fun ls hl => ?_)
      refine lv_goto (tgt := 55) hx hb dX0_tellsPlace_83 (by decide) ?_
      have hzw10 := Option.some.inj hzw10
      subst hzw10
      exact ihw10 _ hqw10 _ _ _ _ _ hJ (lv_sub hl [2, 3, 1, 0] rfl)
  refine lp_ind (P := fun (w5 : Int64 × Int32) => ∀ (H : Heap) (locs : List Loc) (ce sl : Nat) (ls : Array Slot), CJ G s (RM 24 0 false false G) 0 false false true true G.2.2.2 c1 H locs ce sl → lv_has ls 7 [(0, .ref (gA G 0 0)), (3, .int v3), (4, .long w5.1), (6, .int w5.2)] → W p l e (RM 24 0 false false G) s m args below meth c H locs ce sl Q (F0 m 21 ls [])) ?_ _ _ hq6 _ _ _ _ _ hJ (lv_sub hl [2, 4, 1, 0] rfl)
  intro nw5 w5 ihw5 zw5 hzw5 hqw5 H locs ce sl ls hJ hl
  refine lv_iload hx hb dX0_tellsPlace_21 (lv_at hl 3 rfl) ?_
  refine lv_iconst hx hb dX0_tellsPlace_23 kc_2 ?_
  refine lv_icmp_ge (tgt := 52) hx hb dX0_tellsPlace_24 (by decide) (fun hc7 => ?_) (fun hc7 => ?_)
  · have hzw5 := ip hzw5 hc7
    have hzw5 := Option.some.inj hzw5
    subst hzw5
    have hqw5 : _ = q6 := hqw5
    subst hqw5
    exact hxq6 _ _ _ _ _ hJ (lv_sub hl [0, 1, 2] rfl)
  · have hzw5 := im hzw5 hc7
    refine lv_ldc2 (v := (31 : Int64)) hx hb hown (hts _ q1210) dX0_tellsPlace_27 ?_
    refine lv_lload hx hb dX0_tellsPlace_30 (lv_at hl 2 rfl) ?_
    refine lv_lmul hx hb dX0_tellsPlace_32 ?_
    refine lv_aload_n hx hb dX0_tellsPlace_33 rfl (lv_at hl 0 rfl) ?_
    refine lv_bipush hx hb dX0_tellsPlace_34 kb_6 ?_
    refine lv_iload_n hx hb dX0_tellsPlace_36 rfl (lv_at hl 1 rfl) ?_
    refine lv_iload hx hb dX0_tellsPlace_37 (lv_at hl 3 rfl) ?_
    obtain ⟨c8, hc8, hzw5⟩ := ob hzw5
    refine cc_Vt (As := [.int (6 : Int32), .int v3, .int w5.2]) (rest := [.long ((31 : Int64) * w5.1)]) C hJ (metC_dampBy l c1 (6 : Int32) v3 w5.2 c8 hc8) rfl rfl (show 0 + 0 ≤ 0 from Nat.le_of_ble_eq_true rfl) (cost_ok false false false false _ _ (fun h => by cases h) (fun h => by cases h)) (fun _ => rfl) (fun _ => rfl) (cj_recv C hJ 0 0 (ad_s rfl) (Nat.le_of_ble_eq_true rfl) rfl rfl) (cwV 3 hts (lw_V q894 q896 qs21 q109 q897) rfl rfl rfl hdC_dampBy ⟨(Nat.le_of_ble_eq_true rfl), (Nat.le_of_ble_eq_true rfl)⟩) rfl hl.1 rfl (lv_room (Nat.le_of_ble_eq_true rfl)) dX0_tellsPlace_39 (fun H locs hJ => ?_)
    refine lv_i2l (v := c8.toInt64) hx hb dX0_tellsPlace_42 rfl ?_
    refine lv_ladd hx hb dX0_tellsPlace_43 ?_
    refine lv_lstore (lv' := [(4, .long (((31 : Int64) * w5.1) + c8.toInt64)), (0, .ref (gA G 0 0)), (3, .int v3), (6, .int w5.2)]) hx hb dX0_tellsPlace_44 hl (Nat.le_of_ble_eq_true rfl) rfl (fun ls hl => ?_)
    refine lv_iinc (v := (w5.2 + 1)) (lv' := [(6, .int (w5.2 + 1)), (4, .long (((31 : Int64) * w5.1) + c8.toInt64)), (0, .ref (gA G 0 0)), (3, .int v3)]) hx hb dX0_tellsPlace_46 hl (k := 3) rfl rfl (Nat.le_of_ble_eq_true rfl) rfl (fun ls hl => ?_)
    refine lv_goto (tgt := 21) hx hb dX0_tellsPlace_49 (by decide) ?_
    have hzw5 := Option.some.inj hzw5
    subst hzw5
    exact ihw5 _ hqw5 _ _ _ _ _ hJ (lv_sub hl [2, 3, 1, 0] rfl)
def C_tellsMember (σ : CM) (v1 : Int64) (v3 : Int32) : Option (Int64 × CM) :=
  (C_find σ).bind fun c1 =>
  (lp (S := Int64 × Int32) (T := Int64) (fun w3 =>
    if (3 : Int32) ≤ w3.2 then
        some (.inr w3.1)
      else
        (lget c1 3 v3).bind fun n6 =>
        (clk c1 5 n6).bind fun e8 =>
        (C_X8_by c1 n6 w3.2).bind fun c7 =>
        some (.inl ((((31 : Int64) * w3.1) + c7.toInt64), (w3.2 + 1)))) 2000 (v1, (0 : Int32))).bind fun q4 =>
  (C_tellsHour c1 q4 (0 : Int32) v3).bind fun c9 =>
  (C_tellsHour c1 c9 (7 : Int32) v3).bind fun c11 =>
  (C_tellsHour c1 c11 (19 : Int32) v3).bind fun c13 =>
  (lp (S := Int64 × Int32 × CM) (T := Int64 × CM) (fun w15 =>
    if (2 : Int32) ≤ w15.2.1 then
        some (.inr (w15.1, w15.2.2))
      else
        (C_seatOf w15.2.2 v3 w15.2.1).bind fun c18 =>
        some (.inl ((((31 : Int64) * w15.1) + c18.1.toInt64), (w15.2.1 + 1), c18.2))) 2000 (c13, (0 : Int32), c1)).bind fun q16 =>
  (C_sortOf q16.2 v3).bind fun c20 =>
  some ((((31 : Int64) * q16.1) + c20.1.toInt64), c20.2)
theorem hdC_tellsMember : yX0_tellsMember.cls = RX0 ∧ yX0_tellsMember.cls ≠ "java/lang/invoke/MethodHandle" ∧ yX0_tellsMember.cls ≠ "java/lang/invoke/VarHandle" ∧ (parseMethodDescriptor yX0_tellsMember.desc).map (fun d => d.parameters.length) = some 2 := by decide +kernel
set_option maxHeartbeats 4000000 in
theorem metC_tellsMember (l : Launch) (σ : CM) (v1 : Int64) (v3 : Int32) (res : Int64 × CM) (h : C_tellsMember σ v1 v3 = some res) : MetC l yX0_tellsMember (ws_ yX0_tellsMember cX0_tellsMember 7 (some .long)) 23 0 false false false false true true (fun G => [.ref (gA G 0 0), .long v1, .int v3]) σ (fun _ => (some (.long res.1))) res.2 := by
  refine met_wC (own := RX0) (by decide +kernel) rfl (by simp [cRt]) (fun _ => Nat.le_of_ble_eq_true rfl) (fun G p e s m args below meth c Q hr1 hr2 C hE ls hl hJ => ?_)
  have hx := C.1.1
  have hb := C.1.2.1
  have hown := C.1.2.2.2.1
  have hts := C.1.2.2.2.2
  have hl : lv_has ls 7 [(0, .ref (gA G 0 0)), (1, .long v1), (3, .int v3)] := hl
  have hJ := CJ.s1 (hr1 rfl) hJ
  have hJ := CJ.s2 (hr2 rfl) hJ
  unfold C_tellsMember at h
  refine lv_aload_n hx hb dX0_tellsMember_0 rfl (lv_at hl 0 rfl) ?_
  obtain ⟨c1, hc1, h⟩ := ob h
  refine cc_Vt (As := []) (rest := []) C hJ (metC_find l σ c1 hc1) rfl rfl (show 0 + 0 ≤ 0 from Nat.le_of_ble_eq_true rfl) (cost_ok true true false false _ _ (fun _ => Or.inr rfl) (fun _ => Or.inr rfl)) (fun h => by cases h) (fun h => by cases h) (cj_recv C hJ 0 0 (ad_s rfl) (Nat.le_of_ble_eq_true rfl) rfl rfl) (cwV 0 hts (lw_V q809 q811 qs10 q109 q812) rfl rfl rfl hdC_find ⟨(Nat.le_of_ble_eq_true rfl), (Nat.le_of_ble_eq_true rfl)⟩) rfl hl.1 rfl (lv_room (Nat.le_of_ble_eq_true rfl)) dX0_tellsMember_1 (fun H locs hJ => ?_)
  refine lv_lload_n hx hb dX0_tellsMember_4 rfl (lv_at hl 1 rfl) ?_
  refine lv_lstore (lv' := [(4, .long v1), (0, .ref (gA G 0 0)), (1, .long v1), (3, .int v3)]) hx hb dX0_tellsMember_5 hl (Nat.le_of_ble_eq_true rfl) rfl (fun ls hl => ?_)
  refine lv_iconst hx hb dX0_tellsMember_7 kc_0 ?_
  refine lv_istore (lv' := [(6, .int (0 : Int32)), (4, .long v1), (0, .ref (gA G 0 0)), (1, .long v1), (3, .int v3)]) hx hb dX0_tellsMember_8 hl (Nat.le_of_ble_eq_true rfl) rfl (fun ls hl => ?_)
  obtain ⟨q4, hq4, h⟩ := ob h
  have hxq4 : ∀ (H : Heap) (locs : List Loc) (ce sl : Nat) (ls : Array Slot), CJ G s (RM 23 0 false false G) 0 false false true true G.2.2.2 c1 H locs ce sl → lv_has ls 7 [(0, .ref (gA G 0 0)), (3, .int v3), (4, .long q4)] → W p l e (RM 23 0 false false G) s m args below meth c H locs ce sl Q (F0 m 51 ls []) := by
    intro H locs ce sl ls hJ hl
    refine lv_aload_n hx hb dX0_tellsMember_51 rfl (lv_at hl 0 rfl) ?_
    refine lv_aload_n hx hb dX0_tellsMember_52 rfl (lv_at hl 0 rfl) ?_
    refine lv_aload_n hx hb dX0_tellsMember_53 rfl (lv_at hl 0 rfl) ?_
    refine lv_lload hx hb dX0_tellsMember_54 (lv_at hl 2 rfl) ?_
    refine lv_iconst hx hb dX0_tellsMember_56 kc_0 ?_
    refine lv_iload_n hx hb dX0_tellsMember_57 rfl (lv_at hl 1 rfl) ?_
    obtain ⟨c9, hc9, h⟩ := ob h
    refine cc_Vt (As := [.long q4, .int (0 : Int32), .int v3]) (rest := [.ref (gA G 0 0), .ref (gA G 0 0)]) C hJ (metC_tellsHour l c1 q4 (0 : Int32) v3 c9 hc9) rfl rfl (show 0 + 0 ≤ 0 from Nat.le_of_ble_eq_true rfl) (cost_ok false false false false _ _ (fun h => by cases h) (fun h => by cases h)) (fun _ => rfl) (fun _ => rfl) (cj_recv C hJ 0 0 (ad_s rfl) (Nat.le_of_ble_eq_true rfl) rfl rfl) (cwV 3 hts (lw_V q1220 q1222 qs50 q109 q1223) rfl rfl rfl hdC_tellsHour ⟨(Nat.le_of_ble_eq_true rfl), (Nat.le_of_ble_eq_true rfl)⟩) rfl hl.1 rfl (lv_room (Nat.le_of_ble_eq_true rfl)) dX0_tellsMember_58 (fun H locs hJ => ?_)
    refine lv_bipush hx hb dX0_tellsMember_61 kb_7 ?_
    refine lv_iload_n hx hb dX0_tellsMember_63 rfl (lv_at hl 1 rfl) ?_
    obtain ⟨c11, hc11, h⟩ := ob h
    refine cc_Vt (As := [.long c9, .int (7 : Int32), .int v3]) (rest := [.ref (gA G 0 0)]) C hJ (metC_tellsHour l c1 c9 (7 : Int32) v3 c11 hc11) rfl rfl (show 0 + 0 ≤ 0 from Nat.le_of_ble_eq_true rfl) (cost_ok false false false false _ _ (fun h => by cases h) (fun h => by cases h)) (fun _ => rfl) (fun _ => rfl) (cj_recv C hJ 0 0 (ad_s rfl) (Nat.le_of_ble_eq_true rfl) rfl rfl) (cwV 3 hts (lw_V q1220 q1222 qs50 q109 q1223) rfl rfl rfl hdC_tellsHour ⟨(Nat.le_of_ble_eq_true rfl), (Nat.le_of_ble_eq_true rfl)⟩) rfl hl.1 rfl (lv_room (Nat.le_of_ble_eq_true rfl)) dX0_tellsMember_64 (fun H locs hJ => ?_)
    refine lv_bipush hx hb dX0_tellsMember_67 kb_19 ?_
    refine lv_iload_n hx hb dX0_tellsMember_69 rfl (lv_at hl 1 rfl) ?_
    obtain ⟨c13, hc13, h⟩ := ob h
    refine cc_Vt (As := [.long c11, .int (19 : Int32), .int v3]) (rest := []) C hJ (metC_tellsHour l c1 c11 (19 : Int32) v3 c13 hc13) rfl rfl (show 0 + 0 ≤ 0 from Nat.le_of_ble_eq_true rfl) (cost_ok false false false false _ _ (fun h => by cases h) (fun h => by cases h)) (fun _ => rfl) (fun _ => rfl) (cj_recv C hJ 0 0 (ad_s rfl) (Nat.le_of_ble_eq_true rfl) rfl rfl) (cwV 3 hts (lw_V q1220 q1222 qs50 q109 q1223) rfl rfl rfl hdC_tellsHour ⟨(Nat.le_of_ble_eq_true rfl), (Nat.le_of_ble_eq_true rfl)⟩) rfl hl.1 rfl (lv_room (Nat.le_of_ble_eq_true rfl)) dX0_tellsMember_70 (fun H locs hJ => ?_)
    refine lv_lstore (lv' := [(4, .long c13), (0, .ref (gA G 0 0)), (3, .int v3)]) hx hb dX0_tellsMember_73 hl (Nat.le_of_ble_eq_true rfl) rfl (fun ls hl => ?_)
    refine lv_iconst hx hb dX0_tellsMember_75 kc_0 ?_
    refine lv_istore (lv' := [(6, .int (0 : Int32)), (4, .long c13), (0, .ref (gA G 0 0)), (3, .int v3)]) hx hb dX0_tellsMember_76 hl (Nat.le_of_ble_eq_true rfl) rfl (fun ls hl => ?_)
    obtain ⟨q16, hq16, h⟩ := ob h
    have hxq16 : ∀ (H : Heap) (locs : List Loc) (ce sl : Nat) (ls : Array Slot), CJ G s (RM 23 0 false false G) 0 false false true true G.2.2.2 q16.2 H locs ce sl → lv_has ls 7 [(0, .ref (gA G 0 0)), (3, .int v3), (4, .long q16.1)] → W p l e (RM 23 0 false false G) s m args below meth c H locs ce sl Q (F0 m 107 ls []) := by
      intro H locs ce sl ls hJ hl
      refine lv_ldc2 (v := (31 : Int64)) hx hb hown (hts _ q1210) dX0_tellsMember_107 ?_
      refine lv_lload hx hb dX0_tellsMember_110 (lv_at hl 2 rfl) ?_
      refine lv_lmul hx hb dX0_tellsMember_112 ?_
      refine lv_aload_n hx hb dX0_tellsMember_113 rfl (lv_at hl 0 rfl) ?_
      refine lv_iload_n hx hb dX0_tellsMember_114 rfl (lv_at hl 1 rfl) ?_
      obtain ⟨c20, hc20, h⟩ := ob h
      refine cc_VWt (As := [.int v3]) (rest := [.long ((31 : Int64) * q16.1)]) C hJ (metC_sortOf l q16.2 v3 c20 hc20) rfl rfl (show 0 + 0 ≤ 0 from Nat.le_of_ble_eq_true rfl) (cost_ok true false false false _ _ (fun _ => Or.inr rfl) (fun h => by cases h)) (fun h => by cases h) (fun _ => rfl) (cj_recv C hJ 0 0 (ad_s rfl) (Nat.le_of_ble_eq_true rfl) rfl rfl) (lw_VW q1025 q1027 qs37 q109 q1028) rfl hdC_sortOf ⟨(Nat.le_of_ble_eq_true rfl), (Nat.le_of_ble_eq_true rfl)⟩ rfl hl.1 rfl (lv_room (Nat.le_of_ble_eq_true rfl)) dX0_tellsMember_115 (fun H locs hJ => ?_)
      refine lv_i2l (v := c20.1.toInt64) hx hb dX0_tellsMember_118 rfl ?_
      refine lv_ladd hx hb dX0_tellsMember_119 ?_
      have h := Option.some.inj h
      subst h
      exact hE _ _ _ _ _ _ _ _ _ _ _ _ (some (.long ((((31 : Int64) * q16.1) + c20.1.toInt64)))) hJ (fun h => by cases h) (fun h => by cases h) ⟨_, rfl⟩ rfl dX0_tellsMember_120
    refine lp_ind (P := fun (w15 : Int64 × Int32 × CM) => ∀ (H : Heap) (locs : List Loc) (ce sl : Nat) (ls : Array Slot), CJ G s (RM 23 0 false false G) 0 false false true true G.2.2.2 w15.2.2 H locs ce sl → lv_has ls 7 [(0, .ref (gA G 0 0)), (3, .int v3), (4, .long w15.1), (6, .int w15.2.1)] → W p l e (RM 23 0 false false G) s m args below meth c H locs ce sl Q (F0 m 78 ls [])) ?_ _ _ hq16 _ _ _ _ _ hJ (lv_sub hl [2, 3, 1, 0] rfl)
    intro nw15 w15 ihw15 zw15 hzw15 hqw15 H locs ce sl ls hJ hl
    refine lv_iload hx hb dX0_tellsMember_78 (lv_at hl 3 rfl) ?_
    refine lv_iconst hx hb dX0_tellsMember_80 kc_2 ?_
    refine lv_icmp_ge (tgt := 107) hx hb dX0_tellsMember_81 (by decide) (fun hc17 => ?_) (fun hc17 => ?_)
    · have hzw15 := ip hzw15 hc17
      have hzw15 := Option.some.inj hzw15
      subst hzw15
      have hqw15 : _ = q16 := hqw15
      subst hqw15
      exact hxq16 _ _ _ _ _ hJ (lv_sub hl [0, 1, 2] rfl)
    · have hzw15 := im hzw15 hc17
      refine lv_ldc2 (v := (31 : Int64)) hx hb hown (hts _ q1210) dX0_tellsMember_84 ?_
      refine lv_lload hx hb dX0_tellsMember_87 (lv_at hl 2 rfl) ?_
      refine lv_lmul hx hb dX0_tellsMember_89 ?_
      refine lv_aload_n hx hb dX0_tellsMember_90 rfl (lv_at hl 0 rfl) ?_
      refine lv_iload_n hx hb dX0_tellsMember_91 rfl (lv_at hl 1 rfl) ?_
      refine lv_iload hx hb dX0_tellsMember_92 (lv_at hl 3 rfl) ?_
      obtain ⟨c18, hc18, hzw15⟩ := ob hzw15
      refine cc_VWt (As := [.int v3, .int w15.2.1]) (rest := [.long ((31 : Int64) * w15.1)]) C hJ (metC_seatOf l w15.2.2 v3 w15.2.1 c18 hc18) rfl rfl (show 0 + 0 ≤ 0 from Nat.le_of_ble_eq_true rfl) (cost_ok true false false false _ _ (fun _ => Or.inr rfl) (fun h => by cases h)) (fun h => by cases h) (fun _ => rfl) (cj_recv C hJ 0 0 (ad_s rfl) (Nat.le_of_ble_eq_true rfl) rfl rfl) (lw_VW q966 q968 qs30 q109 q969) rfl hdC_seatOf ⟨(Nat.le_of_ble_eq_true rfl), (Nat.le_of_ble_eq_true rfl)⟩ rfl hl.1 rfl (lv_room (Nat.le_of_ble_eq_true rfl)) dX0_tellsMember_94 (fun H locs hJ => ?_)
      refine lv_i2l (v := c18.1.toInt64) hx hb dX0_tellsMember_97 rfl ?_
      refine lv_ladd hx hb dX0_tellsMember_98 ?_
      refine lv_lstore (lv' := [(4, .long (((31 : Int64) * w15.1) + c18.1.toInt64)), (0, .ref (gA G 0 0)), (3, .int v3), (6, .int w15.2.1)]) hx hb dX0_tellsMember_99 hl (Nat.le_of_ble_eq_true rfl) rfl (fun ls hl => ?_)
      refine lv_iinc (v := (w15.2.1 + 1)) (lv' := [(6, .int (w15.2.1 + 1)), (4, .long (((31 : Int64) * w15.1) + c18.1.toInt64)), (0, .ref (gA G 0 0)), (3, .int v3)]) hx hb dX0_tellsMember_101 hl (k := 3) rfl rfl (Nat.le_of_ble_eq_true rfl) rfl (fun ls hl => ?_)
      refine lv_goto (tgt := 78) hx hb dX0_tellsMember_104 (by decide) ?_
      have hzw15 := Option.some.inj hzw15
      subst hzw15
      exact ihw15 _ hqw15 _ _ _ _ _ hJ (lv_sub hl [2, 3, 1, 0] rfl)
  refine lp_ind (P := fun (w3 : Int64 × Int32) => ∀ (H : Heap) (locs : List Loc) (ce sl : Nat) (ls : Array Slot), CJ G s (RM 23 0 false false G) 0 false false true true G.2.2.2 c1 H locs ce sl → lv_has ls 7 [(0, .ref (gA G 0 0)), (3, .int v3), (4, .long w3.1), (6, .int w3.2)] → W p l e (RM 23 0 false false G) s m args below meth c H locs ce sl Q (F0 m 10 ls [])) ?_ _ _ hq4 _ _ _ _ _ hJ (lv_sub hl [2, 4, 1, 0] rfl)
  intro nw3 w3 ihw3 zw3 hzw3 hqw3 H locs ce sl ls hJ hl
  refine lv_iload hx hb dX0_tellsMember_10 (lv_at hl 3 rfl) ?_
  refine lv_iconst hx hb dX0_tellsMember_12 kc_3 ?_
  refine lv_icmp_ge (tgt := 51) hx hb dX0_tellsMember_13 (by decide) (fun hc5 => ?_) (fun hc5 => ?_)
  · have hzw3 := ip hzw3 hc5
    have hzw3 := Option.some.inj hzw3
    subst hzw3
    have hqw3 : _ = q4 := hqw3
    subst hqw3
    exact hxq4 _ _ _ _ _ hJ (lv_sub hl [0, 1, 2] rfl)
  · have hzw3 := im hzw3 hc5
    refine lv_ldc2 (v := (31 : Int64)) hx hb hown (hts _ q1210) dX0_tellsMember_16 ?_
    refine lv_lload hx hb dX0_tellsMember_19 (lv_at hl 2 rfl) ?_
    refine lv_lmul hx hb dX0_tellsMember_21 ?_
    refine lv_aload_n hx hb dX0_tellsMember_22 rfl (lv_at hl 0 rfl) ?_
    refine cj_gr (v := .ref (gA G 2 0)) C hJ 0 0 2 (ad_s rfl) (Nat.le_of_ble_eq_true rfl) (Nat.le_of_ble_eq_true rfl) rfl rfl (fl_X0_26_0 C) (fun _ _ => rfl) dX0_tellsMember_23 ?_
    refine cj_gr (v := .ref (gA G 6 3)) C hJ 2 0 5 (ad_s rfl) (Nat.le_of_ble_eq_true rfl) (Nat.le_of_ble_eq_true rfl) rfl rfl (fl_X0_72_2 C) (fun _ _ => rfl) dX0_tellsMember_26 ?_
    refine lv_iload_n hx hb dX0_tellsMember_29 rfl (lv_at hl 1 rfl) ?_
    obtain ⟨n6, hn6, hzw3⟩ := ob hzw3
    refine cj_get C hJ 3 (Nat.le_of_ble_eq_true rfl) (fun _ => rfl) q530 ⟨(Nat.le_of_ble_eq_true rfl), (Nat.le_of_ble_eq_true rfl)⟩ hl.1 (Nat.le_of_ble_eq_true rfl) hn6 dX0_tellsMember_30 (fun H locs hJ => ?_)
    refine cj_castM C hJ hn6 q544 dX0_tellsMember_33 ?_
    refine lv_iload hx hb dX0_tellsMember_36 (lv_at hl 3 rfl) ?_
    obtain ⟨e8, he8, hzw3⟩ := ob hzw3
    obtain ⟨c7, hc7, hzw3⟩ := ob hzw3
    refine cc_Vt (As := [.int w3.2]) (rest := [.long ((31 : Int64) * w3.1)]) C hJ (metC_X8_by l c1 n6 w3.2 c7 hc7) rfl rfl (show 0 + 0 ≤ 0 from Nat.le_of_ble_eq_true rfl) (cost_ok false false false false _ _ (fun h => by cases h) (fun h => by cases h)) (fun h => by cases h) (fun _ => rfl) (cj_recv C hJ 5 n6 (ad_d rfl) (Nat.le_of_ble_eq_true rfl) rfl (clk_l he8)) (cwV 1 hts (lw_V q545 q546 q547 q129 q548) rfl rfl rfl hdC_X8_by ⟨(Nat.le_of_ble_eq_true rfl), (Nat.le_of_ble_eq_true rfl)⟩) rfl hl.1 rfl (lv_room (Nat.le_of_ble_eq_true rfl)) dX0_tellsMember_38 (fun H locs hJ => ?_)
    refine lv_i2l (v := c7.toInt64) hx hb dX0_tellsMember_41 rfl ?_
    refine lv_ladd hx hb dX0_tellsMember_42 ?_
    refine lv_lstore (lv' := [(4, .long (((31 : Int64) * w3.1) + c7.toInt64)), (0, .ref (gA G 0 0)), (3, .int v3), (6, .int w3.2)]) hx hb dX0_tellsMember_43 hl (Nat.le_of_ble_eq_true rfl) rfl (fun ls hl => ?_)
    refine lv_iinc (v := (w3.2 + 1)) (lv' := [(6, .int (w3.2 + 1)), (4, .long (((31 : Int64) * w3.1) + c7.toInt64)), (0, .ref (gA G 0 0)), (3, .int v3)]) hx hb dX0_tellsMember_45 hl (k := 3) rfl rfl (Nat.le_of_ble_eq_true rfl) rfl (fun ls hl => ?_)
    refine lv_goto (tgt := 10) hx hb dX0_tellsMember_48 (by decide) ?_
    have hzw3 := Option.some.inj hzw3
    subst hzw3
    exact ihw3 _ hqw3 _ _ _ _ _ hJ (lv_sub hl [2, 3, 1, 0] rfl)
