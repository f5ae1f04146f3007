/-! the reference, walked (printed by tool/gen_m.py) -/
set_option maxRecDepth 100000
def M_seatOf (σ : MM) (v1 : Int32) (v2 : Int32) : Option (Int32 × MM) :=
  (M_asTold σ).bind fun c1 =>
  (mld c1 6 v1).bind fun x2 =>
  (lp (S := Int32 × Int32 × Int32 × MM) (T := Int32 × Int32 × MM) (fun w3 =>
    if (12 : Int32) ≤ w3.2.2.1 then
        some (.inr (w3.1, w3.2.1, w3.2.2.2))
      else
        (mst w3.2.2.2 6 v1 w3.2.2.1).bind fun σ6 =>
        (M_runs σ6).bind fun c7 =>
        (M_carriedNow c7).bind fun c8 =>
        (if c8 ≤ w3.2.1 then
            some w3.1
          else
            some w3.2.2.1 : Option (Int32)).bind fun q10 =>
        if c8 ≤ w3.2.1 then
          some (.inl (q10, w3.2.1, (w3.2.2.1 + 1), c7))
        else
          some (.inl (q10, c8, (w3.2.2.1 + 1), c7))) 2000 ((-1 : Int32), (-1 : Int32), (0 : Int32), c1)).bind fun q4 =>
  (mst q4.2.2 6 v1 x2).bind fun σ12 =>
  if v2 = 0 then
    some (q4.1, σ12)
  else
    some (q4.2.1, σ12)
theorem hdM_seatOf : yX6_seatOf.cls = RX6 ∧ yX6_seatOf.cls ≠ "java/lang/invoke/MethodHandle" ∧ yX6_seatOf.cls ≠ "java/lang/invoke/VarHandle" ∧ (parseMethodDescriptor yX6_seatOf.desc).map (fun d => d.parameters.length) = some 2 := by decide +kernel
set_option maxHeartbeats 4000000 in
theorem metM_seatOf (l : Launch) (σ : MM) (v1 : Int32) (v2 : Int32) (res : Int32 × MM) (h : M_seatOf σ v1 v2 = some res) : MetM l yX6_seatOf cX6_seatOf 8 (some .int) 8 (fun K => [.ref (kO K), .int v1, .int v2]) σ (some (.int res.1)) res.2 := by
  refine met_walk rfl (by simp [mRt]) (fun _ => Nat.le_of_ble_eq_true rfl) (fun K p e s m args below meth c Q C hE ls hl hJ => ?_)
  have hx := C.1.1
  have hb := C.1.2.1
  have hown := C.1.2.2.2.1
  have hts := C.1.2.2.2.2
  have hl : lv_has ls 8 [(0, .ref (kO K)), (1, .int v1), (2, .int v2)] := hl
  unfold M_seatOf at h
  refine lv_aload_n hx hb dX6_seatOf_0 rfl (lv_at hl 0 rfl) ?_
  obtain ⟨c1, hc1, h⟩ := ob h
  refine mc_V (As := []) (rest := []) C hJ (metM_asTold l σ c1 hc1) (cwV 0 hts (lw_V q1466 q1468 qs64 q118 q1469) rfl rfl rfl hdM_asTold ⟨Nat.le_of_ble_eq_true rfl, Nat.le_of_ble_eq_true rfl⟩) rfl hl.1 rfl (lv_room (Nat.le_of_ble_eq_true rfl)) dX6_seatOf_1 (fun H locs hJ => ?_)
  refine lv_aload_n hx hb dX6_seatOf_4 rfl (lv_at hl 0 rfl) ?_
  refine mx_ga C hJ 6 (Nat.le_of_ble_eq_true rfl) rfl lk6 dX6_seatOf_5 ?_
  refine lv_iload_n hx hb dX6_seatOf_8 rfl (lv_at hl 1 rfl) ?_
  obtain ⟨x2, hx2, h⟩ := ob h
  refine my_il C hJ 6 rfl hx2 dX6_seatOf_9 ?_
  refine lv_istore_n (lv' := [(3, .int x2), (0, .ref (kO K)), (1, .int v1), (2, .int v2)]) hx hb dX6_seatOf_10 rfl hl (Nat.le_of_ble_eq_true rfl) rfl (fun ls hl => ?_)
  refine lv_iconst hx hb dX6_seatOf_11 kc_m1 ?_
  refine lv_istore (lv' := [(4, .int (-1 : Int32)), (3, .int x2), (0, .ref (kO K)), (1, .int v1), (2, .int v2)]) hx hb dX6_seatOf_12 hl (Nat.le_of_ble_eq_true rfl) rfl (fun ls hl => ?_)
  refine lv_iconst hx hb dX6_seatOf_14 kc_m1 ?_
  refine lv_istore (lv' := [(5, .int (-1 : Int32)), (4, .int (-1 : Int32)), (3, .int x2), (0, .ref (kO K)), (1, .int v1), (2, .int v2)]) hx hb dX6_seatOf_15 hl (Nat.le_of_ble_eq_true rfl) rfl (fun ls hl => ?_)
  refine lv_iconst hx hb dX6_seatOf_17 kc_0 ?_
  refine lv_istore (lv' := [(6, .int (0 : Int32)), (5, .int (-1 : Int32)), (4, .int (-1 : Int32)), (3, .int x2), (0, .ref (kO K)), (1, .int v1), (2, .int v2)]) hx hb dX6_seatOf_18 hl (Nat.le_of_ble_eq_true rfl) rfl (fun ls hl => ?_)
  obtain ⟨q4, hq4, h⟩ := ob h
  have hxq4 : ∀ (H : Heap) (locs : List Loc) (ls : Array Slot), MJ K q4.2.2 s.heap H locs → lv_has ls 8 [(0, .ref (kO K)), (1, .int v1), (2, .int v2), (3, .int x2), (4, .int q4.1), (5, .int q4.2.1)] → W p l e (rmd 8) s m args below meth c H locs 0 0 Q (F0 m 83 ls []) := by
    intro H locs ls hJ hl
    refine lv_aload_n hx hb dX6_seatOf_83 rfl (lv_at hl 0 rfl) ?_
    refine mx_ga C hJ 6 (Nat.le_of_ble_eq_true rfl) rfl lk6 dX6_seatOf_84 ?_
    refine lv_iload_n hx hb dX6_seatOf_87 rfl (lv_at hl 1 rfl) ?_
    refine lv_iload_n hx hb dX6_seatOf_88 rfl (lv_at hl 3 rfl) ?_
    obtain ⟨σ12, hσ12, h⟩ := ob h
    refine my_is C hJ 6 rfl hσ12 dX6_seatOf_89 (fun H locs hJ => ?_)
    refine lv_iload_n hx hb dX6_seatOf_90 rfl (lv_at hl 2 rfl) ?_
    refine lv_if_ne (tgt := 99) hx hb dX6_seatOf_91 (by decide) (fun hc13 => ?_) (fun hc13 => ?_)
    · have h := im h hc13
      refine lv_iload hx hb dX6_seatOf_99 (lv_at hl 5 rfl) ?_
      have h := Option.some.inj h
      subst h
      exact hE _ _ _ _ (some (.int (q4.2.1))) hJ ⟨_, rfl⟩ rfl dX6_seatOf_101
    · have h := ip h hc13
      refine lv_iload hx hb dX6_seatOf_94 (lv_at hl 4 rfl) ?_
      refine lv_goto (tgt := 101) hx hb dX6_seatOf_96 (by decide) ?_
      have h := Option.some.inj h
      subst h
      exact hE _ _ _ _ (some (.int (q4.1))) hJ ⟨_, rfl⟩ rfl dX6_seatOf_101
  refine lp_ind (P := fun (w3 : Int32 × Int32 × Int32 × MM) => ∀ (H : Heap) (locs : List Loc) (ls : Array Slot), MJ K w3.2.2.2 s.heap H locs → lv_has ls 8 [(0, .ref (kO K)), (1, .int v1), (2, .int v2), (3, .int x2), (4, .int w3.1), (5, .int w3.2.1), (6, .int w3.2.2.1)] → W p l e (rmd 8) s m args below meth c H locs 0 0 Q (F0 m 20 ls [])) ?_ _ _ hq4 _ _ _ hJ (lv_sub hl [4, 5, 6, 3, 2, 1, 0] rfl)
  intro nw3 w3 ihw3 zw3 hzw3 hqw3 H locs ls hJ hl
  refine lv_iload hx hb dX6_seatOf_20 (lv_at hl 6 rfl) ?_
  refine lv_bipush hx hb dX6_seatOf_22 kb_12 ?_
  refine lv_icmp_ge (tgt := 83) hx hb dX6_seatOf_24 (by decide) (fun hc5 => ?_) (fun hc5 => ?_)
  · have hzw3 := ip hzw3 hc5
    have hzw3 := Option.some.inj hzw3
    subst hzw3
    have hqw3 : _ = q4 := hqw3
    subst hqw3
    exact hxq4 _ _ _ hJ (lv_sub hl [0, 1, 2, 3, 4, 5] rfl)
  · have hzw3 := im hzw3 hc5
    refine lv_aload_n hx hb dX6_seatOf_27 rfl (lv_at hl 0 rfl) ?_
    refine mx_ga C hJ 6 (Nat.le_of_ble_eq_true rfl) rfl lk6 dX6_seatOf_28 ?_
    refine lv_iload_n hx hb dX6_seatOf_31 rfl (lv_at hl 1 rfl) ?_
    refine lv_iload hx hb dX6_seatOf_32 (lv_at hl 6 rfl) ?_
    obtain ⟨σ6, hσ6, hzw3⟩ := ob hzw3
    refine my_is C hJ 6 rfl hσ6 dX6_seatOf_34 (fun H locs hJ => ?_)
    refine lv_aload_n hx hb dX6_seatOf_35 rfl (lv_at hl 0 rfl) ?_
    obtain ⟨c7, hc7, hzw3⟩ := ob hzw3
    refine mc_V (As := []) (rest := []) C hJ (metM_runs l σ6 c7 hc7) (cwV 0 hts (lw_V q1470 q1472 qs65 q118 q1473) rfl rfl rfl hdM_runs ⟨Nat.le_of_ble_eq_true rfl, Nat.le_of_ble_eq_true rfl⟩) rfl hl.1 rfl (lv_room (Nat.le_of_ble_eq_true rfl)) dX6_seatOf_36 (fun H locs hJ => ?_)
    refine lv_aload_n hx hb dX6_seatOf_39 rfl (lv_at hl 0 rfl) ?_
    obtain ⟨c8, hc8, hzw3⟩ := ob hzw3
    refine mc_V (As := []) (rest := []) C hJ (metM_carriedNow l c7 c8 hc8) (cwV 0 hts (lw_V q1565 q1567 qs84 q118 q1568) rfl rfl rfl hdM_carriedNow ⟨Nat.le_of_ble_eq_true rfl, Nat.le_of_ble_eq_true rfl⟩) rfl hl.1 rfl (lv_room (Nat.le_of_ble_eq_true rfl)) dX6_seatOf_40 (fun H locs hJ => ?_)
    refine lv_istore (lv' := [(7, .int c8), (0, .ref (kO K)), (1, .int v1), (2, .int v2), (3, .int x2), (4, .int w3.1), (5, .int w3.2.1), (6, .int w3.2.2.1)]) hx hb dX6_seatOf_43 hl (Nat.le_of_ble_eq_true rfl) rfl (fun ls hl => ?_)
    refine lv_iload hx hb dX6_seatOf_45 (lv_at hl 0 rfl) ?_
    refine lv_iload hx hb dX6_seatOf_47 (lv_at hl 6 rfl) ?_
    obtain ⟨q10, hq10, hzw3⟩ := ob hzw3
    have hjq10 : ∀ (H : Heap) (locs : List Loc) (ls : Array Slot), MJ K c7 s.heap H locs → lv_has ls 8 [(0, .ref (kO K)), (1, .int v1), (2, .int v2), (3, .int x2), (5, .int w3.2.1), (6, .int w3.2.2.1), (7, .int c8)] → W p l e (rmd 8) s m args below meth c H locs 0 0 Q (F0 m 59 ls [.int q10]) := by
      intro H locs ls hJ hl
      refine lv_istore (lv' := [(4, .int q10), (0, .ref (kO K)), (1, .int v1), (2, .int v2), (3, .int x2), (5, .int w3.2.1), (6, .int w3.2.2.1), (7, .int c8)]) hx hb dX6_seatOf_59 hl (Nat.le_of_ble_eq_true rfl) rfl (fun ls hl => ?_)
      refine lv_iload hx hb dX6_seatOf_61 (lv_at hl 7 rfl) ?_
      refine lv_iload hx hb dX6_seatOf_63 (lv_at hl 5 rfl) ?_
      refine lv_icmp_le (tgt := 73) hx hb dX6_seatOf_65 (by decide) (fun hc11 => ?_) (fun hc11 => ?_)
      · have hzw3 := ip hzw3 hc11
        refine lv_iload hx hb dX6_seatOf_73 (lv_at hl 5 rfl) ?_
        refine lv_istore (lv' := [(5, .int w3.2.1), (4, .int q10), (0, .ref (kO K)), (1, .int v1), (2, .int v2), (3, .int x2), (6, .int w3.2.2.1), (7, .int c8)]) hx hb dX6_seatOf_75 hl (Nat.le_of_ble_eq_true rfl) rfl (fun ls hl => ?_)
        refine lv_iinc (v := (w3.2.2.1 + 1)) (lv' := [(6, .int (w3.2.2.1 + 1)), (5, .int w3.2.1), (4, .int q10), (0, .ref (kO K)), (1, .int v1), (2, .int v2), (3, .int x2), (7, .int c8)]) hx hb dX6_seatOf_77 hl (k := 6) rfl rfl (Nat.le_of_ble_eq_true rfl) rfl (fun ls hl => ?_)
        refine lv_goto (tgt := 20) hx hb dX6_seatOf_80 (by decide) ?_
        have hzw3 := Option.some.inj hzw3
        subst hzw3
        exact ihw3 _ hqw3 _ _ _ hJ (lv_sub hl [3, 4, 5, 6, 2, 1, 0] rfl)
      · have hzw3 := im hzw3 hc11
        refine lv_iload hx hb dX6_seatOf_68 (lv_at hl 7 rfl) ?_
        refine lv_goto (tgt := 75) hx hb dX6_seatOf_70 (by decide) ?_
        refine lv_istore (lv' := [(5, .int c8), (4, .int q10), (0, .ref (kO K)), (1, .int v1), (2, .int v2), (3, .int x2), (6, .int w3.2.2.1), (7, .int c8)]) hx hb dX6_seatOf_75 hl (Nat.le_of_ble_eq_true rfl) rfl (fun ls hl => ?_)
        refine lv_iinc (v := (w3.2.2.1 + 1)) (lv' := [(6, .int (w3.2.2.1 + 1)), (5, .int c8), (4, .int q10), (0, .ref (kO K)), (1, .int v1), (2, .int v2), (3, .int x2), (7, .int c8)]) hx hb dX6_seatOf_77 hl (k := 6) rfl rfl (Nat.le_of_ble_eq_true rfl) rfl (fun ls hl => ?_)
        refine lv_goto (tgt := 20) hx hb dX6_seatOf_80 (by decide) ?_
        have hzw3 := Option.some.inj hzw3
        subst hzw3
        exact ihw3 _ hqw3 _ _ _ hJ (lv_sub hl [3, 4, 5, 6, 2, 1, 0] rfl)
    refine lv_icmp_le (tgt := 57) hx hb dX6_seatOf_49 (by decide) (fun hc9 => ?_) (fun hc9 => ?_)
    · have hq10 := ip hq10 hc9
      refine lv_iload hx hb dX6_seatOf_57 (lv_at hl 5 rfl) ?_
      have hq10 := Option.some.inj hq10
      subst hq10
      exact hjq10 _ _ _ hJ (lv_sub hl [1, 2, 3, 4, 6, 7, 0] rfl)
    · have hq10 := im hq10 hc9
      refine lv_iload hx hb dX6_seatOf_52 (lv_at hl 7 rfl) ?_
      refine lv_goto (tgt := 59) hx hb dX6_seatOf_54 (by decide) ?_
      have hq10 := Option.some.inj hq10
      subst hq10
      exact hjq10 _ _ _ hJ (lv_sub hl [1, 2, 3, 4, 6, 7, 0] rfl)
def M_more (σ : MM) (v1 : Int32) (v2 : Int32) (v3 : Int32) : Option (MM) :=
  (mpf σ 12 ((σ 8 0) + (1 : Int32))).bind fun σ1 =>
  (mst σ1 13 (σ1 8 0) v1).bind fun σ2 =>
  (mst σ2 14 (σ2 8 0) v2).bind fun σ3 =>
  (mst σ3 15 (σ3 8 0) v3).bind fun σ4 =>
  (M_runs σ4).bind fun c5 =>
  some c5
theorem hdM_more : yX6_more.cls = RX6 ∧ yX6_more.cls ≠ "java/lang/invoke/MethodHandle" ∧ yX6_more.cls ≠ "java/lang/invoke/VarHandle" ∧ (parseMethodDescriptor yX6_more.desc).map (fun d => d.parameters.length) = some 3 := by decide +kernel
set_option maxHeartbeats 4000000 in
theorem metM_more (l : Launch) (σ : MM) (v1 : Int32) (v2 : Int32) (v3 : Int32) (res : MM) (h : M_more σ v1 v2 v3 = some res) : MetM l yX6_more cX6_more 4 none 8 (fun K => [.ref (kO K), .int v1, .int v2, .int v3]) σ none res := by
  refine met_walk rfl (by simp [mRt]) (fun _ => Nat.le_of_ble_eq_true rfl) (fun K p e s m args below meth c Q C hE ls hl hJ => ?_)
  have hx := C.1.1
  have hb := C.1.2.1
  have hown := C.1.2.2.2.1
  have hts := C.1.2.2.2.2
  have hl : lv_has ls 4 [(0, .ref (kO K)), (1, .int v1), (2, .int v2), (3, .int v3)] := hl
  unfold M_more at h
  refine lv_aload_n hx hb dX6_more_0 rfl (lv_at hl 0 rfl) ?_
  refine lv_aload_n hx hb dX6_more_1 rfl (lv_at hl 0 rfl) ?_
  refine mx_gi C hJ 8 (Nat.le_of_ble_eq_true rfl) rfl lk8 dX6_more_2 ?_
  refine lv_iconst hx hb dX6_more_5 kc_1 ?_
  refine lv_iadd hx hb dX6_more_6 ?_
  obtain ⟨σ1, hσ1, h⟩ := ob h
  refine my_pi C hJ 12 (Nat.le_of_ble_eq_true rfl) rfl rfl rfl lk12 hσ1 dX6_more_7 (fun H locs hJ => ?_)
  refine lv_aload_n hx hb dX6_more_10 rfl (lv_at hl 0 rfl) ?_
  refine mx_ga C hJ 13 (Nat.le_of_ble_eq_true rfl) rfl lk13 dX6_more_11 ?_
  refine lv_aload_n hx hb dX6_more_14 rfl (lv_at hl 0 rfl) ?_
  refine mx_gi C hJ 8 (Nat.le_of_ble_eq_true rfl) rfl lk8 dX6_more_15 ?_
  refine lv_iload_n hx hb dX6_more_18 rfl (lv_at hl 1 rfl) ?_
  obtain ⟨σ2, hσ2, h⟩ := ob h
  refine my_is C hJ 13 rfl hσ2 dX6_more_19 (fun H locs hJ => ?_)
  refine lv_aload_n hx hb dX6_more_20 rfl (lv_at hl 0 rfl) ?_
  refine mx_ga C hJ 14 (Nat.le_of_ble_eq_true rfl) rfl lk14 dX6_more_21 ?_
  refine lv_aload_n hx hb dX6_more_24 rfl (lv_at hl 0 rfl) ?_
  refine mx_gi C hJ 8 (Nat.le_of_ble_eq_true rfl) rfl lk8 dX6_more_25 ?_
  refine lv_iload_n hx hb dX6_more_28 rfl (lv_at hl 2 rfl) ?_
  obtain ⟨σ3, hσ3, h⟩ := ob h
  refine my_is C hJ 14 rfl hσ3 dX6_more_29 (fun H locs hJ => ?_)
  refine lv_aload_n hx hb dX6_more_30 rfl (lv_at hl 0 rfl) ?_
  refine mx_ga C hJ 15 (Nat.le_of_ble_eq_true rfl) rfl lk15 dX6_more_31 ?_
  refine lv_aload_n hx hb dX6_more_34 rfl (lv_at hl 0 rfl) ?_
  refine mx_gi C hJ 8 (Nat.le_of_ble_eq_true rfl) rfl lk8 dX6_more_35 ?_
  refine lv_iload_n hx hb dX6_more_38 rfl (lv_at hl 3 rfl) ?_
  obtain ⟨σ4, hσ4, h⟩ := ob h
  refine my_is C hJ 15 rfl hσ4 dX6_more_39 (fun H locs hJ => ?_)
  refine lv_aload_n hx hb dX6_more_40 rfl (lv_at hl 0 rfl) ?_
  obtain ⟨c5, hc5, h⟩ := ob h
  refine mc_V (As := []) (rest := []) C hJ (metM_runs l σ4 c5 hc5) (cwV 0 hts (lw_V q1470 q1472 qs65 q118 q1473) rfl rfl rfl hdM_runs ⟨Nat.le_of_ble_eq_true rfl, Nat.le_of_ble_eq_true rfl⟩) rfl hl.1 rfl (lv_room (Nat.le_of_ble_eq_true rfl)) dX6_more_41 (fun H locs hJ => ?_)
  have h := Option.some.inj h
  subst h
  exact hE _ _ _ _ none hJ rfl rfl dX6_more_44
def M_isCalm (σ : MM) (v1 : Int32) : Option (Int32 × MM) :=
  (mpf σ 16 v1).bind fun σ1 =>
  (M_runs σ1).bind fun c2 =>
  (M_carriedNow c2).bind fun c3 =>
  if c3 = (20 : Int32) then
    some ((1 : Int32), c2)
  else
    some ((0 : Int32), c2)
theorem hdM_isCalm : yX6_isCalm.cls = RX6 ∧ yX6_isCalm.cls ≠ "java/lang/invoke/MethodHandle" ∧ yX6_isCalm.cls ≠ "java/lang/invoke/VarHandle" ∧ (parseMethodDescriptor yX6_isCalm.desc).map (fun d => d.parameters.length) = some 1 := by decide +kernel
set_option maxHeartbeats 4000000 in
theorem metM_isCalm (l : Launch) (σ : MM) (v1 : Int32) (res : Int32 × MM) (h : M_isCalm σ v1 = some res) : MetM l yX6_isCalm cX6_isCalm 2 (some .boolean) 8 (fun K => [.ref (kO K), .int v1]) σ (some (.int res.1)) res.2 := by
  refine met_walk rfl (by simp [mRt]) (fun _ => Nat.le_of_ble_eq_true rfl) (fun K p e s m args below meth c Q C hE ls hl hJ => ?_)
  have hx := C.1.1
  have hb := C.1.2.1
  have hown := C.1.2.2.2.1
  have hts := C.1.2.2.2.2
  have hl : lv_has ls 2 [(0, .ref (kO K)), (1, .int v1)] := hl
  unfold M_isCalm at h
  refine lv_aload_n hx hb dX6_isCalm_0 rfl (lv_at hl 0 rfl) ?_
  refine lv_iload_n hx hb dX6_isCalm_1 rfl (lv_at hl 1 rfl) ?_
  obtain ⟨σ1, hσ1, h⟩ := ob h
  refine my_pi C hJ 16 (Nat.le_of_ble_eq_true rfl) rfl rfl rfl lk16 hσ1 dX6_isCalm_2 (fun H locs hJ => ?_)
  refine lv_aload_n hx hb dX6_isCalm_5 rfl (lv_at hl 0 rfl) ?_
  obtain ⟨c2, hc2, h⟩ := ob h
  refine mc_V (As := []) (rest := []) C hJ (metM_runs l σ1 c2 hc2) (cwV 0 hts (lw_V q1470 q1472 qs65 q118 q1473) rfl rfl rfl hdM_runs ⟨Nat.le_of_ble_eq_true rfl, Nat.le_of_ble_eq_true rfl⟩) rfl hl.1 rfl (lv_room (Nat.le_of_ble_eq_true rfl)) dX6_isCalm_6 (fun H locs hJ => ?_)
  refine lv_aload_n hx hb dX6_isCalm_9 rfl (lv_at hl 0 rfl) ?_
  obtain ⟨c3, hc3, h⟩ := ob h
  refine mc_V (As := []) (rest := []) C hJ (metM_carriedNow l c2 c3 hc3) (cwV 0 hts (lw_V q1565 q1567 qs84 q118 q1568) rfl rfl rfl hdM_carriedNow ⟨Nat.le_of_ble_eq_true rfl, Nat.le_of_ble_eq_true rfl⟩) rfl hl.1 rfl (lv_room (Nat.le_of_ble_eq_true rfl)) dX6_isCalm_10 (fun H locs hJ => ?_)
  refine lv_bipush hx hb dX6_isCalm_13 kb_20 ?_
  refine lv_icmp_ne (tgt := 22) hx hb dX6_isCalm_15 (by decide) (fun hc4 => ?_) (fun hc4 => ?_)
  · have h := im h hc4
    refine lv_iconst hx hb dX6_isCalm_22 kc_0 ?_
    have h := Option.some.inj h
    subst h
    exact hE _ _ _ _ (some (.int (0 : Int32))) hJ ⟨_, rfl⟩ mz0 dX6_isCalm_23
  · have h := ip h hc4
    refine lv_iconst hx hb dX6_isCalm_18 kc_1 ?_
    refine lv_goto (tgt := 23) hx hb dX6_isCalm_19 (by decide) ?_
    have h := Option.some.inj h
    subst h
    exact hE _ _ _ _ (some (.int (1 : Int32))) hJ ⟨_, rfl⟩ mz1 dX6_isCalm_23
def M_isSeen (σ : MM) : Option (Int32 × MM) :=
  (M_runs σ).bind fun c1 =>
  (lp (S := Int32 × Int32) (T := Int32) (fun w2 =>
    if (c1 31 0) ≤ w2.2 then
        some (.inr w2.1)
      else
        if w2.1 = 0 then
          some (.inr w2.1)
        else
          (mld c1 33 w2.2).bind fun x6 =>
          if (c1 4 0) ≤ x6 then
            some (.inl ((0 : Int32), (w2.2 + 1)))
          else
            (mld c1 32 w2.2).bind fun x8 =>
            (mld c1 33 w2.2).bind fun x9 =>
            (mld c1 24 (((8 : Int32) * x8) + x9)).bind fun x10 =>
            (mld c1 34 w2.2).bind fun x11 =>
            if x10 = x11 then
              some (.inl ((1 : Int32), (w2.2 + 1)))
            else
              some (.inl ((0 : Int32), (w2.2 + 1)))) 2000 ((1 : Int32), (0 : Int32))).bind fun q3 =>
  some ((bz q3), c1)
theorem hdM_isSeen : yX6_isSeen.cls = RX6 ∧ yX6_isSeen.cls ≠ "java/lang/invoke/MethodHandle" ∧ yX6_isSeen.cls ≠ "java/lang/invoke/VarHandle" ∧ (parseMethodDescriptor yX6_isSeen.desc).map (fun d => d.parameters.length) = some 0 := by decide +kernel
set_option maxHeartbeats 4000000 in
theorem metM_isSeen (l : Launch) (σ : MM) (res : Int32 × MM) (h : M_isSeen σ = some res) : MetM l yX6_isSeen cX6_isSeen 3 (some .boolean) 8 (fun K => [.ref (kO K)]) σ (some (.int res.1)) res.2 := by
  refine met_walk rfl (by simp [mRt]) (fun _ => Nat.le_of_ble_eq_true rfl) (fun K p e s m args below meth c Q C hE ls hl hJ => ?_)
  have hx := C.1.1
  have hb := C.1.2.1
  have hown := C.1.2.2.2.1
  have hts := C.1.2.2.2.2
  have hl : lv_has ls 3 [(0, .ref (kO K))] := hl
  unfold M_isSeen at h
  refine lv_aload_n hx hb dX6_isSeen_0 rfl (lv_at hl 0 rfl) ?_
  obtain ⟨c1, hc1, h⟩ := ob h
  refine mc_V (As := []) (rest := []) C hJ (metM_runs l σ c1 hc1) (cwV 0 hts (lw_V q1470 q1472 qs65 q118 q1473) rfl rfl rfl hdM_runs ⟨Nat.le_of_ble_eq_true rfl, Nat.le_of_ble_eq_true rfl⟩) rfl hl.1 rfl (lv_room (Nat.le_of_ble_eq_true rfl)) dX6_isSeen_1 (fun H locs hJ => ?_)
  refine lv_iconst hx hb dX6_isSeen_4 kc_1 ?_
  refine lv_istore_n (lv' := [(1, .int (1 : Int32)), (0, .ref (kO K))]) hx hb dX6_isSeen_5 rfl hl (Nat.le_of_ble_eq_true rfl) rfl (fun ls hl => ?_)
  refine lv_iconst hx hb dX6_isSeen_6 kc_0 ?_
  refine lv_istore_n (lv' := [(2, .int (0 : Int32)), (1, .int (1 : Int32)), (0, .ref (kO K))]) hx hb dX6_isSeen_7 rfl hl (Nat.le_of_ble_eq_true rfl) rfl (fun ls hl => ?_)
  obtain ⟨q3, hq3, h⟩ := ob h
  have hxq3 : ∀ (H : Heap) (locs : List Loc) (ls : Array Slot), MJ K c1 s.heap H locs → lv_has ls 3 [(1, .int q3)] → W p l e (rmd 8) s m args below meth c H locs 0 0 Q (F0 m 75 ls []) := by
    intro H locs ls hJ hl
    refine lv_iload_n hx hb dX6_isSeen_75 rfl (lv_at hl 0 rfl) ?_
    have h := Option.some.inj h
    subst h
    exact hE _ _ _ _ (some (.int q3)) hJ ⟨_, rfl⟩ rfl dX6_isSeen_76
  refine lp_ind (P := fun (w2 : Int32 × Int32) => ∀ (H : Heap) (locs : List Loc) (ls : Array Slot), MJ K c1 s.heap H locs → lv_has ls 3 [(0, .ref (kO K)), (1, .int w2.1), (2, .int w2.2)] → W p l e (rmd 8) s m args below meth c H locs 0 0 Q (F0 m 8 ls [])) ?_ _ _ hq3 _ _ _ hJ (lv_sub hl [2, 1, 0] rfl)
  intro nw2 w2 ihw2 zw2 hzw2 hqw2 H locs ls hJ hl
  refine lv_iload_n hx hb dX6_isSeen_8 rfl (lv_at hl 2 rfl) ?_
  refine lv_aload_n hx hb dX6_isSeen_9 rfl (lv_at hl 0 rfl) ?_
  refine mx_gi C hJ 31 (Nat.le_of_ble_eq_true rfl) rfl lk31 dX6_isSeen_10 ?_
  refine lv_icmp_ge (tgt := 75) hx hb dX6_isSeen_13 (by decide) (fun hc4 => ?_) (fun hc4 => ?_)
  · have hzw2 := ip hzw2 hc4
    have hzw2 := Option.some.inj hzw2
    subst hzw2
    have hqw2 : _ = q3 := hqw2
    subst hqw2
    exact hxq3 _ _ _ hJ (lv_sub hl [1] rfl)
  · have hzw2 := im hzw2 hc4
    refine lv_iload_n hx hb dX6_isSeen_16 rfl (lv_at hl 1 rfl) ?_
    refine lv_if_eq (tgt := 75) hx hb dX6_isSeen_17 (by decide) (fun hc5 => ?_) (fun hc5 => ?_)
    · have hzw2 := ip hzw2 hc5
      have hzw2 := Option.some.inj hzw2
      subst hzw2
      have hqw2 : _ = q3 := hqw2
      subst hqw2
      exact hxq3 _ _ _ hJ (lv_sub hl [1] rfl)
    · have hzw2 := im hzw2 hc5
      refine lv_aload_n hx hb dX6_isSeen_20 rfl (lv_at hl 0 rfl) ?_
      refine mx_ga C hJ 33 (Nat.le_of_ble_eq_true rfl) rfl lk33 dX6_isSeen_21 ?_
      refine lv_iload_n hx hb dX6_isSeen_24 rfl (lv_at hl 2 rfl) ?_
      obtain ⟨x6, hx6, hzw2⟩ := ob hzw2
      refine my_il C hJ 33 rfl hx6 dX6_isSeen_25 ?_
      refine lv_aload_n hx hb dX6_isSeen_26 rfl (lv_at hl 0 rfl) ?_
      refine mx_gi C hJ 4 (Nat.le_of_ble_eq_true rfl) rfl lk4 dX6_isSeen_27 ?_
      refine lv_icmp_ge (tgt := 67) hx hb dX6_isSeen_30 (by decide) (fun hc7 => ?_) (fun hc7 => ?_)
      · have hzw2 := ip hzw2 hc7
        refine lv_iconst hx hb dX6_isSeen_67 kc_0 ?_
        refine lv_istore_n (lv' := [(1, .int (0 : Int32)), (0, .ref (kO K)), (2, .int w2.2)]) hx hb dX6_isSeen_68 rfl hl (Nat.le_of_ble_eq_true rfl) rfl (fun ls hl => ?_)
        refine lv_iinc (v := (w2.2 + 1)) (lv' := [(2, .int (w2.2 + 1)), (1, .int (0 : Int32)), (0, .ref (kO K))]) hx hb dX6_isSeen_69 hl (k := 2) rfl rfl (Nat.le_of_ble_eq_true rfl) rfl (fun ls hl => ?_)
        refine lv_goto (tgt := 8) hx hb dX6_isSeen_72 (by decide) ?_
        have hzw2 := Option.some.inj hzw2
        subst hzw2
        exact ihw2 _ hqw2 _ _ _ hJ (lv_sub hl [2, 1, 0] rfl)
      · have hzw2 := im hzw2 hc7
        refine lv_aload_n hx hb dX6_isSeen_33 rfl (lv_at hl 0 rfl) ?_
        refine mx_ga C hJ 24 (Nat.le_of_ble_eq_true rfl) rfl lk24 dX6_isSeen_34 ?_
        refine lv_bipush hx hb dX6_isSeen_37 kb_8 ?_
        refine lv_aload_n hx hb dX6_isSeen_39 rfl (lv_at hl 0 rfl) ?_
        refine mx_ga C hJ 32 (Nat.le_of_ble_eq_true rfl) rfl lk32 dX6_isSeen_40 ?_
        refine lv_iload_n hx hb dX6_isSeen_43 rfl (lv_at hl 2 rfl) ?_
        obtain ⟨x8, hx8, hzw2⟩ := ob hzw2
        refine my_il C hJ 32 rfl hx8 dX6_isSeen_44 ?_
        refine lv_imul hx hb dX6_isSeen_45 ?_
        refine lv_aload_n hx hb dX6_isSeen_46 rfl (lv_at hl 0 rfl) ?_
        refine mx_ga C hJ 33 (Nat.le_of_ble_eq_true rfl) rfl lk33 dX6_isSeen_47 ?_
        refine lv_iload_n hx hb dX6_isSeen_50 rfl (lv_at hl 2 rfl) ?_
        obtain ⟨x9, hx9, hzw2⟩ := ob hzw2
        refine my_il C hJ 33 rfl hx9 dX6_isSeen_51 ?_
        refine lv_iadd hx hb dX6_isSeen_52 ?_
        obtain ⟨x10, hx10, hzw2⟩ := ob hzw2
        refine my_il C hJ 24 rfl hx10 dX6_isSeen_53 ?_
        refine lv_aload_n hx hb dX6_isSeen_54 rfl (lv_at hl 0 rfl) ?_
        refine mx_ga C hJ 34 (Nat.le_of_ble_eq_true rfl) rfl lk34 dX6_isSeen_55 ?_
        refine lv_iload_n hx hb dX6_isSeen_58 rfl (lv_at hl 2 rfl) ?_
        obtain ⟨x11, hx11, hzw2⟩ := ob hzw2
        refine my_il C hJ 34 rfl hx11 dX6_isSeen_59 ?_
        refine lv_icmp_ne (tgt := 67) hx hb dX6_isSeen_60 (by decide) (fun hc12 => ?_) (fun hc12 => ?_)
        · have hzw2 := im hzw2 hc12
          refine lv_iconst hx hb dX6_isSeen_67 kc_0 ?_
          refine lv_istore_n (lv' := [(1, .int (0 : Int32)), (0, .ref (kO K)), (2, .int w2.2)]) hx hb dX6_isSeen_68 rfl hl (Nat.le_of_ble_eq_true rfl) rfl (fun ls hl => ?_)
          refine lv_iinc (v := (w2.2 + 1)) (lv' := [(2, .int (w2.2 + 1)), (1, .int (0 : Int32)), (0, .ref (kO K))]) hx hb dX6_isSeen_69 hl (k := 2) rfl rfl (Nat.le_of_ble_eq_true rfl) rfl (fun ls hl => ?_)
          refine lv_goto (tgt := 8) hx hb dX6_isSeen_72 (by decide) ?_
          have hzw2 := Option.some.inj hzw2
          subst hzw2
          exact ihw2 _ hqw2 _ _ _ hJ (lv_sub hl [2, 1, 0] rfl)
        · have hzw2 := ip hzw2 hc12
          refine lv_iconst hx hb dX6_isSeen_63 kc_1 ?_
          refine lv_goto (tgt := 68) hx hb dX6_isSeen_64 (by decide) ?_
          refine lv_istore_n (lv' := [(1, .int (1 : Int32)), (0, .ref (kO K)), (2, .int w2.2)]) hx hb dX6_isSeen_68 rfl hl (Nat.le_of_ble_eq_true rfl) rfl (fun ls hl => ?_)
          refine lv_iinc (v := (w2.2 + 1)) (lv' := [(2, .int (w2.2 + 1)), (1, .int (1 : Int32)), (0, .ref (kO K))]) hx hb dX6_isSeen_69 hl (k := 2) rfl rfl (Nat.le_of_ble_eq_true rfl) rfl (fun ls hl => ?_)
          refine lv_goto (tgt := 8) hx hb dX6_isSeen_72 (by decide) ?_
          have hzw2 := Option.some.inj hzw2
          subst hzw2
          exact ihw2 _ hqw2 _ _ _ hJ (lv_sub hl [2, 1, 0] rfl)
def M_chanceOf (σ : MM) (v1 : Int32) (v2 : Int32) (v3 : Int32) : Option (Int64 × MM) :=
  (M_asTold σ).bind fun c1 =>
  (lp (S := Int64 × Int32 × MM) (T := Int64 × MM) (fun w2 =>
    if ((1 : Int32) <<< ((w2.2.2 8 0) &&& 31)) ≤ w2.2.1 then
        some (.inr (w2.1, w2.2.2))
      else
        (lp (S := Int64 × Int32) (T := Int64) (fun w5 =>
          if (w2.2.2 8 0) ≤ w5.2 then
              some (.inr w5.1)
            else
              (M_isIn w2.2.2 w2.2.1 w5.2).bind fun c8 =>
              (if c8 = 0 then
                  some v1.toInt64
                else
                  some (((16 : Int32) - v1).toInt64) : Option (Int64)).bind fun q10 =>
              some (.inl ((w5.1 * q10), (w5.2 + 1)))) 2000 ((1 : Int64), (0 : Int32))).bind fun q6 =>
        if (lg_cmp q6 (0 : Int64)) ≤ 0 then
          some (.inl (w2.1, (w2.2.1 + 1), w2.2.2))
        else
          (mpf w2.2.2 16 w2.2.1).bind fun σ12 =>
          (M_runs σ12).bind fun c13 =>
          (M_isCarried c13 v2).bind fun c14 =>
          (if c14 = 0 then
              some (0 : Int64)
            else
              some q6 : Option (Int64)).bind fun q16 =>
          some (.inl ((w2.1 + q16), (w2.2.1 + 1), c13))) 2000 ((0 : Int64), (0 : Int32), c1)).bind fun q3 =>
  (M_lowest q3.2 q3.1 ((1 : Int64) <<< (((4 : Int32) * (q3.2 8 0)).toInt64 &&& 63)) v3).bind fun c17 =>
  some (c17, q3.2)
theorem hdM_chanceOf : yX6_chanceOf.cls = RX6 ∧ yX6_chanceOf.cls ≠ "java/lang/invoke/MethodHandle" ∧ yX6_chanceOf.cls ≠ "java/lang/invoke/VarHandle" ∧ (parseMethodDescriptor yX6_chanceOf.desc).map (fun d => d.parameters.length) = some 3 := by decide +kernel
set_option maxHeartbeats 4000000 in
theorem metM_chanceOf (l : Launch) (σ : MM) (v1 : Int32) (v2 : Int32) (v3 : Int32) (res : Int64 × MM) (h : M_chanceOf σ v1 v2 v3 = some res) : MetM l yX6_chanceOf cX6_chanceOf 10 (some .long) 8 (fun K => [.ref (kO K), .int v1, .int v2, .int v3]) σ (some (.long res.1)) res.2 := by
  refine met_walk rfl (by simp [mRt]) (fun _ => Nat.le_of_ble_eq_true rfl) (fun K p e s m args below meth c Q C hE ls hl hJ => ?_)
  have hx := C.1.1
  have hb := C.1.2.1
  have hown := C.1.2.2.2.1
  have hts := C.1.2.2.2.2
  have hl : lv_has ls 10 [(0, .ref (kO K)), (1, .int v1), (2, .int v2), (3, .int v3)] := hl
  unfold M_chanceOf at h
  refine lv_aload_n hx hb dX6_chanceOf_0 rfl (lv_at hl 0 rfl) ?_
  obtain ⟨c1, hc1, h⟩ := ob h
  refine mc_V (As := []) (rest := []) C hJ (metM_asTold l σ c1 hc1) (cwV 0 hts (lw_V q1466 q1468 qs64 q118 q1469) rfl rfl rfl hdM_asTold ⟨Nat.le_of_ble_eq_true rfl, Nat.le_of_ble_eq_true rfl⟩) rfl hl.1 rfl (lv_room (Nat.le_of_ble_eq_true rfl)) dX6_chanceOf_1 (fun H locs hJ => ?_)
  refine lv_lconst (v := (0 : Int64)) hx hb dX6_chanceOf_4 rfl ?_
  refine lv_lstore (lv' := [(4, .long (0 : Int64)), (0, .ref (kO K)), (1, .int v1), (2, .int v2), (3, .int v3)]) hx hb dX6_chanceOf_5 hl (Nat.le_of_ble_eq_true rfl) rfl (fun ls hl => ?_)
  refine lv_iconst hx hb dX6_chanceOf_7 kc_0 ?_
  refine lv_istore (lv' := [(6, .int (0 : Int32)), (4, .long (0 : Int64)), (0, .ref (kO K)), (1, .int v1), (2, .int v2), (3, .int v3)]) hx hb dX6_chanceOf_8 hl (Nat.le_of_ble_eq_true rfl) rfl (fun ls hl => ?_)
  obtain ⟨q3, hq3, h⟩ := ob h
  have hxq3 : ∀ (H : Heap) (locs : List Loc) (ls : Array Slot), MJ K q3.2 s.heap H locs → lv_has ls 10 [(0, .ref (kO K)), (3, .int v3), (4, .long q3.1)] → W p l e (rmd 8) s m args below meth c H locs 0 0 Q (F0 m 109 ls []) := by
    intro H locs ls hJ hl
    refine lv_lload hx hb dX6_chanceOf_109 (lv_at hl 2 rfl) ?_
    refine lv_lconst (v := (1 : Int64)) hx hb dX6_chanceOf_111 rfl ?_
    refine lv_iconst hx hb dX6_chanceOf_112 kc_4 ?_
    refine lv_aload_n hx hb dX6_chanceOf_113 rfl (lv_at hl 0 rfl) ?_
    refine mx_gi C hJ 8 (Nat.le_of_ble_eq_true rfl) rfl lk8 dX6_chanceOf_114 ?_
    refine lv_imul hx hb dX6_chanceOf_117 ?_
    refine lv_lshl (v := ((1 : Int64) <<< (((4 : Int32) * (q3.2 8 0)).toInt64 &&& 63))) hx hb dX6_chanceOf_118 rfl ?_
    refine lv_iload_n hx hb dX6_chanceOf_119 rfl (lv_at hl 1 rfl) ?_
    obtain ⟨c17, hc17, h⟩ := ob h
    refine mc_S (As := [.long q3.1, .long ((1 : Int64) <<< (((4 : Int32) * (q3.2 8 0)).toInt64 &&& 63)), .int v3]) (rest := []) C hJ (metM_lowest l q3.2 q3.1 ((1 : Int64) <<< (((4 : Int32) * (q3.2 8 0)).toInt64 &&& 63)) v3 c17 hc17) (va_cwS 3 hts (lw_S q1689 q1690 q118 q1691) rfl rfl rfl hdM_lowest ⟨Nat.le_of_ble_eq_true rfl, Nat.le_of_ble_eq_true rfl⟩) rfl hl.1 rfl (lv_room (Nat.le_of_ble_eq_true rfl)) dX6_chanceOf_120 (fun H locs hJ => ?_)
    have h := Option.some.inj h
    subst h
    exact hE _ _ _ _ (some (.long (c17))) hJ ⟨_, rfl⟩ rfl dX6_chanceOf_123
  refine lp_ind (P := fun (w2 : Int64 × Int32 × MM) => ∀ (H : Heap) (locs : List Loc) (ls : Array Slot), MJ K w2.2.2 s.heap H locs → lv_has ls 10 [(0, .ref (kO K)), (1, .int v1), (2, .int v2), (3, .int v3), (4, .long w2.1), (6, .int w2.2.1)] → W p l e (rmd 8) s m args below meth c H locs 0 0 Q (F0 m 10 ls [])) ?_ _ _ hq3 _ _ _ hJ (lv_sub hl [2, 3, 4, 5, 1, 0] rfl)
  intro nw2 w2 ihw2 zw2 hzw2 hqw2 H locs ls hJ hl
  refine lv_iload hx hb dX6_chanceOf_10 (lv_at hl 5 rfl) ?_
  refine lv_iconst hx hb dX6_chanceOf_12 kc_1 ?_
  refine lv_aload_n hx hb dX6_chanceOf_13 rfl (lv_at hl 0 rfl) ?_
  refine mx_gi C hJ 8 (Nat.le_of_ble_eq_true rfl) rfl lk8 dX6_chanceOf_14 ?_
  refine lv_ishl hx hb dX6_chanceOf_17 ?_
  refine lv_icmp_ge (tgt := 109) hx hb dX6_chanceOf_18 (by decide) (fun hc4 => ?_) (fun hc4 => ?_)
  · have hzw2 := ip hzw2 hc4
    have hzw2 := Option.some.inj hzw2
    subst hzw2
    have hqw2 : _ = q3 := hqw2
    subst hqw2
    exact hxq3 _ _ _ hJ (lv_sub hl [0, 3, 4] rfl)
  · have hzw2 := im hzw2 hc4
    refine lv_lconst (v := (1 : Int64)) hx hb dX6_chanceOf_21 rfl ?_
    refine lv_lstore (lv' := [(7, .long (1 : Int64)), (0, .ref (kO K)), (1, .int v1), (2, .int v2), (3, .int v3), (4, .long w2.1), (6, .int w2.2.1)]) hx hb dX6_chanceOf_22 hl (Nat.le_of_ble_eq_true rfl) rfl (fun ls hl => ?_)
    refine lv_iconst hx hb dX6_chanceOf_24 kc_0 ?_
    refine lv_istore (lv' := [(9, .int (0 : Int32)), (7, .long (1 : Int64)), (0, .ref (kO K)), (1, .int v1), (2, .int v2), (3, .int v3), (4, .long w2.1), (6, .int w2.2.1)]) hx hb dX6_chanceOf_25 hl (Nat.le_of_ble_eq_true rfl) rfl (fun ls hl => ?_)
    obtain ⟨q6, hq6, hzw2⟩ := ob hzw2
    have hxq6 : ∀ (H : Heap) (locs : List Loc) (ls : Array Slot), MJ K w2.2.2 s.heap H locs → lv_has ls 10 [(0, .ref (kO K)), (1, .int v1), (2, .int v2), (3, .int v3), (4, .long w2.1), (6, .int w2.2.1), (7, .long q6)] → W p l e (rmd 8) s m args below meth c H locs 0 0 Q (F0 m 67 ls []) := by
      intro H locs ls hJ hl
      refine lv_lload hx hb dX6_chanceOf_67 (lv_at hl 6 rfl) ?_
      refine lv_lconst (v := (0 : Int64)) hx hb dX6_chanceOf_69 rfl ?_
      refine W.lcmp hx hb dX6_chanceOf_70 ?_
      refine lv_if_le (tgt := 103) hx hb dX6_chanceOf_71 (by decide) (fun hc11 => ?_) (fun hc11 => ?_)
      · have hzw2 := ip hzw2 hc11
        refine lv_iinc (v := (w2.2.1 + 1)) (lv' := [(6, .int (w2.2.1 + 1)), (0, .ref (kO K)), (1, .int v1), (2, .int v2), (3, .int v3), (4, .long w2.1), (7, .long q6)]) hx hb dX6_chanceOf_103 hl (k := 5) rfl rfl (Nat.le_of_ble_eq_true rfl) rfl (fun ls hl => ?_)
        refine lv_goto (tgt := 10) hx hb dX6_chanceOf_106 (by decide) ?_
        have hzw2 := Option.some.inj hzw2
        subst hzw2
        exact ihw2 _ hqw2 _ _ _ hJ (lv_sub hl [1, 2, 3, 4, 5, 0] rfl)
      · have hzw2 := im hzw2 hc11
        refine lv_aload_n hx hb dX6_chanceOf_74 rfl (lv_at hl 0 rfl) ?_
        refine lv_iload hx hb dX6_chanceOf_75 (lv_at hl 5 rfl) ?_
        obtain ⟨σ12, hσ12, hzw2⟩ := ob hzw2
        refine my_pi C hJ 16 (Nat.le_of_ble_eq_true rfl) rfl rfl rfl lk16 hσ12 dX6_chanceOf_77 (fun H locs hJ => ?_)
        refine lv_aload_n hx hb dX6_chanceOf_80 rfl (lv_at hl 0 rfl) ?_
        obtain ⟨c13, hc13, hzw2⟩ := ob hzw2
        refine mc_V (As := []) (rest := []) C hJ (metM_runs l σ12 c13 hc13) (cwV 0 hts (lw_V q1470 q1472 qs65 q118 q1473) rfl rfl rfl hdM_runs ⟨Nat.le_of_ble_eq_true rfl, Nat.le_of_ble_eq_true rfl⟩) rfl hl.1 rfl (lv_room (Nat.le_of_ble_eq_true rfl)) dX6_chanceOf_81 (fun H locs hJ => ?_)
        refine lv_lload hx hb dX6_chanceOf_84 (lv_at hl 4 rfl) ?_
        refine lv_aload_n hx hb dX6_chanceOf_86 rfl (lv_at hl 0 rfl) ?_
        refine lv_iload_n hx hb dX6_chanceOf_87 rfl (lv_at hl 2 rfl) ?_
        obtain ⟨c14, hc14, hzw2⟩ := ob hzw2
        refine mc_V (As := [.int v2]) (rest := [.long w2.1]) C hJ (metM_isCarried l c13 v2 c14 hc14) (cwV 1 hts (lw_V q1541 q1543 qs80 q118 q1544) rfl rfl rfl hdM_isCarried ⟨Nat.le_of_ble_eq_true rfl, Nat.le_of_ble_eq_true rfl⟩) rfl hl.1 rfl (lv_room (Nat.le_of_ble_eq_true rfl)) dX6_chanceOf_88 (fun H locs hJ => ?_)
        obtain ⟨q16, hq16, hzw2⟩ := ob hzw2
        have hjq16 : ∀ (H : Heap) (locs : List Loc) (ls : Array Slot), MJ K c13 s.heap H locs → lv_has ls 10 [(0, .ref (kO K)), (1, .int v1), (2, .int v2), (3, .int v3), (6, .int w2.2.1)] → W p l e (rmd 8) s m args below meth c H locs 0 0 Q (F0 m 100 ls [.long q16, .long w2.1]) := by
          intro H locs ls hJ hl
          refine lv_ladd hx hb dX6_chanceOf_100 ?_
          refine lv_lstore (lv' := [(4, .long (w2.1 + q16)), (0, .ref (kO K)), (1, .int v1), (2, .int v2), (3, .int v3), (6, .int w2.2.1)]) hx hb dX6_chanceOf_101 hl (Nat.le_of_ble_eq_true rfl) rfl (fun ls hl => ?_)
          refine lv_iinc (v := (w2.2.1 + 1)) (lv' := [(6, .int (w2.2.1 + 1)), (4, .long (w2.1 + q16)), (0, .ref (kO K)), (1, .int v1), (2, .int v2), (3, .int v3)]) hx hb dX6_chanceOf_103 hl (k := 5) rfl rfl (Nat.le_of_ble_eq_true rfl) rfl (fun ls hl => ?_)
          refine lv_goto (tgt := 10) hx hb dX6_chanceOf_106 (by decide) ?_
          have hzw2 := Option.some.inj hzw2
          subst hzw2
          exact ihw2 _ hqw2 _ _ _ hJ (lv_sub hl [2, 3, 4, 5, 1, 0] rfl)
        refine lv_if_eq (tgt := 99) hx hb dX6_chanceOf_91 (by decide) (fun hc15 => ?_) (fun hc15 => ?_)
        · have hq16 := ip hq16 hc15
          refine lv_lconst (v := (0 : Int64)) hx hb dX6_chanceOf_99 rfl ?_
          have hq16 := Option.some.inj hq16
          subst hq16
          exact hjq16 _ _ _ hJ (lv_sub hl [0, 1, 2, 3, 5] rfl)
        · have hq16 := im hq16 hc15
          refine lv_lload hx hb dX6_chanceOf_94 (lv_at hl 6 rfl) ?_
          refine lv_goto (tgt := 100) hx hb dX6_chanceOf_96 (by decide) ?_
          have hq16 := Option.some.inj hq16
          subst hq16
          exact hjq16 _ _ _ hJ (lv_sub hl [0, 1, 2, 3, 5] rfl)
    refine lp_ind (P := fun (w5 : Int64 × Int32) => ∀ (H : Heap) (locs : List Loc) (ls : Array Slot), MJ K w2.2.2 s.heap H locs → lv_has ls 10 [(0, .ref (kO K)), (1, .int v1), (2, .int v2), (3, .int v3), (4, .long w2.1), (6, .int w2.2.1), (7, .long w5.1), (9, .int w5.2)] → W p l e (rmd 8) s m args below meth c H locs 0 0 Q (F0 m 27 ls [])) ?_ _ _ hq6 _ _ _ hJ (lv_sub hl [2, 3, 4, 5, 6, 7, 1, 0] rfl)
    intro nw5 w5 ihw5 zw5 hzw5 hqw5 H locs ls hJ hl
    refine lv_iload hx hb dX6_chanceOf_27 (lv_at hl 7 rfl) ?_
    refine lv_aload_n hx hb dX6_chanceOf_29 rfl (lv_at hl 0 rfl) ?_
    refine mx_gi C hJ 8 (Nat.le_of_ble_eq_true rfl) rfl lk8 dX6_chanceOf_30 ?_
    refine lv_icmp_ge (tgt := 67) hx hb dX6_chanceOf_33 (by decide) (fun hc7 => ?_) (fun hc7 => ?_)
    · have hzw5 := ip hzw5 hc7
      have hzw5 := Option.some.inj hzw5
      subst hzw5
      have hqw5 : _ = q6 := hqw5
      subst hqw5
      exact hxq6 _ _ _ hJ (lv_sub hl [0, 1, 2, 3, 4, 5, 6] rfl)
    · have hzw5 := im hzw5 hc7
      refine lv_lload hx hb dX6_chanceOf_36 (lv_at hl 6 rfl) ?_
      refine lv_iload hx hb dX6_chanceOf_38 (lv_at hl 5 rfl) ?_
      refine lv_iload hx hb dX6_chanceOf_40 (lv_at hl 7 rfl) ?_
      obtain ⟨c8, hc8, hzw5⟩ := ob hzw5
      refine mc_S (As := [.int w2.2.1, .int w5.2]) (rest := [.long w5.1]) C hJ (metM_isIn l w2.2.2 w2.2.1 w5.2 c8 hc8) (va_cwS 2 hts (lw_S q1478 q1479 q118 q1480) rfl rfl rfl hdM_isIn ⟨Nat.le_of_ble_eq_true rfl, Nat.le_of_ble_eq_true rfl⟩) rfl hl.1 rfl (lv_room (Nat.le_of_ble_eq_true rfl)) dX6_chanceOf_42 (fun H locs hJ => ?_)
      obtain ⟨q10, hq10, hzw5⟩ := ob hzw5
      have hjq10 : ∀ (H : Heap) (locs : List Loc) (ls : Array Slot), MJ K w2.2.2 s.heap H locs → lv_has ls 10 [(0, .ref (kO K)), (1, .int v1), (2, .int v2), (3, .int v3), (4, .long w2.1), (6, .int w2.2.1), (9, .int w5.2)] → W p l e (rmd 8) s m args below meth c H locs 0 0 Q (F0 m 58 ls [.long q10, .long w5.1]) := by
        intro H locs ls hJ hl
        refine lv_lmul hx hb dX6_chanceOf_58 ?_
        refine lv_lstore (lv' := [(7, .long (w5.1 * q10)), (0, .ref (kO K)), (1, .int v1), (2, .int v2), (3, .int v3), (4, .long w2.1), (6, .int w2.2.1), (9, .int w5.2)]) hx hb dX6_chanceOf_59 hl (Nat.le_of_ble_eq_true rfl) rfl (fun ls hl => ?_)
        refine lv_iinc (v := (w5.2 + 1)) (lv' := [(9, .int (w5.2 + 1)), (7, .long (w5.1 * q10)), (0, .ref (kO K)), (1, .int v1), (2, .int v2), (3, .int v3), (4, .long w2.1), (6, .int w2.2.1)]) hx hb dX6_chanceOf_61 hl (k := 7) rfl rfl (Nat.le_of_ble_eq_true rfl) rfl (fun ls hl => ?_)
        refine lv_goto (tgt := 27) hx hb dX6_chanceOf_64 (by decide) ?_
        have hzw5 := Option.some.inj hzw5
        subst hzw5
        exact ihw5 _ hqw5 _ _ _ hJ (lv_sub hl [2, 3, 4, 5, 6, 7, 1, 0] rfl)
      refine lv_if_eq (tgt := 56) hx hb dX6_chanceOf_45 (by decide) (fun hc9 => ?_) (fun hc9 => ?_)
      · have hq10 := ip hq10 hc9
        refine lv_iload_n hx hb dX6_chanceOf_56 rfl (lv_at hl 1 rfl) ?_
        refine lv_i2l (v := v1.toInt64) hx hb dX6_chanceOf_57 rfl ?_
        have hq10 := Option.some.inj hq10
        subst hq10
        exact hjq10 _ _ _ hJ (lv_sub hl [0, 1, 2, 3, 4, 5, 7] rfl)
      · have hq10 := im hq10 hc9
        refine lv_bipush hx hb dX6_chanceOf_48 kb_16 ?_
        refine lv_iload_n hx hb dX6_chanceOf_50 rfl (lv_at hl 1 rfl) ?_
        refine lv_isub hx hb dX6_chanceOf_51 ?_
        refine lv_i2l (v := ((16 : Int32) - v1).toInt64) hx hb dX6_chanceOf_52 rfl ?_
        refine lv_goto (tgt := 58) hx hb dX6_chanceOf_53 (by decide) ?_
        have hq10 := Option.some.inj hq10
        subst hq10
        exact hjq10 _ _ _ hJ (lv_sub hl [0, 1, 2, 3, 4, 5, 7] rfl)
def M_agesOf (σ : MM) (v1 : Int32) (v2 : Int32) (v3 : Int32) : Option (Int32 × MM) :=
  (M_asTold σ).bind fun c1 =>
  (mpf c1 12 v2).bind fun σ2 =>
  (lp (S := Int32 × Int32 × MM) (T := MM) (fun w3 =>
    if v2 ≤ w3.2.1 then
        some (.inr w3.2.2)
      else
        (mst w3.2.2 13 w3.2.1 (((((1103515245 : Int32) * w3.1) + (12345 : Int32)).toUInt32 >>> ((16 : Int32).toUInt32 &&& Int32.toUInt32 31)).toInt32 - ((((1103515245 : Int32) * w3.1) + (12345 : Int32)).toUInt32 >>> ((16 : Int32).toUInt32 &&& Int32.toUInt32 31)).toInt32 / (4 : Int32) * (4 : Int32))).bind fun σ6 =>
        (mst σ6 14 w3.2.1 (((((1103515245 : Int32) * (((1103515245 : Int32) * w3.1) + (12345 : Int32))) + (12345 : Int32)).toUInt32 >>> ((16 : Int32).toUInt32 &&& Int32.toUInt32 31)).toInt32 - ((((1103515245 : Int32) * (((1103515245 : Int32) * w3.1) + (12345 : Int32))) + (12345 : Int32)).toUInt32 >>> ((16 : Int32).toUInt32 &&& Int32.toUInt32 31)).toInt32 / (20 : Int32) * (20 : Int32))).bind fun σ7 =>
        (mst σ7 15 w3.2.1 (((((1103515245 : Int32) * (((1103515245 : Int32) * (((1103515245 : Int32) * w3.1) + (12345 : Int32))) + (12345 : Int32))) + (12345 : Int32)).toUInt32 >>> ((16 : Int32).toUInt32 &&& Int32.toUInt32 31)).toInt32 - ((((1103515245 : Int32) * (((1103515245 : Int32) * (((1103515245 : Int32) * w3.1) + (12345 : Int32))) + (12345 : Int32))) + (12345 : Int32)).toUInt32 >>> ((16 : Int32).toUInt32 &&& Int32.toUInt32 31)).toInt32 / (12 : Int32) * (12 : Int32))).bind fun σ8 =>
        some (.inl ((((1103515245 : Int32) * (((1103515245 : Int32) * (((1103515245 : Int32) * w3.1) + (12345 : Int32))) + (12345 : Int32))) + (12345 : Int32)), (w3.2.1 + 1), σ8))) 2000 (v1, (0 : Int32), σ2)).bind fun q4 =>
  (M_runs q4).bind fun c9 =>
  if v3 = 0 then
    (M_carriedNow c9).bind fun c12 =>
    some (c12, c9)
  else
    (M_governmentsNow c9).bind fun c11 =>
    some (c11, c9)
theorem hdM_agesOf : yX6_agesOf.cls = RX6 ∧ yX6_agesOf.cls ≠ "java/lang/invoke/MethodHandle" ∧ yX6_agesOf.cls ≠ "java/lang/invoke/VarHandle" ∧ (parseMethodDescriptor yX6_agesOf.desc).map (fun d => d.parameters.length) = some 3 := by decide +kernel
set_option maxHeartbeats 4000000 in
theorem metM_agesOf (l : Launch) (σ : MM) (v1 : Int32) (v2 : Int32) (v3 : Int32) (res : Int32 × MM) (h : M_agesOf σ v1 v2 v3 = some res) : MetM l yX6_agesOf cX6_agesOf 6 (some .int) 8 (fun K => [.ref (kO K), .int v1, .int v2, .int v3]) σ (some (.int res.1)) res.2 := by
  refine met_walk rfl (by simp [mRt]) (fun _ => Nat.le_of_ble_eq_true rfl) (fun K p e s m args below meth c Q C hE ls hl hJ => ?_)
  have hx := C.1.1
  have hb := C.1.2.1
  have hown := C.1.2.2.2.1
  have hts := C.1.2.2.2.2
  have hl : lv_has ls 6 [(0, .ref (kO K)), (1, .int v1), (2, .int v2), (3, .int v3)] := hl
  unfold M_agesOf at h
  refine lv_aload_n hx hb dX6_agesOf_0 rfl (lv_at hl 0 rfl) ?_
  obtain ⟨c1, hc1, h⟩ := ob h
  refine mc_V (As := []) (rest := []) C hJ (metM_asTold l σ c1 hc1) (cwV 0 hts (lw_V q1466 q1468 qs64 q118 q1469) rfl rfl rfl hdM_asTold ⟨Nat.le_of_ble_eq_true rfl, Nat.le_of_ble_eq_true rfl⟩) rfl hl.1 rfl (lv_room (Nat.le_of_ble_eq_true rfl)) dX6_agesOf_1 (fun H locs hJ => ?_)
  refine lv_iload_n hx hb dX6_agesOf_4 rfl (lv_at hl 1 rfl) ?_
  refine lv_istore (lv' := [(4, .int v1), (0, .ref (kO K)), (1, .int v1), (2, .int v2), (3, .int v3)]) hx hb dX6_agesOf_5 hl (Nat.le_of_ble_eq_true rfl) rfl (fun ls hl => ?_)
  refine lv_aload_n hx hb dX6_agesOf_7 rfl (lv_at hl 1 rfl) ?_
  refine lv_iload_n hx hb dX6_agesOf_8 rfl (lv_at hl 3 rfl) ?_
  obtain ⟨σ2, hσ2, h⟩ := ob h
  refine my_pi C hJ 12 (Nat.le_of_ble_eq_true rfl) rfl rfl rfl lk12 hσ2 dX6_agesOf_9 (fun H locs hJ => ?_)
  refine lv_iconst hx hb dX6_agesOf_12 kc_0 ?_
  refine lv_istore (lv' := [(5, .int (0 : Int32)), (4, .int v1), (0, .ref (kO K)), (1, .int v1), (2, .int v2), (3, .int v3)]) hx hb dX6_agesOf_13 hl (Nat.le_of_ble_eq_true rfl) rfl (fun ls hl => ?_)
  obtain ⟨q4, hq4, h⟩ := ob h
  have hxq4 : ∀ (H : Heap) (locs : List Loc) (ls : Array Slot), MJ K q4 s.heap H locs → lv_has ls 6 [(0, .ref (kO K)), (3, .int v3)] → W p l e (rmd 8) s m args below meth c H locs 0 0 Q (F0 m 107 ls []) := by
    intro H locs ls hJ hl
    refine lv_aload_n hx hb dX6_agesOf_107 rfl (lv_at hl 0 rfl) ?_
    obtain ⟨c9, hc9, h⟩ := ob h
    refine mc_V (As := []) (rest := []) C hJ (metM_runs l q4 c9 hc9) (cwV 0 hts (lw_V q1470 q1472 qs65 q118 q1473) rfl rfl rfl hdM_runs ⟨Nat.le_of_ble_eq_true rfl, Nat.le_of_ble_eq_true rfl⟩) rfl hl.1 rfl (lv_room (Nat.le_of_ble_eq_true rfl)) dX6_agesOf_108 (fun H locs hJ => ?_)
    refine lv_iload_n hx hb dX6_agesOf_111 rfl (lv_at hl 1 rfl) ?_
    refine lv_if_ne (tgt := 122) hx hb dX6_agesOf_112 (by decide) (fun hc10 => ?_) (fun hc10 => ?_)
    · have h := im h hc10
      refine lv_aload_n hx hb dX6_agesOf_122 rfl (lv_at hl 0 rfl) ?_
      obtain ⟨c11, hc11, h⟩ := ob h
      refine mc_V (As := []) (rest := []) C hJ (metM_governmentsNow l c9 c11 hc11) (cwV 0 hts (lw_V q1553 q1555 qs82 q118 q1556) rfl rfl rfl hdM_governmentsNow ⟨Nat.le_of_ble_eq_true rfl, Nat.le_of_ble_eq_true rfl⟩) rfl hl.1 rfl (lv_room (Nat.le_of_ble_eq_true rfl)) dX6_agesOf_123 (fun H locs hJ => ?_)
      have h := Option.some.inj h
      subst h
      exact hE _ _ _ _ (some (.int (c11))) hJ ⟨_, rfl⟩ rfl dX6_agesOf_126
    · have h := ip h hc10
      refine lv_aload_n hx hb dX6_agesOf_115 rfl (lv_at hl 0 rfl) ?_
      obtain ⟨c12, hc12, h⟩ := ob h
      refine mc_V (As := []) (rest := []) C hJ (metM_carriedNow l c9 c12 hc12) (cwV 0 hts (lw_V q1565 q1567 qs84 q118 q1568) rfl rfl rfl hdM_carriedNow ⟨Nat.le_of_ble_eq_true rfl, Nat.le_of_ble_eq_true rfl⟩) rfl hl.1 rfl (lv_room (Nat.le_of_ble_eq_true rfl)) dX6_agesOf_116 (fun H locs hJ => ?_)
      refine lv_goto (tgt := 126) hx hb dX6_agesOf_119 (by decide) ?_
      have h := Option.some.inj h
      subst h
      exact hE _ _ _ _ (some (.int (c12))) hJ ⟨_, rfl⟩ rfl dX6_agesOf_126
  refine lp_ind (P := fun (w3 : Int32 × Int32 × MM) => ∀ (H : Heap) (locs : List Loc) (ls : Array Slot), MJ K w3.2.2 s.heap H locs → lv_has ls 6 [(0, .ref (kO K)), (2, .int v2), (3, .int v3), (4, .int w3.1), (5, .int w3.2.1)] → W p l e (rmd 8) s m args below meth c H locs 0 0 Q (F0 m 15 ls [])) ?_ _ _ hq4 _ _ _ hJ (lv_sub hl [2, 4, 5, 1, 0] rfl)
  intro nw3 w3 ihw3 zw3 hzw3 hqw3 H locs ls hJ hl
  refine lv_iload hx hb dX6_agesOf_15 (lv_at hl 4 rfl) ?_
  refine lv_iload_n hx hb dX6_agesOf_17 rfl (lv_at hl 1 rfl) ?_
  refine lv_icmp_ge (tgt := 107) hx hb dX6_agesOf_18 (by decide) (fun hc5 => ?_) (fun hc5 => ?_)
  · have hzw3 := ip hzw3 hc5
    have hzw3 := Option.some.inj hzw3
    subst hzw3
    have hqw3 : _ = q4 := hqw3
    subst hqw3
    exact hxq4 _ _ _ hJ (lv_sub hl [0, 2] rfl)
  · have hzw3 := im hzw3 hc5
    refine lv_ldcw (v := (1103515245 : Int32)) hx hb hown (hts _ q1704) dX6_agesOf_21 ?_
    refine lv_iload hx hb dX6_agesOf_24 (lv_at hl 3 rfl) ?_
    refine lv_imul hx hb dX6_agesOf_26 ?_
    refine lv_sipush hx hb dX6_agesOf_27 ks_12345 ?_
    refine lv_iadd hx hb dX6_agesOf_30 ?_
    refine lv_istore (lv' := [(4, .int (((1103515245 : Int32) * w3.1) + (12345 : Int32))), (0, .ref (kO K)), (2, .int v2), (3, .int v3), (5, .int w3.2.1)]) hx hb dX6_agesOf_31 hl (Nat.le_of_ble_eq_true rfl) rfl (fun ls hl => ?_)
    refine lv_aload_n hx hb dX6_agesOf_33 rfl (lv_at hl 1 rfl) ?_
    refine mx_ga C hJ 13 (Nat.le_of_ble_eq_true rfl) rfl lk13 dX6_agesOf_34 ?_
    refine lv_iload hx hb dX6_agesOf_37 (lv_at hl 4 rfl) ?_
    refine lv_iload hx hb dX6_agesOf_39 (lv_at hl 0 rfl) ?_
    refine lv_bipush hx hb dX6_agesOf_41 kb_16 ?_
    refine lv_iushr (v := ((((1103515245 : Int32) * w3.1) + (12345 : Int32)).toUInt32 >>> ((16 : Int32).toUInt32 &&& Int32.toUInt32 31)).toInt32) hx hb dX6_agesOf_43 rfl ?_
    refine lv_iconst hx hb dX6_agesOf_44 kc_4 ?_
    refine lv_irem hx hb dX6_agesOf_45 (by decide) ?_
    obtain ⟨σ6, hσ6, hzw3⟩ := ob hzw3
    refine my_is C hJ 13 rfl hσ6 dX6_agesOf_46 (fun H locs hJ => ?_)
    refine lv_ldcw (v := (1103515245 : Int32)) hx hb hown (hts _ q1704) dX6_agesOf_47 ?_
    refine lv_iload hx hb dX6_agesOf_50 (lv_at hl 0 rfl) ?_
    refine lv_imul hx hb dX6_agesOf_52 ?_
    refine lv_sipush hx hb dX6_agesOf_53 ks_12345 ?_
    refine lv_iadd hx hb dX6_agesOf_56 ?_
    refine lv_istore (lv' := [(4, .int (((1103515245 : Int32) * (((1103515245 : Int32) * w3.1) + (12345 : Int32))) + (12345 : Int32))), (0, .ref (kO K)), (2, .int v2), (3, .int v3), (5, .int w3.2.1)]) hx hb dX6_agesOf_57 hl (Nat.le_of_ble_eq_true rfl) rfl (fun ls hl => ?_)
    refine lv_aload_n hx hb dX6_agesOf_59 rfl (lv_at hl 1 rfl) ?_
    refine mx_ga C hJ 14 (Nat.le_of_ble_eq_true rfl) rfl lk14 dX6_agesOf_60 ?_
    refine lv_iload hx hb dX6_agesOf_63 (lv_at hl 4 rfl) ?_
    refine lv_iload hx hb dX6_agesOf_65 (lv_at hl 0 rfl) ?_
    refine lv_bipush hx hb dX6_agesOf_67 kb_16 ?_
    refine lv_iushr (v := ((((1103515245 : Int32) * (((1103515245 : Int32) * w3.1) + (12345 : Int32))) + (12345 : Int32)).toUInt32 >>> ((16 : Int32).toUInt32 &&& Int32.toUInt32 31)).toInt32) hx hb dX6_agesOf_69 rfl ?_
    refine lv_bipush hx hb dX6_agesOf_70 kb_20 ?_
    refine lv_irem hx hb dX6_agesOf_72 (by decide) ?_
    obtain ⟨σ7, hσ7, hzw3⟩ := ob hzw3
    refine my_is C hJ 14 rfl hσ7 dX6_agesOf_73 (fun H locs hJ => ?_)
    refine lv_ldcw (v := (1103515245 : Int32)) hx hb hown (hts _ q1704) dX6_agesOf_74 ?_
    refine lv_iload hx hb dX6_agesOf_77 (lv_at hl 0 rfl) ?_
    refine lv_imul hx hb dX6_agesOf_79 ?_
    refine lv_sipush hx hb dX6_agesOf_80 ks_12345 ?_
    refine lv_iadd hx hb dX6_agesOf_83 ?_
    refine lv_istore (lv' := [(4, .int (((1103515245 : Int32) * (((1103515245 : Int32) * (((1103515245 : Int32) * w3.1) + (12345 : Int32))) + (12345 : Int32))) + (12345 : Int32))), (0, .ref (kO K)), (2, .int v2), (3, .int v3), (5, .int w3.2.1)]) hx hb dX6_agesOf_84 hl (Nat.le_of_ble_eq_true rfl) rfl (fun ls hl => ?_)
    refine lv_aload_n hx hb dX6_agesOf_86 rfl (lv_at hl 1 rfl) ?_
    refine mx_ga C hJ 15 (Nat.le_of_ble_eq_true rfl) rfl lk15 dX6_agesOf_87 ?_
    refine lv_iload hx hb dX6_agesOf_90 (lv_at hl 4 rfl) ?_
    refine lv_iload hx hb dX6_agesOf_92 (lv_at hl 0 rfl) ?_
    refine lv_bipush hx hb dX6_agesOf_94 kb_16 ?_
    refine lv_iushr (v := ((((1103515245 : Int32) * (((1103515245 : Int32) * (((1103515245 : Int32) * w3.1) + (12345 : Int32))) + (12345 : Int32))) + (12345 : Int32)).toUInt32 >>> ((16 : Int32).toUInt32 &&& Int32.toUInt32 31)).toInt32) hx hb dX6_agesOf_96 rfl ?_
    refine lv_bipush hx hb dX6_agesOf_97 kb_12 ?_
    refine lv_irem hx hb dX6_agesOf_99 (by decide) ?_
    obtain ⟨σ8, hσ8, hzw3⟩ := ob hzw3
    refine my_is C hJ 15 rfl hσ8 dX6_agesOf_100 (fun H locs hJ => ?_)
    refine lv_iinc (v := (w3.2.1 + 1)) (lv' := [(5, .int (w3.2.1 + 1)), (4, .int (((1103515245 : Int32) * (((1103515245 : Int32) * (((1103515245 : Int32) * w3.1) + (12345 : Int32))) + (12345 : Int32))) + (12345 : Int32))), (0, .ref (kO K)), (2, .int v2), (3, .int v3)]) hx hb dX6_agesOf_101 hl (k := 4) rfl rfl (Nat.le_of_ble_eq_true rfl) rfl (fun ls hl => ?_)
    refine lv_goto (tgt := 15) hx hb dX6_agesOf_104 (by decide) ?_
    have hzw3 := Option.some.inj hzw3
    subst hzw3
    exact ihw3 _ hqw3 _ _ _ hJ (lv_sub hl [2, 3, 4, 1, 0] rfl)
def M_dampOf (σ : MM) (v1 : Int32) (v2 : Int32) (v3 : Int32) : Option (Int32 × MM) :=
  (M_runsTold σ).bind fun c1 =>
  if v3 = 0 then
    (mld c1 23 (((12 : Int32) * v1) + v2)).bind fun x4 =>
    some (x4, c1)
  else
    (M_manyAt c1 v1 v2).bind fun c3 =>
    some (c3, c1)
theorem hdM_dampOf : yX6_dampOf.cls = RX6 ∧ yX6_dampOf.cls ≠ "java/lang/invoke/MethodHandle" ∧ yX6_dampOf.cls ≠ "java/lang/invoke/VarHandle" ∧ (parseMethodDescriptor yX6_dampOf.desc).map (fun d => d.parameters.length) = some 3 := by decide +kernel
set_option maxHeartbeats 4000000 in
theorem metM_dampOf (l : Launch) (σ : MM) (v1 : Int32) (v2 : Int32) (v3 : Int32) (res : Int32 × MM) (h : M_dampOf σ v1 v2 v3 = some res) : MetM l yX6_dampOf cX6_dampOf 4 (some .int) 9 (fun K => [.ref (kO K), .int v1, .int v2, .int v3]) σ (some (.int res.1)) res.2 := by
  refine met_walk rfl (by simp [mRt]) (fun _ => Nat.le_of_ble_eq_true rfl) (fun K p e s m args below meth c Q C hE ls hl hJ => ?_)
  have hx := C.1.1
  have hb := C.1.2.1
  have hown := C.1.2.2.2.1
  have hts := C.1.2.2.2.2
  have hl : lv_has ls 4 [(0, .ref (kO K)), (1, .int v1), (2, .int v2), (3, .int v3)] := hl
  unfold M_dampOf at h
  refine lv_aload_n hx hb dX6_dampOf_0 rfl (lv_at hl 0 rfl) ?_
  obtain ⟨c1, hc1, h⟩ := ob h
  refine mc_V (As := []) (rest := []) C hJ (metM_runsTold l σ c1 hc1) (cwV 0 hts (lw_V q1462 q1464 qs63 q118 q1465) rfl rfl rfl hdM_runsTold ⟨Nat.le_of_ble_eq_true rfl, Nat.le_of_ble_eq_true rfl⟩) rfl hl.1 rfl (lv_room (Nat.le_of_ble_eq_true rfl)) dX6_dampOf_1 (fun H locs hJ => ?_)
  refine lv_iload_n hx hb dX6_dampOf_4 rfl (lv_at hl 3 rfl) ?_
  refine lv_if_ne (tgt := 22) hx hb dX6_dampOf_5 (by decide) (fun hc2 => ?_) (fun hc2 => ?_)
  · have h := im h hc2
    refine lv_aload_n hx hb dX6_dampOf_22 rfl (lv_at hl 0 rfl) ?_
    refine lv_iload_n hx hb dX6_dampOf_23 rfl (lv_at hl 1 rfl) ?_
    refine lv_iload_n hx hb dX6_dampOf_24 rfl (lv_at hl 2 rfl) ?_
    obtain ⟨c3, hc3, h⟩ := ob h
    refine mc_V (As := [.int v1, .int v2]) (rest := []) C hJ (metM_manyAt l c1 v1 v2 c3 hc3) (cwV 2 hts (lw_V q1517 q1519 qs76 q118 q1520) rfl rfl rfl hdM_manyAt ⟨Nat.le_of_ble_eq_true rfl, Nat.le_of_ble_eq_true rfl⟩) rfl hl.1 rfl (lv_room (Nat.le_of_ble_eq_true rfl)) dX6_dampOf_25 (fun H locs hJ => ?_)
    have h := Option.some.inj h
    subst h
    exact hE _ _ _ _ (some (.int (c3))) hJ ⟨_, rfl⟩ rfl dX6_dampOf_28
  · have h := ip h hc2
    refine lv_aload_n hx hb dX6_dampOf_8 rfl (lv_at hl 0 rfl) ?_
    refine mx_ga C hJ 23 (Nat.le_of_ble_eq_true rfl) rfl lk23 dX6_dampOf_9 ?_
    refine lv_bipush hx hb dX6_dampOf_12 kb_12 ?_
    refine lv_iload_n hx hb dX6_dampOf_14 rfl (lv_at hl 1 rfl) ?_
    refine lv_imul hx hb dX6_dampOf_15 ?_
    refine lv_iload_n hx hb dX6_dampOf_16 rfl (lv_at hl 2 rfl) ?_
    refine lv_iadd hx hb dX6_dampOf_17 ?_
    obtain ⟨x4, hx4, h⟩ := ob h
    refine my_il C hJ 23 rfl hx4 dX6_dampOf_18 ?_
    refine lv_goto (tgt := 28) hx hb dX6_dampOf_19 (by decide) ?_
    have h := Option.some.inj h
    subst h
    exact hE _ _ _ _ (some (.int (x4))) hJ ⟨_, rfl⟩ rfl dX6_dampOf_28
def M_atOf (σ : MM) (v1 : Int32) (v2 : Int32) (v3 : Int32) : Option (Int32 × MM) :=
  (M_runsTold σ).bind fun c1 =>
  if v3 = 0 then
    (mld c1 24 (((8 : Int32) * v1) + v2)).bind fun x10 =>
    some (x10, c1)
  else
    if v3 = (1 : Int32) then
      (mld c1 25 (((8 : Int32) * v1) + v2)).bind fun x9 =>
      some (x9, c1)
    else
      if v3 = (2 : Int32) then
        (mld c1 27 v1).bind fun x6 =>
        (M_isIn c1 x6 v2).bind fun c7 =>
        if c7 = 0 then
          some ((0 : Int32), c1)
        else
          some ((1 : Int32), c1)
      else
        (mld c1 26 (((8 : Int32) * v1) + v2)).bind fun x5 =>
        some (x5, c1)
theorem hdM_atOf : yX6_atOf.cls = RX6 ∧ yX6_atOf.cls ≠ "java/lang/invoke/MethodHandle" ∧ yX6_atOf.cls ≠ "java/lang/invoke/VarHandle" ∧ (parseMethodDescriptor yX6_atOf.desc).map (fun d => d.parameters.length) = some 3 := by decide +kernel
set_option maxHeartbeats 4000000 in
theorem metM_atOf (l : Launch) (σ : MM) (v1 : Int32) (v2 : Int32) (v3 : Int32) (res : Int32 × MM) (h : M_atOf σ v1 v2 v3 = some res) : MetM l yX6_atOf cX6_atOf 5 (some .int) 9 (fun K => [.ref (kO K), .int v1, .int v2, .int v3]) σ (some (.int res.1)) res.2 := by
  refine met_walk rfl (by simp [mRt]) (fun _ => Nat.le_of_ble_eq_true rfl) (fun K p e s m args below meth c Q C hE ls hl hJ => ?_)
  have hx := C.1.1
  have hb := C.1.2.1
  have hown := C.1.2.2.2.1
  have hts := C.1.2.2.2.2
  have hl : lv_has ls 5 [(0, .ref (kO K)), (1, .int v1), (2, .int v2), (3, .int v3)] := hl
  unfold M_atOf at h
  refine lv_aload_n hx hb dX6_atOf_0 rfl (lv_at hl 0 rfl) ?_
  obtain ⟨c1, hc1, h⟩ := ob h
  refine mc_V (As := []) (rest := []) C hJ (metM_runsTold l σ c1 hc1) (cwV 0 hts (lw_V q1462 q1464 qs63 q118 q1465) rfl rfl rfl hdM_runsTold ⟨Nat.le_of_ble_eq_true rfl, Nat.le_of_ble_eq_true rfl⟩) rfl hl.1 rfl (lv_room (Nat.le_of_ble_eq_true rfl)) dX6_atOf_1 (fun H locs hJ => ?_)
  refine lv_bipush hx hb dX6_atOf_4 kb_8 ?_
  refine lv_iload_n hx hb dX6_atOf_6 rfl (lv_at hl 1 rfl) ?_
  refine lv_imul hx hb dX6_atOf_7 ?_
  refine lv_iload_n hx hb dX6_atOf_8 rfl (lv_at hl 2 rfl) ?_
  refine lv_iadd hx hb dX6_atOf_9 ?_
  refine lv_istore (lv' := [(4, .int (((8 : Int32) * v1) + v2)), (0, .ref (kO K)), (1, .int v1), (2, .int v2), (3, .int v3)]) hx hb dX6_atOf_10 hl (Nat.le_of_ble_eq_true rfl) rfl (fun ls hl => ?_)
  refine lv_iload_n hx hb dX6_atOf_12 rfl (lv_at hl 4 rfl) ?_
  refine lv_if_ne (tgt := 26) hx hb dX6_atOf_13 (by decide) (fun hc2 => ?_) (fun hc2 => ?_)
  · have h := im h hc2
    refine lv_iload_n hx hb dX6_atOf_26 rfl (lv_at hl 4 rfl) ?_
    refine lv_iconst hx hb dX6_atOf_27 kc_1 ?_
    refine lv_icmp_ne (tgt := 41) hx hb dX6_atOf_28 (by decide) (fun hc3 => ?_) (fun hc3 => ?_)
    · have h := im h hc3
      refine lv_iload_n hx hb dX6_atOf_41 rfl (lv_at hl 4 rfl) ?_
      refine lv_iconst hx hb dX6_atOf_42 kc_2 ?_
      refine lv_icmp_ne (tgt := 67) hx hb dX6_atOf_43 (by decide) (fun hc4 => ?_) (fun hc4 => ?_)
      · have h := im h hc4
        refine lv_aload_n hx hb dX6_atOf_67 rfl (lv_at hl 1 rfl) ?_
        refine mx_ga C hJ 26 (Nat.le_of_ble_eq_true rfl) rfl lk26 dX6_atOf_68 ?_
        refine lv_iload hx hb dX6_atOf_71 (lv_at hl 0 rfl) ?_
        obtain ⟨x5, hx5, h⟩ := ob h
        refine my_il C hJ 26 rfl hx5 dX6_atOf_73 ?_
        have h := Option.some.inj h
        subst h
        exact hE _ _ _ _ (some (.int (x5))) hJ ⟨_, rfl⟩ rfl dX6_atOf_74
      · have h := ip h hc4
        refine lv_aload_n hx hb dX6_atOf_46 rfl (lv_at hl 1 rfl) ?_
        refine mx_ga C hJ 27 (Nat.le_of_ble_eq_true rfl) rfl lk27 dX6_atOf_47 ?_
        refine lv_iload_n hx hb dX6_atOf_50 rfl (lv_at hl 2 rfl) ?_
        obtain ⟨x6, hx6, h⟩ := ob h
        refine my_il C hJ 27 rfl hx6 dX6_atOf_51 ?_
        refine lv_iload_n hx hb dX6_atOf_52 rfl (lv_at hl 3 rfl) ?_
        obtain ⟨c7, hc7, h⟩ := ob h
        refine mc_S (As := [.int x6, .int v2]) (rest := []) C hJ (metM_isIn l c1 x6 v2 c7 hc7) (va_cwS 2 hts (lw_S q1478 q1479 q118 q1480) rfl rfl rfl hdM_isIn ⟨Nat.le_of_ble_eq_true rfl, Nat.le_of_ble_eq_true rfl⟩) rfl hl.1 rfl (lv_room (Nat.le_of_ble_eq_true rfl)) dX6_atOf_53 (fun H locs hJ => ?_)
        refine lv_if_eq (tgt := 63) hx hb dX6_atOf_56 (by decide) (fun hc8 => ?_) (fun hc8 => ?_)
        · have h := ip h hc8
          refine lv_iconst hx hb dX6_atOf_63 kc_0 ?_
          refine lv_goto (tgt := 74) hx hb dX6_atOf_64 (by decide) ?_
          have h := Option.some.inj h
          subst h
          exact hE _ _ _ _ (some (.int ((0 : Int32)))) hJ ⟨_, rfl⟩ rfl dX6_atOf_74
        · have h := im h hc8
          refine lv_iconst hx hb dX6_atOf_59 kc_1 ?_
          refine lv_goto (tgt := 74) hx hb dX6_atOf_60 (by decide) ?_
          have h := Option.some.inj h
          subst h
          exact hE _ _ _ _ (some (.int ((1 : Int32)))) hJ ⟨_, rfl⟩ rfl dX6_atOf_74
    · have h := ip h hc3
      refine lv_aload_n hx hb dX6_atOf_31 rfl (lv_at hl 1 rfl) ?_
      refine mx_ga C hJ 25 (Nat.le_of_ble_eq_true rfl) rfl lk25 dX6_atOf_32 ?_
      refine lv_iload hx hb dX6_atOf_35 (lv_at hl 0 rfl) ?_
      obtain ⟨x9, hx9, h⟩ := ob h
      refine my_il C hJ 25 rfl hx9 dX6_atOf_37 ?_
      refine lv_goto (tgt := 74) hx hb dX6_atOf_38 (by decide) ?_
      have h := Option.some.inj h
      subst h
      exact hE _ _ _ _ (some (.int (x9))) hJ ⟨_, rfl⟩ rfl dX6_atOf_74
  · have h := ip h hc2
    refine lv_aload_n hx hb dX6_atOf_16 rfl (lv_at hl 1 rfl) ?_
    refine mx_ga C hJ 24 (Nat.le_of_ble_eq_true rfl) rfl lk24 dX6_atOf_17 ?_
    refine lv_iload hx hb dX6_atOf_20 (lv_at hl 0 rfl) ?_
    obtain ⟨x10, hx10, h⟩ := ob h
    refine my_il C hJ 24 rfl hx10 dX6_atOf_22 ?_
    refine lv_goto (tgt := 74) hx hb dX6_atOf_23 (by decide) ?_
    have h := Option.some.inj h
    subst h
    exact hE _ _ _ _ (some (.int (x10))) hJ ⟨_, rfl⟩ rfl dX6_atOf_74
