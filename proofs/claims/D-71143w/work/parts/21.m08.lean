/-! the reference, walked (printed by tool/gen_m.py) -/
set_option maxRecDepth 100000
def M_neverNow (σ : MM) : Option (Int32 × MM) :=
  (M_asTold σ).bind fun c1 =>
  (lp (S := Int32 × Int32 × MM) (T := Int32 × MM) (fun w2 =>
    if (w2.2.2 8 0) ≤ w2.2.1 then
        some (.inr (w2.1, w2.2.2))
      else
        (mpf w2.2.2 16 ((1 : Int32) <<< (w2.2.1 &&& 31))).bind fun σ5 =>
        (M_isSeen σ5).bind fun c6 =>
        (if c6.1 = 0 then
            some (0 : Int32)
          else
            some ((1 : Int32) <<< (w2.2.1 &&& 31)) : Option (Int32)).bind fun q8 =>
        some (.inl ((w2.1 ||| q8), (w2.2.1 + 1), c6.2))) 2000 ((0 : Int32), (0 : Int32), c1)).bind fun q3 =>
  some (q3.1, q3.2)
theorem hdM_neverNow : yX6_neverNow.cls = RX6 ∧ yX6_neverNow.cls ≠ "java/lang/invoke/MethodHandle" ∧ yX6_neverNow.cls ≠ "java/lang/invoke/VarHandle" ∧ (parseMethodDescriptor yX6_neverNow.desc).map (fun d => d.parameters.length) = some 0 := by decide +kernel
set_option maxHeartbeats 4000000 in
theorem metM_neverNow (l : Launch) (σ : MM) (res : Int32 × MM) (h : M_neverNow σ = some res) : MetM l yX6_neverNow cX6_neverNow 3 (some .int) 9 (fun K => [.ref (kO K)]) σ (some (.int res.1)) res.2 := by
  refine met_walk rfl (by simp [mRt]) (fun _ => Nat.le_of_ble_eq_true rfl) (fun K p e s m args below meth c Q C hE ls hl hJ => ?_)
  have hx := C.1.1
  have hb := C.1.2.1
  have hown := C.1.2.2.2.1
  have hts := C.1.2.2.2.2
  have hl : lv_has ls 3 [(0, .ref (kO K))] := hl
  unfold M_neverNow at h
  refine lv_aload_n hx hb dX6_neverNow_0 rfl (lv_at hl 0 rfl) ?_
  obtain ⟨c1, hc1, h⟩ := ob h
  refine mc_V (As := []) (rest := []) C hJ (metM_asTold l σ c1 hc1) (cwV 0 hts (lw_V q1466 q1468 qs64 q118 q1469) rfl rfl rfl hdM_asTold ⟨Nat.le_of_ble_eq_true rfl, Nat.le_of_ble_eq_true rfl⟩) rfl hl.1 rfl (lv_room (Nat.le_of_ble_eq_true rfl)) dX6_neverNow_1 (fun H locs hJ => ?_)
  refine lv_iconst hx hb dX6_neverNow_4 kc_0 ?_
  refine lv_istore_n (lv' := [(1, .int (0 : Int32)), (0, .ref (kO K))]) hx hb dX6_neverNow_5 rfl hl (Nat.le_of_ble_eq_true rfl) rfl (fun ls hl => ?_)
  refine lv_iconst hx hb dX6_neverNow_6 kc_0 ?_
  refine lv_istore_n (lv' := [(2, .int (0 : Int32)), (1, .int (0 : Int32)), (0, .ref (kO K))]) hx hb dX6_neverNow_7 rfl hl (Nat.le_of_ble_eq_true rfl) rfl (fun ls hl => ?_)
  obtain ⟨q3, hq3, h⟩ := ob h
  have hxq3 : ∀ (H : Heap) (locs : List Loc) (ls : Array Slot), MJ K q3.2 s.heap H locs → lv_has ls 3 [(1, .int q3.1)] → W p l e (rmd 9) s m args below meth c H locs 0 0 Q (F0 m 46 ls []) := by
    intro H locs ls hJ hl
    refine lv_iload_n hx hb dX6_neverNow_46 rfl (lv_at hl 0 rfl) ?_
    have h := Option.some.inj h
    subst h
    exact hE _ _ _ _ (some (.int (q3.1))) hJ ⟨_, rfl⟩ rfl dX6_neverNow_47
  refine lp_ind (P := fun (w2 : Int32 × Int32 × MM) => ∀ (H : Heap) (locs : List Loc) (ls : Array Slot), MJ K w2.2.2 s.heap H locs → lv_has ls 3 [(0, .ref (kO K)), (1, .int w2.1), (2, .int w2.2.1)] → W p l e (rmd 9) s m args below meth c H locs 0 0 Q (F0 m 8 ls [])) ?_ _ _ hq3 _ _ _ hJ (lv_sub hl [2, 1, 0] rfl)
  intro nw2 w2 ihw2 zw2 hzw2 hqw2 H locs ls hJ hl
  refine lv_iload_n hx hb dX6_neverNow_8 rfl (lv_at hl 2 rfl) ?_
  refine lv_aload_n hx hb dX6_neverNow_9 rfl (lv_at hl 0 rfl) ?_
  refine mx_gi C hJ 8 (Nat.le_of_ble_eq_true rfl) rfl lk8 dX6_neverNow_10 ?_
  refine lv_icmp_ge (tgt := 46) hx hb dX6_neverNow_13 (by decide) (fun hc4 => ?_) (fun hc4 => ?_)
  · have hzw2 := ip hzw2 hc4
    have hzw2 := Option.some.inj hzw2
    subst hzw2
    have hqw2 : _ = q3 := hqw2
    subst hqw2
    exact hxq3 _ _ _ hJ (lv_sub hl [1] rfl)
  · have hzw2 := im hzw2 hc4
    refine lv_aload_n hx hb dX6_neverNow_16 rfl (lv_at hl 0 rfl) ?_
    refine lv_iconst hx hb dX6_neverNow_17 kc_1 ?_
    refine lv_iload_n hx hb dX6_neverNow_18 rfl (lv_at hl 2 rfl) ?_
    refine lv_ishl hx hb dX6_neverNow_19 ?_
    obtain ⟨σ5, hσ5, hzw2⟩ := ob hzw2
    refine my_pi C hJ 16 (Nat.le_of_ble_eq_true rfl) rfl rfl rfl lk16 hσ5 dX6_neverNow_20 (fun H locs hJ => ?_)
    refine lv_iload_n hx hb dX6_neverNow_23 rfl (lv_at hl 1 rfl) ?_
    refine lv_aload_n hx hb dX6_neverNow_24 rfl (lv_at hl 0 rfl) ?_
    obtain ⟨c6, hc6, hzw2⟩ := ob hzw2
    refine mc_V (As := []) (rest := [.int w2.1]) C hJ (metM_isSeen l σ5 c6 hc6) (cwV 0 hts (lw_V q1653 q1655 qs96 q118 q1656) rfl rfl rfl hdM_isSeen ⟨Nat.le_of_ble_eq_true rfl, Nat.le_of_ble_eq_true rfl⟩) rfl hl.1 rfl (lv_room (Nat.le_of_ble_eq_true rfl)) dX6_neverNow_25 (fun H locs hJ => ?_)
    obtain ⟨q8, hq8, hzw2⟩ := ob hzw2
    have hjq8 : ∀ (H : Heap) (locs : List Loc) (ls : Array Slot), MJ K c6.2 s.heap H locs → lv_has ls 3 [(0, .ref (kO K)), (2, .int w2.2.1)] → W p l e (rmd 9) s m args below meth c H locs 0 0 Q (F0 m 38 ls [.int q8, .int w2.1]) := by
      intro H locs ls hJ hl
      refine lv_ior hx hb dX6_neverNow_38 ?_
      refine lv_istore_n (lv' := [(1, .int (w2.1 ||| q8)), (0, .ref (kO K)), (2, .int w2.2.1)]) hx hb dX6_neverNow_39 rfl hl (Nat.le_of_ble_eq_true rfl) rfl (fun ls hl => ?_)
      refine lv_iinc (v := (w2.2.1 + 1)) (lv' := [(2, .int (w2.2.1 + 1)), (1, .int (w2.1 ||| q8)), (0, .ref (kO K))]) hx hb dX6_neverNow_40 hl (k := 2) rfl rfl (Nat.le_of_ble_eq_true rfl) rfl (fun ls hl => ?_)
      refine lv_goto (tgt := 8) hx hb dX6_neverNow_43 (by decide) ?_
      have hzw2 := Option.some.inj hzw2
      subst hzw2
      exact ihw2 _ hqw2 _ _ _ hJ (lv_sub hl [2, 1, 0] rfl)
    refine lv_if_eq (tgt := 37) hx hb dX6_neverNow_28 (by decide) (fun hc7 => ?_) (fun hc7 => ?_)
    · have hq8 := ip hq8 hc7
      refine lv_iconst hx hb dX6_neverNow_37 kc_0 ?_
      have hq8 := Option.some.inj hq8
      subst hq8
      exact hjq8 _ _ _ hJ (lv_sub hl [0, 2] rfl)
    · have hq8 := im hq8 hc7
      refine lv_iconst hx hb dX6_neverNow_31 kc_1 ?_
      refine lv_iload_n hx hb dX6_neverNow_32 rfl (lv_at hl 2 rfl) ?_
      refine lv_ishl hx hb dX6_neverNow_33 ?_
      refine lv_goto (tgt := 38) hx hb dX6_neverNow_34 (by decide) ?_
      have hq8 := Option.some.inj hq8
      subst hq8
      exact hjq8 _ _ _ hJ (lv_sub hl [0, 2] rfl)
def M_sortsBy (σ : MM) (v1 : Int32) : Option (Int32 × MM) :=
  (M_asTold σ).bind fun c1 =>
  (mld c1 5 v1).bind fun x2 =>
  (lp (S := Int32 × Int32 × MM) (T := Int32 × MM) (fun w3 =>
    if (3 : Int32) ≤ w3.2.1 then
        some (.inr (w3.1, w3.2.2))
      else
        (mst w3.2.2 5 v1 w3.2.1).bind fun σ6 =>
        (M_isSeen σ6).bind fun c7 =>
        (if c7.1 = 0 then
            some (0 : Int32)
          else
            some ((1 : Int32) <<< (w3.2.1 &&& 31)) : Option (Int32)).bind fun q9 =>
        some (.inl ((w3.1 ||| q9), (w3.2.1 + 1), c7.2))) 2000 ((0 : Int32), (0 : Int32), c1)).bind fun q4 =>
  (mst q4.2 5 v1 x2).bind fun σ10 =>
  some (q4.1, σ10)
theorem hdM_sortsBy : yX6_sortsBy.cls = RX6 ∧ yX6_sortsBy.cls ≠ "java/lang/invoke/MethodHandle" ∧ yX6_sortsBy.cls ≠ "java/lang/invoke/VarHandle" ∧ (parseMethodDescriptor yX6_sortsBy.desc).map (fun d => d.parameters.length) = some 1 := by decide +kernel
set_option maxHeartbeats 4000000 in
theorem metM_sortsBy (l : Launch) (σ : MM) (v1 : Int32) (res : Int32 × MM) (h : M_sortsBy σ v1 = some res) : MetM l yX6_sortsBy cX6_sortsBy 5 (some .int) 9 (fun K => [.ref (kO K), .int v1]) σ (some (.int res.1)) res.2 := by
  refine met_walk rfl (by simp [mRt]) (fun _ => Nat.le_of_ble_eq_true rfl) (fun K p e s m args below meth c Q C hE ls hl hJ => ?_)
  have hx := C.1.1
  have hb := C.1.2.1
  have hown := C.1.2.2.2.1
  have hts := C.1.2.2.2.2
  have hl : lv_has ls 5 [(0, .ref (kO K)), (1, .int v1)] := hl
  unfold M_sortsBy at h
  refine lv_aload_n hx hb dX6_sortsBy_0 rfl (lv_at hl 0 rfl) ?_
  obtain ⟨c1, hc1, h⟩ := ob h
  refine mc_V (As := []) (rest := []) C hJ (metM_asTold l σ c1 hc1) (cwV 0 hts (lw_V q1466 q1468 qs64 q118 q1469) rfl rfl rfl hdM_asTold ⟨Nat.le_of_ble_eq_true rfl, Nat.le_of_ble_eq_true rfl⟩) rfl hl.1 rfl (lv_room (Nat.le_of_ble_eq_true rfl)) dX6_sortsBy_1 (fun H locs hJ => ?_)
  refine lv_aload_n hx hb dX6_sortsBy_4 rfl (lv_at hl 0 rfl) ?_
  refine mx_ga C hJ 5 (Nat.le_of_ble_eq_true rfl) rfl lk5 dX6_sortsBy_5 ?_
  refine lv_iload_n hx hb dX6_sortsBy_8 rfl (lv_at hl 1 rfl) ?_
  obtain ⟨x2, hx2, h⟩ := ob h
  refine my_il C hJ 5 rfl hx2 dX6_sortsBy_9 ?_
  refine lv_istore_n (lv' := [(2, .int x2), (0, .ref (kO K)), (1, .int v1)]) hx hb dX6_sortsBy_10 rfl hl (Nat.le_of_ble_eq_true rfl) rfl (fun ls hl => ?_)
  refine lv_iconst hx hb dX6_sortsBy_11 kc_0 ?_
  refine lv_istore_n (lv' := [(3, .int (0 : Int32)), (2, .int x2), (0, .ref (kO K)), (1, .int v1)]) hx hb dX6_sortsBy_12 rfl hl (Nat.le_of_ble_eq_true rfl) rfl (fun ls hl => ?_)
  refine lv_iconst hx hb dX6_sortsBy_13 kc_0 ?_
  refine lv_istore (lv' := [(4, .int (0 : Int32)), (3, .int (0 : Int32)), (2, .int x2), (0, .ref (kO K)), (1, .int v1)]) hx hb dX6_sortsBy_14 hl (Nat.le_of_ble_eq_true rfl) rfl (fun ls hl => ?_)
  obtain ⟨q4, hq4, h⟩ := ob h
  have hxq4 : ∀ (H : Heap) (locs : List Loc) (ls : Array Slot), MJ K q4.2 s.heap H locs → lv_has ls 5 [(0, .ref (kO K)), (1, .int v1), (2, .int x2), (3, .int q4.1)] → W p l e (rmd 9) s m args below meth c H locs 0 0 Q (F0 m 54 ls []) := by
    intro H locs ls hJ hl
    refine lv_aload_n hx hb dX6_sortsBy_54 rfl (lv_at hl 0 rfl) ?_
    refine mx_ga C hJ 5 (Nat.le_of_ble_eq_true rfl) rfl lk5 dX6_sortsBy_55 ?_
    refine lv_iload_n hx hb dX6_sortsBy_58 rfl (lv_at hl 1 rfl) ?_
    refine lv_iload_n hx hb dX6_sortsBy_59 rfl (lv_at hl 2 rfl) ?_
    obtain ⟨σ10, hσ10, h⟩ := ob h
    refine my_is C hJ 5 rfl hσ10 dX6_sortsBy_60 (fun H locs hJ => ?_)
    refine lv_iload_n hx hb dX6_sortsBy_61 rfl (lv_at hl 3 rfl) ?_
    have h := Option.some.inj h
    subst h
    exact hE _ _ _ _ (some (.int (q4.1))) hJ ⟨_, rfl⟩ rfl dX6_sortsBy_62
  refine lp_ind (P := fun (w3 : Int32 × Int32 × MM) => ∀ (H : Heap) (locs : List Loc) (ls : Array Slot), MJ K w3.2.2 s.heap H locs → lv_has ls 5 [(0, .ref (kO K)), (1, .int v1), (2, .int x2), (3, .int w3.1), (4, .int w3.2.1)] → W p l e (rmd 9) s m args below meth c H locs 0 0 Q (F0 m 16 ls [])) ?_ _ _ hq4 _ _ _ hJ (lv_sub hl [3, 4, 2, 1, 0] rfl)
  intro nw3 w3 ihw3 zw3 hzw3 hqw3 H locs ls hJ hl
  refine lv_iload hx hb dX6_sortsBy_16 (lv_at hl 4 rfl) ?_
  refine lv_iconst hx hb dX6_sortsBy_18 kc_3 ?_
  refine lv_icmp_ge (tgt := 54) hx hb dX6_sortsBy_19 (by decide) (fun hc5 => ?_) (fun hc5 => ?_)
  · have hzw3 := ip hzw3 hc5
    have hzw3 := Option.some.inj hzw3
    subst hzw3
    have hqw3 : _ = q4 := hqw3
    subst hqw3
    exact hxq4 _ _ _ hJ (lv_sub hl [0, 1, 2, 3] rfl)
  · have hzw3 := im hzw3 hc5
    refine lv_aload_n hx hb dX6_sortsBy_22 rfl (lv_at hl 0 rfl) ?_
    refine mx_ga C hJ 5 (Nat.le_of_ble_eq_true rfl) rfl lk5 dX6_sortsBy_23 ?_
    refine lv_iload_n hx hb dX6_sortsBy_26 rfl (lv_at hl 1 rfl) ?_
    refine lv_iload hx hb dX6_sortsBy_27 (lv_at hl 4 rfl) ?_
    obtain ⟨σ6, hσ6, hzw3⟩ := ob hzw3
    refine my_is C hJ 5 rfl hσ6 dX6_sortsBy_29 (fun H locs hJ => ?_)
    refine lv_iload_n hx hb dX6_sortsBy_30 rfl (lv_at hl 3 rfl) ?_
    refine lv_aload_n hx hb dX6_sortsBy_31 rfl (lv_at hl 0 rfl) ?_
    obtain ⟨c7, hc7, hzw3⟩ := ob hzw3
    refine mc_V (As := []) (rest := [.int w3.1]) C hJ (metM_isSeen l σ6 c7 hc7) (cwV 0 hts (lw_V q1653 q1655 qs96 q118 q1656) rfl rfl rfl hdM_isSeen ⟨Nat.le_of_ble_eq_true rfl, Nat.le_of_ble_eq_true rfl⟩) rfl hl.1 rfl (lv_room (Nat.le_of_ble_eq_true rfl)) dX6_sortsBy_32 (fun H locs hJ => ?_)
    obtain ⟨q9, hq9, hzw3⟩ := ob hzw3
    have hjq9 : ∀ (H : Heap) (locs : List Loc) (ls : Array Slot), MJ K c7.2 s.heap H locs → lv_has ls 5 [(0, .ref (kO K)), (1, .int v1), (2, .int x2), (4, .int w3.2.1)] → W p l e (rmd 9) s m args below meth c H locs 0 0 Q (F0 m 46 ls [.int q9, .int w3.1]) := by
      intro H locs ls hJ hl
      refine lv_ior hx hb dX6_sortsBy_46 ?_
      refine lv_istore_n (lv' := [(3, .int (w3.1 ||| q9)), (0, .ref (kO K)), (1, .int v1), (2, .int x2), (4, .int w3.2.1)]) hx hb dX6_sortsBy_47 rfl hl (Nat.le_of_ble_eq_true rfl) rfl (fun ls hl => ?_)
      refine lv_iinc (v := (w3.2.1 + 1)) (lv' := [(4, .int (w3.2.1 + 1)), (3, .int (w3.1 ||| q9)), (0, .ref (kO K)), (1, .int v1), (2, .int x2)]) hx hb dX6_sortsBy_48 hl (k := 4) rfl rfl (Nat.le_of_ble_eq_true rfl) rfl (fun ls hl => ?_)
      refine lv_goto (tgt := 16) hx hb dX6_sortsBy_51 (by decide) ?_
      have hzw3 := Option.some.inj hzw3
      subst hzw3
      exact ihw3 _ hqw3 _ _ _ hJ (lv_sub hl [2, 3, 4, 1, 0] rfl)
    refine lv_if_eq (tgt := 45) hx hb dX6_sortsBy_35 (by decide) (fun hc8 => ?_) (fun hc8 => ?_)
    · have hq9 := ip hq9 hc8
      refine lv_iconst hx hb dX6_sortsBy_45 kc_0 ?_
      have hq9 := Option.some.inj hq9
      subst hq9
      exact hjq9 _ _ _ hJ (lv_sub hl [0, 1, 2, 4] rfl)
    · have hq9 := im hq9 hc8
      refine lv_iconst hx hb dX6_sortsBy_38 kc_1 ?_
      refine lv_iload hx hb dX6_sortsBy_39 (lv_at hl 4 rfl) ?_
      refine lv_ishl hx hb dX6_sortsBy_41 ?_
      refine lv_goto (tgt := 46) hx hb dX6_sortsBy_42 (by decide) ?_
      have hq9 := Option.some.inj hq9
      subst hq9
      exact hjq9 _ _ _ hJ (lv_sub hl [0, 1, 2, 4] rfl)
def M_wetBy (σ : MM) (v1 : Int32) : Option (Int32 × MM) :=
  (M_asTold σ).bind fun c1 =>
  (mld c1 3 v1).bind fun x2 =>
  (lp (S := Int32 × Int32 × MM) (T := Int32 × MM) (fun w3 =>
    if (10 : Int32) ≤ w3.2.1 then
        some (.inr (w3.1, w3.2.2))
      else
        (mst w3.2.2 3 v1 w3.2.1).bind fun σ6 =>
        (M_isSeen σ6).bind fun c7 =>
        (if c7.1 = 0 then
            some (0 : Int32)
          else
            some ((1 : Int32) <<< (w3.2.1 &&& 31)) : Option (Int32)).bind fun q9 =>
        (lp (S := Int32 × MM) (T := MM) (fun w10 =>
          if (20 : Int32) ≤ w10.1 then
              some (.inr w10.2)
            else
              (mld w10.2 23 (((12 : Int32) * w10.1) + v1)).bind fun x13 =>
              (mst w10.2 35 (((20 : Int32) * w3.2.1) + w10.1) x13).bind fun σ14 =>
              some (.inl ((w10.1 + 1), σ14))) 2000 ((0 : Int32), c7.2)).bind fun q11 =>
        some (.inl ((w3.1 ||| q9), (w3.2.1 + 1), q11))) 2000 ((0 : Int32), (0 : Int32), c1)).bind fun q4 =>
  (mst q4.2 3 v1 x2).bind fun σ15 =>
  some (q4.1, σ15)
theorem hdM_wetBy : yX6_wetBy.cls = RX6 ∧ yX6_wetBy.cls ≠ "java/lang/invoke/MethodHandle" ∧ yX6_wetBy.cls ≠ "java/lang/invoke/VarHandle" ∧ (parseMethodDescriptor yX6_wetBy.desc).map (fun d => d.parameters.length) = some 1 := by decide +kernel
set_option maxHeartbeats 4000000 in
theorem metM_wetBy (l : Launch) (σ : MM) (v1 : Int32) (res : Int32 × MM) (h : M_wetBy σ v1 = some res) : MetM l yX6_wetBy cX6_wetBy 6 (some .int) 9 (fun K => [.ref (kO K), .int v1]) σ (some (.int res.1)) res.2 := by
  refine met_walk rfl (by simp [mRt]) (fun _ => Nat.le_of_ble_eq_true rfl) (fun K p e s m args below meth c Q C hE ls hl hJ => ?_)
  have hx := C.1.1
  have hb := C.1.2.1
  have hown := C.1.2.2.2.1
  have hts := C.1.2.2.2.2
  have hl : lv_has ls 6 [(0, .ref (kO K)), (1, .int v1)] := hl
  unfold M_wetBy at h
  refine lv_aload_n hx hb dX6_wetBy_0 rfl (lv_at hl 0 rfl) ?_
  obtain ⟨c1, hc1, h⟩ := ob h
  refine mc_V (As := []) (rest := []) C hJ (metM_asTold l σ c1 hc1) (cwV 0 hts (lw_V q1466 q1468 qs64 q118 q1469) rfl rfl rfl hdM_asTold ⟨Nat.le_of_ble_eq_true rfl, Nat.le_of_ble_eq_true rfl⟩) rfl hl.1 rfl (lv_room (Nat.le_of_ble_eq_true rfl)) dX6_wetBy_1 (fun H locs hJ => ?_)
  refine lv_aload_n hx hb dX6_wetBy_4 rfl (lv_at hl 0 rfl) ?_
  refine mx_ga C hJ 3 (Nat.le_of_ble_eq_true rfl) rfl lk3 dX6_wetBy_5 ?_
  refine lv_iload_n hx hb dX6_wetBy_8 rfl (lv_at hl 1 rfl) ?_
  obtain ⟨x2, hx2, h⟩ := ob h
  refine my_il C hJ 3 rfl hx2 dX6_wetBy_9 ?_
  refine lv_istore_n (lv' := [(2, .int x2), (0, .ref (kO K)), (1, .int v1)]) hx hb dX6_wetBy_10 rfl hl (Nat.le_of_ble_eq_true rfl) rfl (fun ls hl => ?_)
  refine lv_iconst hx hb dX6_wetBy_11 kc_0 ?_
  refine lv_istore_n (lv' := [(3, .int (0 : Int32)), (2, .int x2), (0, .ref (kO K)), (1, .int v1)]) hx hb dX6_wetBy_12 rfl hl (Nat.le_of_ble_eq_true rfl) rfl (fun ls hl => ?_)
  refine lv_iconst hx hb dX6_wetBy_13 kc_0 ?_
  refine lv_istore (lv' := [(4, .int (0 : Int32)), (3, .int (0 : Int32)), (2, .int x2), (0, .ref (kO K)), (1, .int v1)]) hx hb dX6_wetBy_14 hl (Nat.le_of_ble_eq_true rfl) rfl (fun ls hl => ?_)
  obtain ⟨q4, hq4, h⟩ := ob h
  have hxq4 : ∀ (H : Heap) (locs : List Loc) (ls : Array Slot), MJ K q4.2 s.heap H locs → lv_has ls 6 [(0, .ref (kO K)), (1, .int v1), (2, .int x2), (3, .int q4.1)] → W p l e (rmd 9) s m args below meth c H locs 0 0 Q (F0 m 96 ls []) := by
    intro H locs ls hJ hl
    refine lv_aload_n hx hb dX6_wetBy_96 rfl (lv_at hl 0 rfl) ?_
    refine mx_ga C hJ 3 (Nat.le_of_ble_eq_true rfl) rfl lk3 dX6_wetBy_97 ?_
    refine lv_iload_n hx hb dX6_wetBy_100 rfl (lv_at hl 1 rfl) ?_
    refine lv_iload_n hx hb dX6_wetBy_101 rfl (lv_at hl 2 rfl) ?_
    obtain ⟨σ15, hσ15, h⟩ := ob h
    refine my_is C hJ 3 rfl hσ15 dX6_wetBy_102 (fun H locs hJ => ?_)
    refine lv_iload_n hx hb dX6_wetBy_103 rfl (lv_at hl 3 rfl) ?_
    have h := Option.some.inj h
    subst h
    exact hE _ _ _ _ (some (.int (q4.1))) hJ ⟨_, rfl⟩ rfl dX6_wetBy_104
  refine lp_ind (P := fun (w3 : Int32 × Int32 × MM) => ∀ (H : Heap) (locs : List Loc) (ls : Array Slot), MJ K w3.2.2 s.heap H locs → lv_has ls 6 [(0, .ref (kO K)), (1, .int v1), (2, .int x2), (3, .int w3.1), (4, .int w3.2.1)] → W p l e (rmd 9) s m args below meth c H locs 0 0 Q (F0 m 16 ls [])) ?_ _ _ hq4 _ _ _ hJ (lv_sub hl [3, 4, 2, 1, 0] rfl)
  intro nw3 w3 ihw3 zw3 hzw3 hqw3 H locs ls hJ hl
  refine lv_iload hx hb dX6_wetBy_16 (lv_at hl 4 rfl) ?_
  refine lv_bipush hx hb dX6_wetBy_18 kb_10 ?_
  refine lv_icmp_ge (tgt := 96) hx hb dX6_wetBy_20 (by decide) (fun hc5 => ?_) (fun hc5 => ?_)
  · have hzw3 := ip hzw3 hc5
    have hzw3 := Option.some.inj hzw3
    subst hzw3
    have hqw3 : _ = q4 := hqw3
    subst hqw3
    exact hxq4 _ _ _ hJ (lv_sub hl [0, 1, 2, 3] rfl)
  · have hzw3 := im hzw3 hc5
    refine lv_aload_n hx hb dX6_wetBy_23 rfl (lv_at hl 0 rfl) ?_
    refine mx_ga C hJ 3 (Nat.le_of_ble_eq_true rfl) rfl lk3 dX6_wetBy_24 ?_
    refine lv_iload_n hx hb dX6_wetBy_27 rfl (lv_at hl 1 rfl) ?_
    refine lv_iload hx hb dX6_wetBy_28 (lv_at hl 4 rfl) ?_
    obtain ⟨σ6, hσ6, hzw3⟩ := ob hzw3
    refine my_is C hJ 3 rfl hσ6 dX6_wetBy_30 (fun H locs hJ => ?_)
    refine lv_iload_n hx hb dX6_wetBy_31 rfl (lv_at hl 3 rfl) ?_
    refine lv_aload_n hx hb dX6_wetBy_32 rfl (lv_at hl 0 rfl) ?_
    obtain ⟨c7, hc7, hzw3⟩ := ob hzw3
    refine mc_V (As := []) (rest := [.int w3.1]) C hJ (metM_isSeen l σ6 c7 hc7) (cwV 0 hts (lw_V q1653 q1655 qs96 q118 q1656) rfl rfl rfl hdM_isSeen ⟨Nat.le_of_ble_eq_true rfl, Nat.le_of_ble_eq_true rfl⟩) rfl hl.1 rfl (lv_room (Nat.le_of_ble_eq_true rfl)) dX6_wetBy_33 (fun H locs hJ => ?_)
    obtain ⟨q9, hq9, hzw3⟩ := ob hzw3
    have hjq9 : ∀ (H : Heap) (locs : List Loc) (ls : Array Slot), MJ K c7.2 s.heap H locs → lv_has ls 6 [(0, .ref (kO K)), (1, .int v1), (2, .int x2), (4, .int w3.2.1)] → W p l e (rmd 9) s m args below meth c H locs 0 0 Q (F0 m 47 ls [.int q9, .int w3.1]) := by
      intro H locs ls hJ hl
      refine lv_ior hx hb dX6_wetBy_47 ?_
      refine lv_istore_n (lv' := [(3, .int (w3.1 ||| q9)), (0, .ref (kO K)), (1, .int v1), (2, .int x2), (4, .int w3.2.1)]) hx hb dX6_wetBy_48 rfl hl (Nat.le_of_ble_eq_true rfl) rfl (fun ls hl => ?_)
      refine lv_iconst hx hb dX6_wetBy_49 kc_0 ?_
      refine lv_istore (lv' := [(5, .int (0 : Int32)), (3, .int (w3.1 ||| q9)), (0, .ref (kO K)), (1, .int v1), (2, .int x2), (4, .int w3.2.1)]) hx hb dX6_wetBy_50 hl (Nat.le_of_ble_eq_true rfl) rfl (fun ls hl => ?_)
      obtain ⟨q11, hq11, hzw3⟩ := ob hzw3
      have hxq11 : ∀ (H : Heap) (locs : List Loc) (ls : Array Slot), MJ K q11 s.heap H locs → lv_has ls 6 [(0, .ref (kO K)), (1, .int v1), (2, .int x2), (3, .int (w3.1 ||| q9)), (4, .int w3.2.1)] → W p l e (rmd 9) s m args below meth c H locs 0 0 Q (F0 m 90 ls []) := by
        intro H locs ls hJ hl
        refine lv_iinc (v := (w3.2.1 + 1)) (lv' := [(4, .int (w3.2.1 + 1)), (0, .ref (kO K)), (1, .int v1), (2, .int x2), (3, .int (w3.1 ||| q9))]) hx hb dX6_wetBy_90 hl (k := 4) rfl rfl (Nat.le_of_ble_eq_true rfl) rfl (fun ls hl => ?_)
        refine lv_goto (tgt := 16) hx hb dX6_wetBy_93 (by decide) ?_
        have hzw3 := Option.some.inj hzw3
        subst hzw3
        exact ihw3 _ hqw3 _ _ _ hJ (lv_sub hl [1, 2, 3, 4, 0] rfl)
      refine lp_ind (P := fun (w10 : Int32 × MM) => ∀ (H : Heap) (locs : List Loc) (ls : Array Slot), MJ K w10.2 s.heap H locs → lv_has ls 6 [(0, .ref (kO K)), (1, .int v1), (2, .int x2), (3, .int (w3.1 ||| q9)), (4, .int w3.2.1), (5, .int w10.1)] → W p l e (rmd 9) s m args below meth c H locs 0 0 Q (F0 m 52 ls [])) ?_ _ _ hq11 _ _ _ hJ (lv_sub hl [2, 3, 4, 1, 5, 0] rfl)
      intro nw10 w10 ihw10 zw10 hzw10 hqw10 H locs ls hJ hl
      refine lv_iload hx hb dX6_wetBy_52 (lv_at hl 5 rfl) ?_
      refine lv_bipush hx hb dX6_wetBy_54 kb_20 ?_
      refine lv_icmp_ge (tgt := 90) hx hb dX6_wetBy_56 (by decide) (fun hc12 => ?_) (fun hc12 => ?_)
      · have hzw10 := ip hzw10 hc12
        have hzw10 := Option.some.inj hzw10
        subst hzw10
        have hqw10 : _ = q11 := hqw10
        subst hqw10
        exact hxq11 _ _ _ hJ (lv_sub hl [0, 1, 2, 3, 4] rfl)
      · have hzw10 := im hzw10 hc12
        refine lv_aload_n hx hb dX6_wetBy_59 rfl (lv_at hl 0 rfl) ?_
        refine mx_ga C hJ 35 (Nat.le_of_ble_eq_true rfl) rfl lk35 dX6_wetBy_60 ?_
        refine lv_bipush hx hb dX6_wetBy_63 kb_20 ?_
        refine lv_iload hx hb dX6_wetBy_65 (lv_at hl 4 rfl) ?_
        refine lv_imul hx hb dX6_wetBy_67 ?_
        refine lv_iload hx hb dX6_wetBy_68 (lv_at hl 5 rfl) ?_
        refine lv_iadd hx hb dX6_wetBy_70 ?_
        refine lv_aload_n hx hb dX6_wetBy_71 rfl (lv_at hl 0 rfl) ?_
        refine mx_ga C hJ 23 (Nat.le_of_ble_eq_true rfl) rfl lk23 dX6_wetBy_72 ?_
        refine lv_bipush hx hb dX6_wetBy_75 kb_12 ?_
        refine lv_iload hx hb dX6_wetBy_77 (lv_at hl 5 rfl) ?_
        refine lv_imul hx hb dX6_wetBy_79 ?_
        refine lv_iload_n hx hb dX6_wetBy_80 rfl (lv_at hl 1 rfl) ?_
        refine lv_iadd hx hb dX6_wetBy_81 ?_
        obtain ⟨x13, hx13, hzw10⟩ := ob hzw10
        refine my_il C hJ 23 rfl hx13 dX6_wetBy_82 ?_
        obtain ⟨σ14, hσ14, hzw10⟩ := ob hzw10
        refine my_is C hJ 35 rfl hσ14 dX6_wetBy_83 (fun H locs hJ => ?_)
        refine lv_iinc (v := (w10.1 + 1)) (lv' := [(5, .int (w10.1 + 1)), (0, .ref (kO K)), (1, .int v1), (2, .int x2), (3, .int (w3.1 ||| q9)), (4, .int w3.2.1)]) hx hb dX6_wetBy_84 hl (k := 5) rfl rfl (Nat.le_of_ble_eq_true rfl) rfl (fun ls hl => ?_)
        refine lv_goto (tgt := 52) hx hb dX6_wetBy_87 (by decide) ?_
        have hzw10 := Option.some.inj hzw10
        subst hzw10
        exact ihw10 _ hqw10 _ _ _ hJ (lv_sub hl [1, 2, 3, 4, 5, 0] rfl)
    refine lv_if_eq (tgt := 46) hx hb dX6_wetBy_36 (by decide) (fun hc8 => ?_) (fun hc8 => ?_)
    · have hq9 := ip hq9 hc8
      refine lv_iconst hx hb dX6_wetBy_46 kc_0 ?_
      have hq9 := Option.some.inj hq9
      subst hq9
      exact hjq9 _ _ _ hJ (lv_sub hl [0, 1, 2, 4] rfl)
    · have hq9 := im hq9 hc8
      refine lv_iconst hx hb dX6_wetBy_39 kc_1 ?_
      refine lv_iload hx hb dX6_wetBy_40 (lv_at hl 4 rfl) ?_
      refine lv_ishl hx hb dX6_wetBy_42 ?_
      refine lv_goto (tgt := 47) hx hb dX6_wetBy_43 (by decide) ?_
      have hq9 := Option.some.inj hq9
      subst hq9
      exact hjq9 _ _ _ hJ (lv_sub hl [0, 1, 2, 4] rfl)
def M_chance (σ : MM) (v1 : Int32) (v2 : Int32) (v3 : Int32) : Option (Int64 × MM) :=
  (M_in σ v1 (0 : Int32) (16 : Int32)).bind fun c1 =>
  if c1 = 0 then
    (M_no σ (-2 : Int32)).bind fun c3 =>
    some (c3, σ)
  else
    (M_isHour σ v2).bind fun c4 =>
    if c4 = 0 then
      (M_no σ (-2 : Int32)).bind fun c6 =>
      some (c6, σ)
    else
      (M_in σ v3 (0 : Int32) (1 : Int32)).bind fun c7 =>
      if c7 = 0 then
        (M_no σ (-2 : Int32)).bind fun c9 =>
        some (c9, σ)
      else
        (M_chanceOf σ v1 v2 v3).bind fun c10 =>
        some (c10.1, c10.2)
theorem hdM_chance : yX6_chance.cls = RX6 ∧ yX6_chance.cls ≠ "java/lang/invoke/MethodHandle" ∧ yX6_chance.cls ≠ "java/lang/invoke/VarHandle" ∧ (parseMethodDescriptor yX6_chance.desc).map (fun d => d.parameters.length) = some 3 := by decide +kernel
set_option maxHeartbeats 4000000 in
theorem metM_chance (l : Launch) (σ : MM) (v1 : Int32) (v2 : Int32) (v3 : Int32) (res : Int64 × MM) (h : M_chance σ v1 v2 v3 = some res) : MetM l yX6_chance cX6_chance 4 (some .long) 9 (fun K => [.ref (kO K), .int v1, .int v2, .int v3]) σ (some (.long res.1)) res.2 := by
  refine met_walk rfl (by simp [mRt]) (fun _ => Nat.le_of_ble_eq_true rfl) (fun K p e s m args below meth c Q C hE ls hl hJ => ?_)
  have hx := C.1.1
  have hb := C.1.2.1
  have hown := C.1.2.2.2.1
  have hts := C.1.2.2.2.2
  have hl : lv_has ls 4 [(0, .ref (kO K)), (1, .int v1), (2, .int v2), (3, .int v3)] := hl
  unfold M_chance at h
  refine lv_iload_n hx hb dX6_chance_0 rfl (lv_at hl 1 rfl) ?_
  refine lv_iconst hx hb dX6_chance_1 kc_0 ?_
  refine lv_bipush hx hb dX6_chance_2 kb_16 ?_
  obtain ⟨c1, hc1, h⟩ := ob h
  refine mc_S (As := [.int v1, .int (0 : Int32), .int (16 : Int32)]) (rest := []) C hJ (metM_in l σ v1 (0 : Int32) (16 : Int32) c1 hc1) (va_cwS 3 hts (lw_S q1365 q1366 q118 q1367) rfl rfl rfl hdM_in ⟨Nat.le_of_ble_eq_true rfl, Nat.le_of_ble_eq_true rfl⟩) rfl hl.1 rfl (lv_room (Nat.le_of_ble_eq_true rfl)) dX6_chance_4 (fun H locs hJ => ?_)
  refine lv_if_eq (tgt := 36) hx hb dX6_chance_7 (by decide) (fun hc2 => ?_) (fun hc2 => ?_)
  · have h := ip h hc2
    refine lv_bipush hx hb dX6_chance_36 kb_m2 ?_
    obtain ⟨c3, hc3, h⟩ := ob h
    refine mc_S (As := [.int (-2 : Int32)]) (rest := []) C hJ (metM_no l σ (-2 : Int32) c3 hc3) (va_cwS 1 hts (lw_S q1692 q1693 q118 q1694) rfl rfl rfl hdM_no ⟨Nat.le_of_ble_eq_true rfl, Nat.le_of_ble_eq_true rfl⟩) rfl hl.1 rfl (lv_room (Nat.le_of_ble_eq_true rfl)) dX6_chance_38 (fun H locs hJ => ?_)
    have h := Option.some.inj h
    subst h
    exact hE _ _ _ _ (some (.long (c3))) hJ ⟨_, rfl⟩ rfl dX6_chance_41
  · have h := im h hc2
    refine lv_iload_n hx hb dX6_chance_10 rfl (lv_at hl 2 rfl) ?_
    obtain ⟨c4, hc4, h⟩ := ob h
    refine mc_S (As := [.int v2]) (rest := []) C hJ (metM_isHour l σ v2 c4 hc4) (va_cwS 1 hts (lw_S q1435 q1436 q118 q1437) rfl rfl rfl hdM_isHour ⟨Nat.le_of_ble_eq_true rfl, Nat.le_of_ble_eq_true rfl⟩) rfl hl.1 rfl (lv_room (Nat.le_of_ble_eq_true rfl)) dX6_chance_11 (fun H locs hJ => ?_)
    refine lv_if_eq (tgt := 36) hx hb dX6_chance_14 (by decide) (fun hc5 => ?_) (fun hc5 => ?_)
    · have h := ip h hc5
      refine lv_bipush hx hb dX6_chance_36 kb_m2 ?_
      obtain ⟨c6, hc6, h⟩ := ob h
      refine mc_S (As := [.int (-2 : Int32)]) (rest := []) C hJ (metM_no l σ (-2 : Int32) c6 hc6) (va_cwS 1 hts (lw_S q1692 q1693 q118 q1694) rfl rfl rfl hdM_no ⟨Nat.le_of_ble_eq_true rfl, Nat.le_of_ble_eq_true rfl⟩) rfl hl.1 rfl (lv_room (Nat.le_of_ble_eq_true rfl)) dX6_chance_38 (fun H locs hJ => ?_)
      have h := Option.some.inj h
      subst h
      exact hE _ _ _ _ (some (.long (c6))) hJ ⟨_, rfl⟩ rfl dX6_chance_41
    · have h := im h hc5
      refine lv_iload_n hx hb dX6_chance_17 rfl (lv_at hl 3 rfl) ?_
      refine lv_iconst hx hb dX6_chance_18 kc_0 ?_
      refine lv_iconst hx hb dX6_chance_19 kc_1 ?_
      obtain ⟨c7, hc7, h⟩ := ob h
      refine mc_S (As := [.int v3, .int (0 : Int32), .int (1 : Int32)]) (rest := []) C hJ (metM_in l σ v3 (0 : Int32) (1 : Int32) c7 hc7) (va_cwS 3 hts (lw_S q1365 q1366 q118 q1367) rfl rfl rfl hdM_in ⟨Nat.le_of_ble_eq_true rfl, Nat.le_of_ble_eq_true rfl⟩) rfl hl.1 rfl (lv_room (Nat.le_of_ble_eq_true rfl)) dX6_chance_20 (fun H locs hJ => ?_)
      refine lv_if_eq (tgt := 36) hx hb dX6_chance_23 (by decide) (fun hc8 => ?_) (fun hc8 => ?_)
      · have h := ip h hc8
        refine lv_bipush hx hb dX6_chance_36 kb_m2 ?_
        obtain ⟨c9, hc9, h⟩ := ob h
        refine mc_S (As := [.int (-2 : Int32)]) (rest := []) C hJ (metM_no l σ (-2 : Int32) c9 hc9) (va_cwS 1 hts (lw_S q1692 q1693 q118 q1694) rfl rfl rfl hdM_no ⟨Nat.le_of_ble_eq_true rfl, Nat.le_of_ble_eq_true rfl⟩) rfl hl.1 rfl (lv_room (Nat.le_of_ble_eq_true rfl)) dX6_chance_38 (fun H locs hJ => ?_)
        have h := Option.some.inj h
        subst h
        exact hE _ _ _ _ (some (.long (c9))) hJ ⟨_, rfl⟩ rfl dX6_chance_41
      · have h := im h hc8
        refine lv_aload_n hx hb dX6_chance_26 rfl (lv_at hl 0 rfl) ?_
        refine lv_iload_n hx hb dX6_chance_27 rfl (lv_at hl 1 rfl) ?_
        refine lv_iload_n hx hb dX6_chance_28 rfl (lv_at hl 2 rfl) ?_
        refine lv_iload_n hx hb dX6_chance_29 rfl (lv_at hl 3 rfl) ?_
        obtain ⟨c10, hc10, h⟩ := ob h
        refine mc_V (As := [.int v1, .int v2, .int v3]) (rest := []) C hJ (metM_chanceOf l σ v1 v2 v3 c10 hc10) (cwV 3 hts (lw_V q1685 q1687 qs100 q118 q1688) rfl rfl rfl hdM_chanceOf ⟨Nat.le_of_ble_eq_true rfl, Nat.le_of_ble_eq_true rfl⟩) rfl hl.1 rfl (lv_room (Nat.le_of_ble_eq_true rfl)) dX6_chance_30 (fun H locs hJ => ?_)
        refine lv_goto (tgt := 41) hx hb dX6_chance_33 (by decide) ?_
        have h := Option.some.inj h
        subst h
        exact hE _ _ _ _ (some (.long (c10.1))) hJ ⟨_, rfl⟩ rfl dX6_chance_41
def M_ages (σ : MM) (v1 : Int32) (v2 : Int32) (v3 : Int32) : Option (Int32 × MM) :=
  (M_in σ v2 (0 : Int32) (8 : Int32)).bind fun c1 =>
  if c1 = 0 then
    some ((-2 : Int32), σ)
  else
    (M_in σ v3 (0 : Int32) (1 : Int32)).bind fun c3 =>
    if c3 = 0 then
      some ((-2 : Int32), σ)
    else
      (M_agesOf σ v1 v2 v3).bind fun c5 =>
      some (c5.1, c5.2)
theorem hdM_ages : yX6_ages.cls = RX6 ∧ yX6_ages.cls ≠ "java/lang/invoke/MethodHandle" ∧ yX6_ages.cls ≠ "java/lang/invoke/VarHandle" ∧ (parseMethodDescriptor yX6_ages.desc).map (fun d => d.parameters.length) = some 3 := by decide +kernel
set_option maxHeartbeats 4000000 in
theorem metM_ages (l : Launch) (σ : MM) (v1 : Int32) (v2 : Int32) (v3 : Int32) (res : Int32 × MM) (h : M_ages σ v1 v2 v3 = some res) : MetM l yX6_ages cX6_ages 4 (some .int) 9 (fun K => [.ref (kO K), .int v1, .int v2, .int v3]) σ (some (.int res.1)) res.2 := by
  refine met_walk rfl (by simp [mRt]) (fun _ => Nat.le_of_ble_eq_true rfl) (fun K p e s m args below meth c Q C hE ls hl hJ => ?_)
  have hx := C.1.1
  have hb := C.1.2.1
  have hown := C.1.2.2.2.1
  have hts := C.1.2.2.2.2
  have hl : lv_has ls 4 [(0, .ref (kO K)), (1, .int v1), (2, .int v2), (3, .int v3)] := hl
  unfold M_ages at h
  refine lv_iload_n hx hb dX6_ages_0 rfl (lv_at hl 2 rfl) ?_
  refine lv_iconst hx hb dX6_ages_1 kc_0 ?_
  refine lv_bipush hx hb dX6_ages_2 kb_8 ?_
  obtain ⟨c1, hc1, h⟩ := ob h
  refine mc_S (As := [.int v2, .int (0 : Int32), .int (8 : Int32)]) (rest := []) C hJ (metM_in l σ v2 (0 : Int32) (8 : Int32) c1 hc1) (va_cwS 3 hts (lw_S q1365 q1366 q118 q1367) rfl rfl rfl hdM_in ⟨Nat.le_of_ble_eq_true rfl, Nat.le_of_ble_eq_true rfl⟩) rfl hl.1 rfl (lv_room (Nat.le_of_ble_eq_true rfl)) dX6_ages_4 (fun H locs hJ => ?_)
  refine lv_if_eq (tgt := 29) hx hb dX6_ages_7 (by decide) (fun hc2 => ?_) (fun hc2 => ?_)
  · have h := ip h hc2
    refine lv_bipush hx hb dX6_ages_29 kb_m2 ?_
    have h := Option.some.inj h
    subst h
    exact hE _ _ _ _ (some (.int ((-2 : Int32)))) hJ ⟨_, rfl⟩ rfl dX6_ages_31
  · have h := im h hc2
    refine lv_iload_n hx hb dX6_ages_10 rfl (lv_at hl 3 rfl) ?_
    refine lv_iconst hx hb dX6_ages_11 kc_0 ?_
    refine lv_iconst hx hb dX6_ages_12 kc_1 ?_
    obtain ⟨c3, hc3, h⟩ := ob h
    refine mc_S (As := [.int v3, .int (0 : Int32), .int (1 : Int32)]) (rest := []) C hJ (metM_in l σ v3 (0 : Int32) (1 : Int32) c3 hc3) (va_cwS 3 hts (lw_S q1365 q1366 q118 q1367) rfl rfl rfl hdM_in ⟨Nat.le_of_ble_eq_true rfl, Nat.le_of_ble_eq_true rfl⟩) rfl hl.1 rfl (lv_room (Nat.le_of_ble_eq_true rfl)) dX6_ages_13 (fun H locs hJ => ?_)
    refine lv_if_eq (tgt := 29) hx hb dX6_ages_16 (by decide) (fun hc4 => ?_) (fun hc4 => ?_)
    · have h := ip h hc4
      refine lv_bipush hx hb dX6_ages_29 kb_m2 ?_
      have h := Option.some.inj h
      subst h
      exact hE _ _ _ _ (some (.int ((-2 : Int32)))) hJ ⟨_, rfl⟩ rfl dX6_ages_31
    · have h := im h hc4
      refine lv_aload_n hx hb dX6_ages_19 rfl (lv_at hl 0 rfl) ?_
      refine lv_iload_n hx hb dX6_ages_20 rfl (lv_at hl 1 rfl) ?_
      refine lv_iload_n hx hb dX6_ages_21 rfl (lv_at hl 2 rfl) ?_
      refine lv_iload_n hx hb dX6_ages_22 rfl (lv_at hl 3 rfl) ?_
      obtain ⟨c5, hc5, h⟩ := ob h
      refine mc_V (As := [.int v1, .int v2, .int v3]) (rest := []) C hJ (metM_agesOf l σ v1 v2 v3 c5 hc5) (cwV 3 hts (lw_V q1700 q1702 qs101 q118 q1703) rfl rfl rfl hdM_agesOf ⟨Nat.le_of_ble_eq_true rfl, Nat.le_of_ble_eq_true rfl⟩) rfl hl.1 rfl (lv_room (Nat.le_of_ble_eq_true rfl)) dX6_ages_23 (fun H locs hJ => ?_)
      refine lv_goto (tgt := 31) hx hb dX6_ages_26 (by decide) ?_
      have h := Option.some.inj h
      subst h
      exact hE _ _ _ _ (some (.int (c5.1))) hJ ⟨_, rfl⟩ rfl dX6_ages_31
def M_write (σ : MM) (v1 : Int32) (v2 : Int32) : Option (Int32 × MM) :=
  (M_isHour σ v1).bind fun c1 =>
  if c1 = 0 then
    some ((-2 : Int32), σ)
  else
    (M_isSheet σ v2).bind fun c3 =>
    if c3 = 0 then
      some ((-2 : Int32), σ)
    else
      (mld σ 36 v2).bind fun x5 =>
      if x5 = 0 then
        (M_meets σ (1 : Int32)).bind fun c15 =>
        some (c15.1, c15.2)
      else
        (M_runsTold σ).bind fun c7 =>
        (lp (S := Int32 × MM) (T := Int32 × MM) (fun w8 =>
          (mld w8.2 38 v2).bind fun x10 =>
            if x10 ≤ w8.1 then
              some (.inr (w8.1, w8.2))
            else
              if (12 : Int32) ≤ w8.1 then
                some (.inr (w8.1, w8.2))
              else
                (mld w8.2 23 (((12 : Int32) * v1) + w8.1)).bind fun x13 =>
                (M_keep w8.2 v2 w8.1 x13).bind fun c14 =>
                some (.inl ((w8.1 + 1), c14))) 2000 ((0 : Int32), c7)).bind fun q9 =>
        some (q9.1, q9.2)
theorem hdM_write : yX6_write.cls = RX6 ∧ yX6_write.cls ≠ "java/lang/invoke/MethodHandle" ∧ yX6_write.cls ≠ "java/lang/invoke/VarHandle" ∧ (parseMethodDescriptor yX6_write.desc).map (fun d => d.parameters.length) = some 2 := by decide +kernel
set_option maxHeartbeats 4000000 in
theorem metM_write (l : Launch) (σ : MM) (v1 : Int32) (v2 : Int32) (res : Int32 × MM) (h : M_write σ v1 v2 = some res) : MetM l yX6_write cX6_write 4 (some .int) 9 (fun K => [.ref (kO K), .int v1, .int v2]) σ (some (.int res.1)) res.2 := by
  refine met_walk rfl (by simp [mRt]) (fun _ => Nat.le_of_ble_eq_true rfl) (fun K p e s m args below meth c Q C hE ls hl hJ => ?_)
  have hx := C.1.1
  have hb := C.1.2.1
  have hown := C.1.2.2.2.1
  have hts := C.1.2.2.2.2
  have hl : lv_has ls 4 [(0, .ref (kO K)), (1, .int v1), (2, .int v2)] := hl
  unfold M_write at h
  refine lv_iload_n hx hb dX6_write_0 rfl (lv_at hl 1 rfl) ?_
  obtain ⟨c1, hc1, h⟩ := ob h
  refine mc_S (As := [.int v1]) (rest := []) C hJ (metM_isHour l σ v1 c1 hc1) (va_cwS 1 hts (lw_S q1435 q1436 q118 q1437) rfl rfl rfl hdM_isHour ⟨Nat.le_of_ble_eq_true rfl, Nat.le_of_ble_eq_true rfl⟩) rfl hl.1 rfl (lv_room (Nat.le_of_ble_eq_true rfl)) dX6_write_1 (fun H locs hJ => ?_)
  refine lv_if_eq (tgt := 14) hx hb dX6_write_4 (by decide) (fun hc2 => ?_) (fun hc2 => ?_)
  · have h := ip h hc2
    refine lv_bipush hx hb dX6_write_14 kb_m2 ?_
    have h := Option.some.inj h
    subst h
    exact hE _ _ _ _ (some (.int ((-2 : Int32)))) hJ ⟨_, rfl⟩ rfl dX6_write_16
  · have h := im h hc2
    refine lv_iload_n hx hb dX6_write_7 rfl (lv_at hl 2 rfl) ?_
    obtain ⟨c3, hc3, h⟩ := ob h
    refine mc_S (As := [.int v2]) (rest := []) C hJ (metM_isSheet l σ v2 c3 hc3) (va_cwS 1 hts (lw_S q1446 q1447 q118 q1448) rfl rfl rfl hdM_isSheet ⟨Nat.le_of_ble_eq_true rfl, Nat.le_of_ble_eq_true rfl⟩) rfl hl.1 rfl (lv_room (Nat.le_of_ble_eq_true rfl)) dX6_write_8 (fun H locs hJ => ?_)
    refine lv_if_ne (tgt := 17) hx hb dX6_write_11 (by decide) (fun hc4 => ?_) (fun hc4 => ?_)
    · have h := im h hc4
      refine lv_aload_n hx hb dX6_write_17 rfl (lv_at hl 0 rfl) ?_
      refine mx_ga C hJ 36 (Nat.le_of_ble_eq_true rfl) rfl lk36 dX6_write_18 ?_
      refine lv_iload_n hx hb dX6_write_21 rfl (lv_at hl 2 rfl) ?_
      obtain ⟨x5, hx5, h⟩ := ob h
      refine my_zl C hJ hx5 dX6_write_22 ?_
      refine lv_if_ne (tgt := 32) hx hb dX6_write_23 (by decide) (fun hc6 => ?_) (fun hc6 => ?_)
      · have h := im h hc6
        refine lv_aload_n hx hb dX6_write_32 rfl (lv_at hl 0 rfl) ?_
        obtain ⟨c7, hc7, h⟩ := ob h
        refine mc_V (As := []) (rest := []) C hJ (metM_runsTold l σ c7 hc7) (cwV 0 hts (lw_V q1462 q1464 qs63 q118 q1465) rfl rfl rfl hdM_runsTold ⟨Nat.le_of_ble_eq_true rfl, Nat.le_of_ble_eq_true rfl⟩) rfl hl.1 rfl (lv_room (Nat.le_of_ble_eq_true rfl)) dX6_write_33 (fun H locs hJ => ?_)
        refine lv_iconst hx hb dX6_write_36 kc_0 ?_
        refine lv_istore_n (lv' := [(3, .int (0 : Int32)), (0, .ref (kO K)), (1, .int v1), (2, .int v2)]) hx hb dX6_write_37 rfl hl (Nat.le_of_ble_eq_true rfl) rfl (fun ls hl => ?_)
        obtain ⟨q9, hq9, h⟩ := ob h
        have hxq9 : ∀ (H : Heap) (locs : List Loc) (ls : Array Slot), MJ K q9.2 s.heap H locs → lv_has ls 4 [(3, .int q9.1)] → W p l e (rmd 9) s m args below meth c H locs 0 0 Q (F0 m 77 ls []) := by
          intro H locs ls hJ hl
          refine lv_iload_n hx hb dX6_write_77 rfl (lv_at hl 0 rfl) ?_
          have h := Option.some.inj h
          subst h
          exact hE _ _ _ _ (some (.int (q9.1))) hJ ⟨_, rfl⟩ rfl dX6_write_78
        refine lp_ind (P := fun (w8 : Int32 × MM) => ∀ (H : Heap) (locs : List Loc) (ls : Array Slot), MJ K w8.2 s.heap H locs → lv_has ls 4 [(0, .ref (kO K)), (1, .int v1), (2, .int v2), (3, .int w8.1)] → W p l e (rmd 9) s m args below meth c H locs 0 0 Q (F0 m 38 ls [])) ?_ _ _ hq9 _ _ _ hJ (lv_sub hl [1, 2, 3, 0] rfl)
        intro nw8 w8 ihw8 zw8 hzw8 hqw8 H locs ls hJ hl
        refine lv_iload_n hx hb dX6_write_38 rfl (lv_at hl 3 rfl) ?_
        refine lv_aload_n hx hb dX6_write_39 rfl (lv_at hl 0 rfl) ?_
        refine mx_ga C hJ 38 (Nat.le_of_ble_eq_true rfl) rfl lk38 dX6_write_40 ?_
        refine lv_iload_n hx hb dX6_write_43 rfl (lv_at hl 2 rfl) ?_
        obtain ⟨x10, hx10, hzw8⟩ := ob hzw8
        refine my_il C hJ 38 rfl hx10 dX6_write_44 ?_
        refine lv_icmp_ge (tgt := 77) hx hb dX6_write_45 (by decide) (fun hc11 => ?_) (fun hc11 => ?_)
        · have hzw8 := ip hzw8 hc11
          have hzw8 := Option.some.inj hzw8
          subst hzw8
          have hqw8 : _ = q9 := hqw8
          subst hqw8
          exact hxq9 _ _ _ hJ (lv_sub hl [3] rfl)
        · have hzw8 := im hzw8 hc11
          refine lv_iload_n hx hb dX6_write_48 rfl (lv_at hl 3 rfl) ?_
          refine lv_bipush hx hb dX6_write_49 kb_12 ?_
          refine lv_icmp_ge (tgt := 77) hx hb dX6_write_51 (by decide) (fun hc12 => ?_) (fun hc12 => ?_)
          · have hzw8 := ip hzw8 hc12
            have hzw8 := Option.some.inj hzw8
            subst hzw8
            have hqw8 : _ = q9 := hqw8
            subst hqw8
            exact hxq9 _ _ _ hJ (lv_sub hl [3] rfl)
          · have hzw8 := im hzw8 hc12
            refine lv_aload_n hx hb dX6_write_54 rfl (lv_at hl 0 rfl) ?_
            refine lv_iload_n hx hb dX6_write_55 rfl (lv_at hl 2 rfl) ?_
            refine lv_iload_n hx hb dX6_write_56 rfl (lv_at hl 3 rfl) ?_
            refine lv_aload_n hx hb dX6_write_57 rfl (lv_at hl 0 rfl) ?_
            refine mx_ga C hJ 23 (Nat.le_of_ble_eq_true rfl) rfl lk23 dX6_write_58 ?_
            refine lv_bipush hx hb dX6_write_61 kb_12 ?_
            refine lv_iload_n hx hb dX6_write_63 rfl (lv_at hl 1 rfl) ?_
            refine lv_imul hx hb dX6_write_64 ?_
            refine lv_iload_n hx hb dX6_write_65 rfl (lv_at hl 3 rfl) ?_
            refine lv_iadd hx hb dX6_write_66 ?_
            obtain ⟨x13, hx13, hzw8⟩ := ob hzw8
            refine my_il C hJ 23 rfl hx13 dX6_write_67 ?_
            obtain ⟨c14, hc14, hzw8⟩ := ob hzw8
            refine mc_V (As := [.int v2, .int w8.1, .int x13]) (rest := []) C hJ (metM_keep l w8.2 v2 w8.1 x13 c14 hc14) (cwV 3 hts (lw_V q1721 q1723 qs103 q118 q1724) rfl rfl rfl hdM_keep ⟨Nat.le_of_ble_eq_true rfl, Nat.le_of_ble_eq_true rfl⟩) rfl hl.1 rfl (lv_room (Nat.le_of_ble_eq_true rfl)) dX6_write_68 (fun H locs hJ => ?_)
            refine lv_iinc (v := (w8.1 + 1)) (lv' := [(3, .int (w8.1 + 1)), (0, .ref (kO K)), (1, .int v1), (2, .int v2)]) hx hb dX6_write_71 hl (k := 3) rfl rfl (Nat.le_of_ble_eq_true rfl) rfl (fun ls hl => ?_)
            refine lv_goto (tgt := 38) hx hb dX6_write_74 (by decide) ?_
            have hzw8 := Option.some.inj hzw8
            subst hzw8
            exact ihw8 _ hqw8 _ _ _ hJ (lv_sub hl [1, 2, 3, 0] rfl)
      · have h := ip h hc6
        refine lv_aload_n hx hb dX6_write_26 rfl (lv_at hl 0 rfl) ?_
        refine lv_iconst hx hb dX6_write_27 kc_1 ?_
        obtain ⟨c15, hc15, h⟩ := ob h
        refine mc_V (As := [.int (1 : Int32)]) (rest := []) C hJ (metM_meets l σ (1 : Int32) c15 hc15) (cwV 1 hts (lw_V q1449 q1451 qs61 q118 q1452) rfl rfl rfl hdM_meets ⟨Nat.le_of_ble_eq_true rfl, Nat.le_of_ble_eq_true rfl⟩) rfl hl.1 rfl (lv_room (Nat.le_of_ble_eq_true rfl)) dX6_write_28 (fun H locs hJ => ?_)
        have h := Option.some.inj h
        subst h
        exact hE _ _ _ _ (some (.int (c15.1))) hJ ⟨_, rfl⟩ rfl dX6_write_31
    · have h := ip h hc4
      refine lv_bipush hx hb dX6_write_14 kb_m2 ?_
      have h := Option.some.inj h
      subst h
      exact hE _ _ _ _ (some (.int ((-2 : Int32)))) hJ ⟨_, rfl⟩ rfl dX6_write_16
def M_sumOf (σ : MM) (v1 : Int32) : Option (Int32 × MM) :=
  (M_runsTold σ).bind fun c1 =>
  (lp (S := Int32 × Int32) (T := Int32) (fun w2 =>
    if (c1 4 0) ≤ w2.2 then
        some (.inr w2.1)
      else
        (mld c1 21 w2.2).bind fun x5 =>
        some (.inl ((w2.1 + x5), (w2.2 + 1)))) 2000 ((0 : Int32), (0 : Int32))).bind fun q3 =>
  (lp (S := Int32 × Int32) (T := Int32) (fun w6 =>
    if (20 : Int32) ≤ w6.2 then
        some (.inr w6.1)
      else
        (mld c1 28 w6.2).bind fun x9 =>
        some (.inl ((w6.1 + x9), (w6.2 + 1)))) 2000 ((0 : Int32), (0 : Int32))).bind fun q7 =>
  if v1 = 0 then
    some ((c1 4 0), c1)
  else
    if v1 = (4 : Int32) then
      some (q3, c1)
    else
      if v1 = (5 : Int32) then
        some (q7, c1)
      else
        some ((c1 2 0), c1)
theorem hdM_sumOf : yX6_sumOf.cls = RX6 ∧ yX6_sumOf.cls ≠ "java/lang/invoke/MethodHandle" ∧ yX6_sumOf.cls ≠ "java/lang/invoke/VarHandle" ∧ (parseMethodDescriptor yX6_sumOf.desc).map (fun d => d.parameters.length) = some 1 := by decide +kernel
set_option maxHeartbeats 4000000 in
theorem metM_sumOf (l : Launch) (σ : MM) (v1 : Int32) (res : Int32 × MM) (h : M_sumOf σ v1 = some res) : MetM l yX6_sumOf cX6_sumOf 5 (some .int) 9 (fun K => [.ref (kO K), .int v1]) σ (some (.int res.1)) res.2 := by
  refine met_walk rfl (by simp [mRt]) (fun _ => Nat.le_of_ble_eq_true rfl) (fun K p e s m args below meth c Q C hE ls hl hJ => ?_)
  have hx := C.1.1
  have hb := C.1.2.1
  have hown := C.1.2.2.2.1
  have hts := C.1.2.2.2.2
  have hl : lv_has ls 5 [(0, .ref (kO K)), (1, .int v1)] := hl
  unfold M_sumOf at h
  refine lv_aload_n hx hb dX6_sumOf_0 rfl (lv_at hl 0 rfl) ?_
  obtain ⟨c1, hc1, h⟩ := ob h
  refine mc_V (As := []) (rest := []) C hJ (metM_runsTold l σ c1 hc1) (cwV 0 hts (lw_V q1462 q1464 qs63 q118 q1465) rfl rfl rfl hdM_runsTold ⟨Nat.le_of_ble_eq_true rfl, Nat.le_of_ble_eq_true rfl⟩) rfl hl.1 rfl (lv_room (Nat.le_of_ble_eq_true rfl)) dX6_sumOf_1 (fun H locs hJ => ?_)
  refine lv_iconst hx hb dX6_sumOf_4 kc_0 ?_
  refine lv_istore_n (lv' := [(2, .int (0 : Int32)), (0, .ref (kO K)), (1, .int v1)]) hx hb dX6_sumOf_5 rfl hl (Nat.le_of_ble_eq_true rfl) rfl (fun ls hl => ?_)
  refine lv_iconst hx hb dX6_sumOf_6 kc_0 ?_
  refine lv_istore_n (lv' := [(3, .int (0 : Int32)), (2, .int (0 : Int32)), (0, .ref (kO K)), (1, .int v1)]) hx hb dX6_sumOf_7 rfl hl (Nat.le_of_ble_eq_true rfl) rfl (fun ls hl => ?_)
  refine lv_iconst hx hb dX6_sumOf_8 kc_0 ?_
  refine lv_istore (lv' := [(4, .int (0 : Int32)), (3, .int (0 : Int32)), (2, .int (0 : Int32)), (0, .ref (kO K)), (1, .int v1)]) hx hb dX6_sumOf_9 hl (Nat.le_of_ble_eq_true rfl) rfl (fun ls hl => ?_)
  obtain ⟨q3, hq3, h⟩ := ob h
  have hxq3 : ∀ (H : Heap) (locs : List Loc) (ls : Array Slot), MJ K c1 s.heap H locs → lv_has ls 5 [(0, .ref (kO K)), (1, .int v1), (2, .int q3), (3, .int (0 : Int32))] → W p l e (rmd 9) s m args below meth c H locs 0 0 Q (F0 m 36 ls []) := by
    intro H locs ls hJ hl
    refine lv_iconst hx hb dX6_sumOf_36 kc_0 ?_
    refine lv_istore (lv' := [(4, .int (0 : Int32)), (0, .ref (kO K)), (1, .int v1), (2, .int q3), (3, .int (0 : Int32))]) hx hb dX6_sumOf_37 hl (Nat.le_of_ble_eq_true rfl) rfl (fun ls hl => ?_)
    obtain ⟨q7, hq7, h⟩ := ob h
    have hxq7 : ∀ (H : Heap) (locs : List Loc) (ls : Array Slot), MJ K c1 s.heap H locs → lv_has ls 5 [(0, .ref (kO K)), (1, .int v1), (2, .int q3), (3, .int q7)] → W p l e (rmd 9) s m args below meth c H locs 0 0 Q (F0 m 62 ls []) := by
      intro H locs ls hJ hl
      refine lv_iload_n hx hb dX6_sumOf_62 rfl (lv_at hl 1 rfl) ?_
      refine lv_if_ne (tgt := 73) hx hb dX6_sumOf_63 (by decide) (fun hc10 => ?_) (fun hc10 => ?_)
      · have h := im h hc10
        refine lv_iload_n hx hb dX6_sumOf_73 rfl (lv_at hl 1 rfl) ?_
        refine lv_iconst hx hb dX6_sumOf_74 kc_4 ?_
        refine lv_icmp_ne (tgt := 82) hx hb dX6_sumOf_75 (by decide) (fun hc11 => ?_) (fun hc11 => ?_)
        · have h := im h hc11
          refine lv_iload_n hx hb dX6_sumOf_82 rfl (lv_at hl 1 rfl) ?_
          refine lv_iconst hx hb dX6_sumOf_83 kc_5 ?_
          refine lv_icmp_ne (tgt := 91) hx hb dX6_sumOf_84 (by decide) (fun hc12 => ?_) (fun hc12 => ?_)
          · have h := im h hc12
            refine lv_aload_n hx hb dX6_sumOf_91 rfl (lv_at hl 0 rfl) ?_
            refine mx_gi C hJ 2 (Nat.le_of_ble_eq_true rfl) rfl lk2 dX6_sumOf_92 ?_
            have h := Option.some.inj h
            subst h
            exact hE _ _ _ _ (some (.int ((c1 2 0)))) hJ ⟨_, rfl⟩ rfl dX6_sumOf_95
          · have h := ip h hc12
            refine lv_iload_n hx hb dX6_sumOf_87 rfl (lv_at hl 3 rfl) ?_
            refine lv_goto (tgt := 95) hx hb dX6_sumOf_88 (by decide) ?_
            have h := Option.some.inj h
            subst h
            exact hE _ _ _ _ (some (.int (q7))) hJ ⟨_, rfl⟩ rfl dX6_sumOf_95
        · have h := ip h hc11
          refine lv_iload_n hx hb dX6_sumOf_78 rfl (lv_at hl 2 rfl) ?_
          refine lv_goto (tgt := 95) hx hb dX6_sumOf_79 (by decide) ?_
          have h := Option.some.inj h
          subst h
          exact hE _ _ _ _ (some (.int (q3))) hJ ⟨_, rfl⟩ rfl dX6_sumOf_95
      · have h := ip h hc10
        refine lv_aload_n hx hb dX6_sumOf_66 rfl (lv_at hl 0 rfl) ?_
        refine mx_gi C hJ 4 (Nat.le_of_ble_eq_true rfl) rfl lk4 dX6_sumOf_67 ?_
        refine lv_goto (tgt := 95) hx hb dX6_sumOf_70 (by decide) ?_
        have h := Option.some.inj h
        subst h
        exact hE _ _ _ _ (some (.int ((c1 4 0)))) hJ ⟨_, rfl⟩ rfl dX6_sumOf_95
    refine lp_ind (P := fun (w6 : Int32 × Int32) => ∀ (H : Heap) (locs : List Loc) (ls : Array Slot), MJ K c1 s.heap H locs → lv_has ls 5 [(0, .ref (kO K)), (1, .int v1), (2, .int q3), (3, .int w6.1), (4, .int w6.2)] → W p l e (rmd 9) s m args below meth c H locs 0 0 Q (F0 m 39 ls [])) ?_ _ _ hq7 _ _ _ hJ (lv_sub hl [1, 2, 3, 4, 0] rfl)
    intro nw6 w6 ihw6 zw6 hzw6 hqw6 H locs ls hJ hl
    refine lv_iload hx hb dX6_sumOf_39 (lv_at hl 4 rfl) ?_
    refine lv_bipush hx hb dX6_sumOf_41 kb_20 ?_
    refine lv_icmp_ge (tgt := 62) hx hb dX6_sumOf_43 (by decide) (fun hc8 => ?_) (fun hc8 => ?_)
    · have hzw6 := ip hzw6 hc8
      have hzw6 := Option.some.inj hzw6
      subst hzw6
      have hqw6 : _ = q7 := hqw6
      subst hqw6
      exact hxq7 _ _ _ hJ (lv_sub hl [0, 1, 2, 3] rfl)
    · have hzw6 := im hzw6 hc8
      refine lv_iload_n hx hb dX6_sumOf_46 rfl (lv_at hl 3 rfl) ?_
      refine lv_aload_n hx hb dX6_sumOf_47 rfl (lv_at hl 0 rfl) ?_
      refine mx_ga C hJ 28 (Nat.le_of_ble_eq_true rfl) rfl lk28 dX6_sumOf_48 ?_
      refine lv_iload hx hb dX6_sumOf_51 (lv_at hl 4 rfl) ?_
      obtain ⟨x9, hx9, hzw6⟩ := ob hzw6
      refine my_il C hJ 28 rfl hx9 dX6_sumOf_53 ?_
      refine lv_iadd hx hb dX6_sumOf_54 ?_
      refine lv_istore_n (lv' := [(3, .int (w6.1 + x9)), (0, .ref (kO K)), (1, .int v1), (2, .int q3), (4, .int w6.2)]) hx hb dX6_sumOf_55 rfl hl (Nat.le_of_ble_eq_true rfl) rfl (fun ls hl => ?_)
      refine lv_iinc (v := (w6.2 + 1)) (lv' := [(4, .int (w6.2 + 1)), (3, .int (w6.1 + x9)), (0, .ref (kO K)), (1, .int v1), (2, .int q3)]) hx hb dX6_sumOf_56 hl (k := 4) rfl rfl (Nat.le_of_ble_eq_true rfl) rfl (fun ls hl => ?_)
      refine lv_goto (tgt := 39) hx hb dX6_sumOf_59 (by decide) ?_
      have hzw6 := Option.some.inj hzw6
      subst hzw6
      exact ihw6 _ hqw6 _ _ _ hJ (lv_sub hl [2, 3, 4, 1, 0] rfl)
  refine lp_ind (P := fun (w2 : Int32 × Int32) => ∀ (H : Heap) (locs : List Loc) (ls : Array Slot), MJ K c1 s.heap H locs → lv_has ls 5 [(0, .ref (kO K)), (1, .int v1), (2, .int w2.1), (3, .int (0 : Int32)), (4, .int w2.2)] → W p l e (rmd 9) s m args below meth c H locs 0 0 Q (F0 m 11 ls [])) ?_ _ _ hq3 _ _ _ hJ (lv_sub hl [3, 4, 2, 1, 0] rfl)
  intro nw2 w2 ihw2 zw2 hzw2 hqw2 H locs ls hJ hl
  refine lv_iload hx hb dX6_sumOf_11 (lv_at hl 4 rfl) ?_
  refine lv_aload_n hx hb dX6_sumOf_13 rfl (lv_at hl 0 rfl) ?_
  refine mx_gi C hJ 4 (Nat.le_of_ble_eq_true rfl) rfl lk4 dX6_sumOf_14 ?_
  refine lv_icmp_ge (tgt := 36) hx hb dX6_sumOf_17 (by decide) (fun hc4 => ?_) (fun hc4 => ?_)
  · have hzw2 := ip hzw2 hc4
    have hzw2 := Option.some.inj hzw2
    subst hzw2
    have hqw2 : _ = q3 := hqw2
    subst hqw2
    exact hxq3 _ _ _ hJ (lv_sub hl [0, 1, 2, 3] rfl)
  · have hzw2 := im hzw2 hc4
    refine lv_iload_n hx hb dX6_sumOf_20 rfl (lv_at hl 2 rfl) ?_
    refine lv_aload_n hx hb dX6_sumOf_21 rfl (lv_at hl 0 rfl) ?_
    refine mx_ga C hJ 21 (Nat.le_of_ble_eq_true rfl) rfl lk21 dX6_sumOf_22 ?_
    refine lv_iload hx hb dX6_sumOf_25 (lv_at hl 4 rfl) ?_
    obtain ⟨x5, hx5, hzw2⟩ := ob hzw2
    refine my_il C hJ 21 rfl hx5 dX6_sumOf_27 ?_
    refine lv_iadd hx hb dX6_sumOf_28 ?_
    refine lv_istore_n (lv' := [(2, .int (w2.1 + x5)), (0, .ref (kO K)), (1, .int v1), (3, .int (0 : Int32)), (4, .int w2.2)]) hx hb dX6_sumOf_29 rfl hl (Nat.le_of_ble_eq_true rfl) rfl (fun ls hl => ?_)
    refine lv_iinc (v := (w2.2 + 1)) (lv' := [(4, .int (w2.2 + 1)), (2, .int (w2.1 + x5)), (0, .ref (kO K)), (1, .int v1), (3, .int (0 : Int32))]) hx hb dX6_sumOf_30 hl (k := 4) rfl rfl (Nat.le_of_ble_eq_true rfl) rfl (fun ls hl => ?_)
    refine lv_goto (tgt := 11) hx hb dX6_sumOf_33 (by decide) ?_
    have hzw2 := Option.some.inj hzw2
    subst hzw2
    exact ihw2 _ hqw2 _ _ _ hJ (lv_sub hl [2, 3, 1, 4, 0] rfl)
