/-! the reference, walked (printed by tool/gen_m.py) -/
set_option maxRecDepth 100000
def M_governmentsNow (σ : MM) : Option (Int32) :=
  (lp (S := Int32 × Int32) (T := Int32) (fun w1 =>
    if (20 : Int32) ≤ w1.2 then
        some (.inr w1.1)
      else
        (M_isCarried σ w1.2).bind fun c4 =>
        (M_isCarried σ (w1.2 - (1 : Int32))).bind fun c5 =>
        (if c4 = c5 then
            some (0 : Int32)
          else
            some (1 : Int32) : Option (Int32)).bind fun q7 =>
        some (.inl ((w1.1 + q7), (w1.2 + 1)))) 2000 ((0 : Int32), (1 : Int32))).bind fun q2 =>
  some q2
theorem hdM_governmentsNow : yX6_governmentsNow.cls = RX6 ∧ yX6_governmentsNow.cls ≠ "java/lang/invoke/MethodHandle" ∧ yX6_governmentsNow.cls ≠ "java/lang/invoke/VarHandle" ∧ (parseMethodDescriptor yX6_governmentsNow.desc).map (fun d => d.parameters.length) = some 0 := by decide +kernel
set_option maxHeartbeats 4000000 in
theorem metM_governmentsNow (l : Launch) (σ : MM) (res : Int32) (h : M_governmentsNow σ = some res) : MetM l yX6_governmentsNow cX6_governmentsNow 3 (some .int) 2 (fun K => [.ref (kO K)]) σ (some (.int res)) σ := by
  refine met_walk rfl (by simp [mRt]) (fun _ => Nat.le_of_ble_eq_true rfl) (fun K p e s m args below meth c Q C hE ls hl hJ => ?_)
  have hx := C.1.1
  have hb := C.1.2.1
  have hown := C.1.2.2.2.1
  have hts := C.1.2.2.2.2
  have hl : lv_has ls 3 [(0, .ref (kO K))] := hl
  unfold M_governmentsNow at h
  refine lv_iconst hx hb dX6_governmentsNow_0 kc_0 ?_
  refine lv_istore_n (lv' := [(1, .int (0 : Int32)), (0, .ref (kO K))]) hx hb dX6_governmentsNow_1 rfl hl (Nat.le_of_ble_eq_true rfl) rfl (fun ls hl => ?_)
  refine lv_iconst hx hb dX6_governmentsNow_2 kc_1 ?_
  refine lv_istore_n (lv' := [(2, .int (1 : Int32)), (1, .int (0 : Int32)), (0, .ref (kO K))]) hx hb dX6_governmentsNow_3 rfl hl (Nat.le_of_ble_eq_true rfl) rfl (fun ls hl => ?_)
  obtain ⟨q2, hq2, h⟩ := ob h
  have hxq2 : ∀ (H : Heap) (locs : List Loc) (ls : Array Slot), MJ K σ s.heap H locs → lv_has ls 3 [(1, .int q2)] → W p l e (rmd 2) s m args below meth c H locs 0 0 Q (F0 m 39 ls []) := by
    intro H locs ls hJ hl
    refine lv_iload_n hx hb dX6_governmentsNow_39 rfl (lv_at hl 0 rfl) ?_
    have h := Option.some.inj h
    subst h
    exact hE _ _ _ _ (some (.int (q2))) hJ ⟨_, rfl⟩ rfl dX6_governmentsNow_40
  refine lp_ind (P := fun (w1 : Int32 × Int32) => ∀ (H : Heap) (locs : List Loc) (ls : Array Slot), MJ K σ s.heap H locs → lv_has ls 3 [(0, .ref (kO K)), (1, .int w1.1), (2, .int w1.2)] → W p l e (rmd 2) s m args below meth c H locs 0 0 Q (F0 m 4 ls [])) ?_ _ _ hq2 _ _ _ hJ (lv_sub hl [2, 1, 0] rfl)
  intro nw1 w1 ihw1 zw1 hzw1 hqw1 H locs ls hJ hl
  refine lv_iload_n hx hb dX6_governmentsNow_4 rfl (lv_at hl 2 rfl) ?_
  refine lv_bipush hx hb dX6_governmentsNow_5 kb_20 ?_
  refine lv_icmp_ge (tgt := 39) hx hb dX6_governmentsNow_7 (by decide) (fun hc3 => ?_) (fun hc3 => ?_)
  · have hzw1 := ip hzw1 hc3
    have hzw1 := Option.some.inj hzw1
    subst hzw1
    have hqw1 : _ = q2 := hqw1
    subst hqw1
    exact hxq2 _ _ _ hJ (lv_sub hl [1] rfl)
  · have hzw1 := im hzw1 hc3
    refine lv_iload_n hx hb dX6_governmentsNow_10 rfl (lv_at hl 1 rfl) ?_
    refine lv_aload_n hx hb dX6_governmentsNow_11 rfl (lv_at hl 0 rfl) ?_
    refine lv_iload_n hx hb dX6_governmentsNow_12 rfl (lv_at hl 2 rfl) ?_
    obtain ⟨c4, hc4, hzw1⟩ := ob hzw1
    refine mc_V (As := [.int w1.2]) (rest := [.int w1.1]) C hJ (metM_isCarried l σ w1.2 c4 hc4) (cwV 1 hts (lw_V q1541 q1543 qs80 q118 q1544) rfl rfl rfl hdM_isCarried ⟨Nat.le_of_ble_eq_true rfl, Nat.le_of_ble_eq_true rfl⟩) rfl hl.1 rfl (lv_room (Nat.le_of_ble_eq_true rfl)) dX6_governmentsNow_13 (fun H locs hJ => ?_)
    refine lv_aload_n hx hb dX6_governmentsNow_16 rfl (lv_at hl 0 rfl) ?_
    refine lv_iload_n hx hb dX6_governmentsNow_17 rfl (lv_at hl 2 rfl) ?_
    refine lv_iconst hx hb dX6_governmentsNow_18 kc_1 ?_
    refine lv_isub hx hb dX6_governmentsNow_19 ?_
    obtain ⟨c5, hc5, hzw1⟩ := ob hzw1
    refine mc_V (As := [.int (w1.2 - (1 : Int32))]) (rest := [.int c4, .int w1.1]) C hJ (metM_isCarried l σ (w1.2 - (1 : Int32)) c5 hc5) (cwV 1 hts (lw_V q1541 q1543 qs80 q118 q1544) rfl rfl rfl hdM_isCarried ⟨Nat.le_of_ble_eq_true rfl, Nat.le_of_ble_eq_true rfl⟩) rfl hl.1 rfl (lv_room (Nat.le_of_ble_eq_true rfl)) dX6_governmentsNow_20 (fun H locs hJ => ?_)
    obtain ⟨q7, hq7, hzw1⟩ := ob hzw1
    have hjq7 : ∀ (H : Heap) (locs : List Loc) (ls : Array Slot), MJ K σ s.heap H locs → lv_has ls 3 [(0, .ref (kO K)), (2, .int w1.2)] → W p l e (rmd 2) s m args below meth c H locs 0 0 Q (F0 m 31 ls [.int q7, .int w1.1]) := by
      intro H locs ls hJ hl
      refine lv_iadd hx hb dX6_governmentsNow_31 ?_
      refine lv_istore_n (lv' := [(1, .int (w1.1 + q7)), (0, .ref (kO K)), (2, .int w1.2)]) hx hb dX6_governmentsNow_32 rfl hl (Nat.le_of_ble_eq_true rfl) rfl (fun ls hl => ?_)
      refine lv_iinc (v := (w1.2 + 1)) (lv' := [(2, .int (w1.2 + 1)), (1, .int (w1.1 + q7)), (0, .ref (kO K))]) hx hb dX6_governmentsNow_33 hl (k := 2) rfl rfl (Nat.le_of_ble_eq_true rfl) rfl (fun ls hl => ?_)
      refine lv_goto (tgt := 4) hx hb dX6_governmentsNow_36 (by decide) ?_
      have hzw1 := Option.some.inj hzw1
      subst hzw1
      exact ihw1 _ hqw1 _ _ _ hJ (lv_sub hl [2, 1, 0] rfl)
    refine lv_icmp_eq (tgt := 30) hx hb dX6_governmentsNow_23 (by decide) (fun hc6 => ?_) (fun hc6 => ?_)
    · have hq7 := ip hq7 hc6
      refine lv_iconst hx hb dX6_governmentsNow_30 kc_0 ?_
      have hq7 := Option.some.inj hq7
      subst hq7
      exact hjq7 _ _ _ hJ (lv_sub hl [0, 2] rfl)
    · have hq7 := im hq7 hc6
      refine lv_iconst hx hb dX6_governmentsNow_26 kc_1 ?_
      refine lv_goto (tgt := 31) hx hb dX6_governmentsNow_27 (by decide) ?_
      have hq7 := Option.some.inj hq7
      subst hq7
      exact hjq7 _ _ _ hJ (lv_sub hl [0, 2] rfl)
def M_carriedNow (σ : MM) : Option (Int32) :=
  (lp (S := Int32 × Int32) (T := Int32) (fun w1 =>
    if (20 : Int32) ≤ w1.2 then
        some (.inr w1.1)
      else
        (M_isCarried σ w1.2).bind fun c4 =>
        (if c4 = 0 then
            some (0 : Int32)
          else
            some (1 : Int32) : Option (Int32)).bind fun q6 =>
        some (.inl ((w1.1 + q6), (w1.2 + 1)))) 2000 ((0 : Int32), (0 : Int32))).bind fun q2 =>
  some q2
theorem hdM_carriedNow : yX6_carriedNow.cls = RX6 ∧ yX6_carriedNow.cls ≠ "java/lang/invoke/MethodHandle" ∧ yX6_carriedNow.cls ≠ "java/lang/invoke/VarHandle" ∧ (parseMethodDescriptor yX6_carriedNow.desc).map (fun d => d.parameters.length) = some 0 := by decide +kernel
set_option maxHeartbeats 4000000 in
theorem metM_carriedNow (l : Launch) (σ : MM) (res : Int32) (h : M_carriedNow σ = some res) : MetM l yX6_carriedNow cX6_carriedNow 3 (some .int) 2 (fun K => [.ref (kO K)]) σ (some (.int res)) σ := by
  refine met_walk rfl (by simp [mRt]) (fun _ => Nat.le_of_ble_eq_true rfl) (fun K p e s m args below meth c Q C hE ls hl hJ => ?_)
  have hx := C.1.1
  have hb := C.1.2.1
  have hown := C.1.2.2.2.1
  have hts := C.1.2.2.2.2
  have hl : lv_has ls 3 [(0, .ref (kO K))] := hl
  unfold M_carriedNow at h
  refine lv_iconst hx hb dX6_carriedNow_0 kc_0 ?_
  refine lv_istore_n (lv' := [(1, .int (0 : Int32)), (0, .ref (kO K))]) hx hb dX6_carriedNow_1 rfl hl (Nat.le_of_ble_eq_true rfl) rfl (fun ls hl => ?_)
  refine lv_iconst hx hb dX6_carriedNow_2 kc_0 ?_
  refine lv_istore_n (lv' := [(2, .int (0 : Int32)), (1, .int (0 : Int32)), (0, .ref (kO K))]) hx hb dX6_carriedNow_3 rfl hl (Nat.le_of_ble_eq_true rfl) rfl (fun ls hl => ?_)
  obtain ⟨q2, hq2, h⟩ := ob h
  have hxq2 : ∀ (H : Heap) (locs : List Loc) (ls : Array Slot), MJ K σ s.heap H locs → lv_has ls 3 [(1, .int q2)] → W p l e (rmd 2) s m args below meth c H locs 0 0 Q (F0 m 32 ls []) := by
    intro H locs ls hJ hl
    refine lv_iload_n hx hb dX6_carriedNow_32 rfl (lv_at hl 0 rfl) ?_
    have h := Option.some.inj h
    subst h
    exact hE _ _ _ _ (some (.int (q2))) hJ ⟨_, rfl⟩ rfl dX6_carriedNow_33
  refine lp_ind (P := fun (w1 : Int32 × Int32) => ∀ (H : Heap) (locs : List Loc) (ls : Array Slot), MJ K σ s.heap H locs → lv_has ls 3 [(0, .ref (kO K)), (1, .int w1.1), (2, .int w1.2)] → W p l e (rmd 2) s m args below meth c H locs 0 0 Q (F0 m 4 ls [])) ?_ _ _ hq2 _ _ _ hJ (lv_sub hl [2, 1, 0] rfl)
  intro nw1 w1 ihw1 zw1 hzw1 hqw1 H locs ls hJ hl
  refine lv_iload_n hx hb dX6_carriedNow_4 rfl (lv_at hl 2 rfl) ?_
  refine lv_bipush hx hb dX6_carriedNow_5 kb_20 ?_
  refine lv_icmp_ge (tgt := 32) hx hb dX6_carriedNow_7 (by decide) (fun hc3 => ?_) (fun hc3 => ?_)
  · have hzw1 := ip hzw1 hc3
    have hzw1 := Option.some.inj hzw1
    subst hzw1
    have hqw1 : _ = q2 := hqw1
    subst hqw1
    exact hxq2 _ _ _ hJ (lv_sub hl [1] rfl)
  · have hzw1 := im hzw1 hc3
    refine lv_iload_n hx hb dX6_carriedNow_10 rfl (lv_at hl 1 rfl) ?_
    refine lv_aload_n hx hb dX6_carriedNow_11 rfl (lv_at hl 0 rfl) ?_
    refine lv_iload_n hx hb dX6_carriedNow_12 rfl (lv_at hl 2 rfl) ?_
    obtain ⟨c4, hc4, hzw1⟩ := ob hzw1
    refine mc_V (As := [.int w1.2]) (rest := [.int w1.1]) C hJ (metM_isCarried l σ w1.2 c4 hc4) (cwV 1 hts (lw_V q1541 q1543 qs80 q118 q1544) rfl rfl rfl hdM_isCarried ⟨Nat.le_of_ble_eq_true rfl, Nat.le_of_ble_eq_true rfl⟩) rfl hl.1 rfl (lv_room (Nat.le_of_ble_eq_true rfl)) dX6_carriedNow_13 (fun H locs hJ => ?_)
    obtain ⟨q6, hq6, hzw1⟩ := ob hzw1
    have hjq6 : ∀ (H : Heap) (locs : List Loc) (ls : Array Slot), MJ K σ s.heap H locs → lv_has ls 3 [(0, .ref (kO K)), (2, .int w1.2)] → W p l e (rmd 2) s m args below meth c H locs 0 0 Q (F0 m 24 ls [.int q6, .int w1.1]) := by
      intro H locs ls hJ hl
      refine lv_iadd hx hb dX6_carriedNow_24 ?_
      refine lv_istore_n (lv' := [(1, .int (w1.1 + q6)), (0, .ref (kO K)), (2, .int w1.2)]) hx hb dX6_carriedNow_25 rfl hl (Nat.le_of_ble_eq_true rfl) rfl (fun ls hl => ?_)
      refine lv_iinc (v := (w1.2 + 1)) (lv' := [(2, .int (w1.2 + 1)), (1, .int (w1.1 + q6)), (0, .ref (kO K))]) hx hb dX6_carriedNow_26 hl (k := 2) rfl rfl (Nat.le_of_ble_eq_true rfl) rfl (fun ls hl => ?_)
      refine lv_goto (tgt := 4) hx hb dX6_carriedNow_29 (by decide) ?_
      have hzw1 := Option.some.inj hzw1
      subst hzw1
      exact ihw1 _ hqw1 _ _ _ hJ (lv_sub hl [2, 1, 0] rfl)
    refine lv_if_eq (tgt := 23) hx hb dX6_carriedNow_16 (by decide) (fun hc5 => ?_) (fun hc5 => ?_)
    · have hq6 := ip hq6 hc5
      refine lv_iconst hx hb dX6_carriedNow_23 kc_0 ?_
      have hq6 := Option.some.inj hq6
      subst hq6
      exact hjq6 _ _ _ hJ (lv_sub hl [0, 2] rfl)
    · have hq6 := im hq6 hc5
      refine lv_iconst hx hb dX6_carriedNow_19 kc_1 ?_
      refine lv_goto (tgt := 24) hx hb dX6_carriedNow_20 (by decide) ?_
      have hq6 := Option.some.inj hq6
      subst hq6
      exact hjq6 _ _ _ hJ (lv_sub hl [0, 2] rfl)
def M_isSheet (σ : MM) (v0 : Int32) : Option (Int32) :=
  (M_in σ v0 (0 : Int32) (3 : Int32)).bind fun c1 =>
  some (bz c1)
theorem hdM_isSheet : yX6_isSheet.cls ≠ "java/lang/invoke/MethodHandle" ∧ yX6_isSheet.cls ≠ "java/lang/invoke/VarHandle" ∧ (parseMethodDescriptor yX6_isSheet.desc).map (fun d => d.parameters.length) = some 1 := by decide +kernel
set_option maxHeartbeats 4000000 in
theorem metM_isSheet (l : Launch) (σ : MM) (v0 : Int32) (res : Int32) (h : M_isSheet σ v0 = some res) : MetM l yX6_isSheet cX6_isSheet 1 (some .boolean) 2 (fun K => [.int v0]) σ (some (.int res)) σ := by
  refine met_walk rfl (by simp [mRt]) (fun _ => Nat.le_of_ble_eq_true rfl) (fun K p e s m args below meth c Q C hE ls hl hJ => ?_)
  have hx := C.1.1
  have hb := C.1.2.1
  have hown := C.1.2.2.2.1
  have hts := C.1.2.2.2.2
  have hl : lv_has ls 1 [(0, .int v0)] := hl
  unfold M_isSheet at h
  refine lv_iload_n hx hb dX6_isSheet_0 rfl (lv_at hl 0 rfl) ?_
  refine lv_iconst hx hb dX6_isSheet_1 kc_0 ?_
  refine lv_iconst hx hb dX6_isSheet_2 kc_3 ?_
  obtain ⟨c1, hc1, h⟩ := ob h
  refine mc_S (As := [.int v0, .int (0 : Int32), .int (3 : Int32)]) (rest := []) C hJ (metM_in l σ v0 (0 : Int32) (3 : Int32) c1 hc1) (va_cwS 3 hts (lw_S q1365 q1366 q118 q1367) rfl rfl rfl hdM_in ⟨Nat.le_of_ble_eq_true rfl, Nat.le_of_ble_eq_true rfl⟩) rfl hl.1 rfl (lv_room (Nat.le_of_ble_eq_true rfl)) dX6_isSheet_3 (fun H locs hJ => ?_)
  have h := Option.some.inj h
  subst h
  exact hE _ _ _ _ (some (.int c1)) hJ ⟨_, rfl⟩ rfl dX6_isSheet_6
def M_lacks (σ : MM) (v1 : Int32) (v2 : Int32) (v3 : Int32) : Option (Int32) :=
  (mld σ 36 v1).bind fun x1 =>
  if x1 = 0 then
    some (1 : Int32)
  else
    (mld σ 37 v1).bind fun x3 =>
    if x3 = v2 then
      (mld σ 38 v1).bind fun x5 =>
      (M_in σ v3 (0 : Int32) (x5 - (1 : Int32))).bind fun c6 =>
      if c6 = 0 then
        some (2 : Int32)
      else
        some (0 : Int32)
    else
      some (3 : Int32)
theorem hdM_lacks : yX6_lacks.cls = RX6 ∧ yX6_lacks.cls ≠ "java/lang/invoke/MethodHandle" ∧ yX6_lacks.cls ≠ "java/lang/invoke/VarHandle" ∧ (parseMethodDescriptor yX6_lacks.desc).map (fun d => d.parameters.length) = some 3 := by decide +kernel
set_option maxHeartbeats 4000000 in
theorem metM_lacks (l : Launch) (σ : MM) (v1 : Int32) (v2 : Int32) (v3 : Int32) (res : Int32) (h : M_lacks σ v1 v2 v3 = some res) : MetM l yX6_lacks cX6_lacks 4 (some .int) 2 (fun K => [.ref (kO K), .int v1, .int v2, .int v3]) σ (some (.int res)) σ := by
  refine met_walk rfl (by simp [mRt]) (fun _ => Nat.le_of_ble_eq_true rfl) (fun K p e s m args below meth c Q C hE ls hl hJ => ?_)
  have hx := C.1.1
  have hb := C.1.2.1
  have hown := C.1.2.2.2.1
  have hts := C.1.2.2.2.2
  have hl : lv_has ls 4 [(0, .ref (kO K)), (1, .int v1), (2, .int v2), (3, .int v3)] := hl
  unfold M_lacks at h
  refine lv_aload_n hx hb dX6_lacks_0 rfl (lv_at hl 0 rfl) ?_
  refine mx_ga C hJ 36 (Nat.le_of_ble_eq_true rfl) rfl lk36 dX6_lacks_1 ?_
  refine lv_iload_n hx hb dX6_lacks_4 rfl (lv_at hl 1 rfl) ?_
  obtain ⟨x1, hx1, h⟩ := ob h
  refine my_zl C hJ hx1 dX6_lacks_5 ?_
  refine lv_if_ne (tgt := 13) hx hb dX6_lacks_6 (by decide) (fun hc2 => ?_) (fun hc2 => ?_)
  · have h := im h hc2
    refine lv_aload_n hx hb dX6_lacks_13 rfl (lv_at hl 0 rfl) ?_
    refine mx_ga C hJ 37 (Nat.le_of_ble_eq_true rfl) rfl lk37 dX6_lacks_14 ?_
    refine lv_iload_n hx hb dX6_lacks_17 rfl (lv_at hl 1 rfl) ?_
    obtain ⟨x3, hx3, h⟩ := ob h
    refine my_il C hJ 37 rfl hx3 dX6_lacks_18 ?_
    refine lv_iload_n hx hb dX6_lacks_19 rfl (lv_at hl 2 rfl) ?_
    refine lv_icmp_eq (tgt := 27) hx hb dX6_lacks_20 (by decide) (fun hc4 => ?_) (fun hc4 => ?_)
    · have h := ip h hc4
      refine lv_iload_n hx hb dX6_lacks_27 rfl (lv_at hl 3 rfl) ?_
      refine lv_iconst hx hb dX6_lacks_28 kc_0 ?_
      refine lv_aload_n hx hb dX6_lacks_29 rfl (lv_at hl 0 rfl) ?_
      refine mx_ga C hJ 38 (Nat.le_of_ble_eq_true rfl) rfl lk38 dX6_lacks_30 ?_
      refine lv_iload_n hx hb dX6_lacks_33 rfl (lv_at hl 1 rfl) ?_
      obtain ⟨x5, hx5, h⟩ := ob h
      refine my_il C hJ 38 rfl hx5 dX6_lacks_34 ?_
      refine lv_iconst hx hb dX6_lacks_35 kc_1 ?_
      refine lv_isub hx hb dX6_lacks_36 ?_
      obtain ⟨c6, hc6, h⟩ := ob h
      refine mc_S (As := [.int v3, .int (0 : Int32), .int (x5 - (1 : Int32))]) (rest := []) C hJ (metM_in l σ v3 (0 : Int32) (x5 - (1 : Int32)) c6 hc6) (va_cwS 3 hts (lw_S q1365 q1366 q118 q1367) rfl rfl rfl hdM_in ⟨Nat.le_of_ble_eq_true rfl, Nat.le_of_ble_eq_true rfl⟩) rfl hl.1 rfl (lv_room (Nat.le_of_ble_eq_true rfl)) dX6_lacks_37 (fun H locs hJ => ?_)
      refine lv_if_eq (tgt := 47) hx hb dX6_lacks_40 (by decide) (fun hc7 => ?_) (fun hc7 => ?_)
      · have h := ip h hc7
        refine lv_iconst hx hb dX6_lacks_47 kc_2 ?_
        have h := Option.some.inj h
        subst h
        exact hE _ _ _ _ (some (.int ((2 : Int32)))) hJ ⟨_, rfl⟩ rfl dX6_lacks_48
      · have h := im h hc7
        refine lv_iconst hx hb dX6_lacks_43 kc_0 ?_
        refine lv_goto (tgt := 48) hx hb dX6_lacks_44 (by decide) ?_
        have h := Option.some.inj h
        subst h
        exact hE _ _ _ _ (some (.int ((0 : Int32)))) hJ ⟨_, rfl⟩ rfl dX6_lacks_48
    · have h := im h hc4
      refine lv_iconst hx hb dX6_lacks_23 kc_3 ?_
      refine lv_goto (tgt := 48) hx hb dX6_lacks_24 (by decide) ?_
      have h := Option.some.inj h
      subst h
      exact hE _ _ _ _ (some (.int ((3 : Int32)))) hJ ⟨_, rfl⟩ rfl dX6_lacks_48
  · have h := ip h hc2
    refine lv_iconst hx hb dX6_lacks_9 kc_1 ?_
    refine lv_goto (tgt := 48) hx hb dX6_lacks_10 (by decide) ?_
    have h := Option.some.inj h
    subst h
    exact hE _ _ _ _ (some (.int ((1 : Int32)))) hJ ⟨_, rfl⟩ rfl dX6_lacks_48
def M_type (σ : MM) (v1 : Int32) (v2 : Int32) : Option (Int32 × MM) :=
  (M_isText σ v1).bind fun c1 =>
  if c1 = 0 then
    some ((-2 : Int32), σ)
  else
    (M_in σ v2 (0 : Int32) (255 : Int32)).bind fun c3 =>
    if c3 = 0 then
      some ((-2 : Int32), σ)
    else
      (mld σ 0 v1).bind fun x5 =>
      (if v1 = 0 then
          some (12 : Int32)
        else
          some (31 : Int32) : Option (Int32)).bind fun q7 =>
      if x5 = q7 then
        some ((-4 : Int32), σ)
      else
        (mld σ 0 v1).bind fun x9 =>
        (mst σ 1 (((31 : Int32) * v1) + x9) v2).bind fun σ10 =>
        (mld σ10 0 v1).bind fun x11 =>
        (mst σ10 0 v1 (x11 + (1 : Int32))).bind fun σ12 =>
        (mld σ12 0 v1).bind fun x13 =>
        some (x13, σ12)
theorem hdM_type : yX6_type.cls = RX6 ∧ yX6_type.cls ≠ "java/lang/invoke/MethodHandle" ∧ yX6_type.cls ≠ "java/lang/invoke/VarHandle" ∧ (parseMethodDescriptor yX6_type.desc).map (fun d => d.parameters.length) = some 2 := by decide +kernel
set_option maxHeartbeats 4000000 in
theorem metM_type (l : Launch) (σ : MM) (v1 : Int32) (v2 : Int32) (res : Int32 × MM) (h : M_type σ v1 v2 = some res) : MetM l yX6_type cX6_type 3 (some .int) 3 (fun K => [.ref (kO K), .int v1, .int v2]) σ (some (.int res.1)) res.2 := by
  refine met_walk rfl (by simp [mRt]) (fun _ => Nat.le_of_ble_eq_true rfl) (fun K p e s m args below meth c Q C hE ls hl hJ => ?_)
  have hx := C.1.1
  have hb := C.1.2.1
  have hown := C.1.2.2.2.1
  have hts := C.1.2.2.2.2
  have hl : lv_has ls 3 [(0, .ref (kO K)), (1, .int v1), (2, .int v2)] := hl
  unfold M_type at h
  refine lv_iload_n hx hb dX6_type_0 rfl (lv_at hl 1 rfl) ?_
  obtain ⟨c1, hc1, h⟩ := ob h
  refine mc_S (As := [.int v1]) (rest := []) C hJ (metM_isText l σ v1 c1 hc1) (va_cwS 1 hts (lw_S q1362 q1363 q118 q1364) rfl rfl rfl hdM_isText ⟨Nat.le_of_ble_eq_true rfl, Nat.le_of_ble_eq_true rfl⟩) rfl hl.1 rfl (lv_room (Nat.le_of_ble_eq_true rfl)) dX6_type_1 (fun H locs hJ => ?_)
  refine lv_if_eq (tgt := 18) hx hb dX6_type_4 (by decide) (fun hc2 => ?_) (fun hc2 => ?_)
  · have h := ip h hc2
    refine lv_bipush hx hb dX6_type_18 kb_m2 ?_
    have h := Option.some.inj h
    subst h
    exact hE _ _ _ _ (some (.int ((-2 : Int32)))) hJ ⟨_, rfl⟩ rfl dX6_type_20
  · have h := im h hc2
    refine lv_iload_n hx hb dX6_type_7 rfl (lv_at hl 2 rfl) ?_
    refine lv_iconst hx hb dX6_type_8 kc_0 ?_
    refine lv_sipush hx hb dX6_type_9 ks_255 ?_
    obtain ⟨c3, hc3, h⟩ := ob h
    refine mc_S (As := [.int v2, .int (0 : Int32), .int (255 : Int32)]) (rest := []) C hJ (metM_in l σ v2 (0 : Int32) (255 : Int32) c3 hc3) (va_cwS 3 hts (lw_S q1365 q1366 q118 q1367) rfl rfl rfl hdM_in ⟨Nat.le_of_ble_eq_true rfl, Nat.le_of_ble_eq_true rfl⟩) rfl hl.1 rfl (lv_room (Nat.le_of_ble_eq_true rfl)) dX6_type_12 (fun H locs hJ => ?_)
    refine lv_if_ne (tgt := 21) hx hb dX6_type_15 (by decide) (fun hc4 => ?_) (fun hc4 => ?_)
    · have h := im h hc4
      refine lv_aload_n hx hb dX6_type_21 rfl (lv_at hl 0 rfl) ?_
      refine mx_ga C hJ 0 (Nat.le_of_ble_eq_true rfl) rfl lk0 dX6_type_22 ?_
      refine lv_iload_n hx hb dX6_type_25 rfl (lv_at hl 1 rfl) ?_
      obtain ⟨x5, hx5, h⟩ := ob h
      refine my_il C hJ 0 rfl hx5 dX6_type_26 ?_
      refine lv_iload_n hx hb dX6_type_27 rfl (lv_at hl 1 rfl) ?_
      obtain ⟨q7, hq7, h⟩ := ob h
      have hjq7 : ∀ (H : Heap) (locs : List Loc) (ls : Array Slot), MJ K σ s.heap H locs → lv_has ls 3 [(0, .ref (kO K)), (1, .int v1), (2, .int v2)] → W p l e (rmd 3) s m args below meth c H locs 0 0 Q (F0 m 38 ls [.int q7, .int x5]) := by
        intro H locs ls hJ hl
        refine lv_icmp_ne (tgt := 44) hx hb dX6_type_38 (by decide) (fun hc8 => ?_) (fun hc8 => ?_)
        · have h := im h hc8
          refine lv_aload_n hx hb dX6_type_44 rfl (lv_at hl 0 rfl) ?_
          refine mx_ga C hJ 1 (Nat.le_of_ble_eq_true rfl) rfl lk1 dX6_type_45 ?_
          refine lv_bipush hx hb dX6_type_48 kb_31 ?_
          refine lv_iload_n hx hb dX6_type_50 rfl (lv_at hl 1 rfl) ?_
          refine lv_imul hx hb dX6_type_51 ?_
          refine lv_aload_n hx hb dX6_type_52 rfl (lv_at hl 0 rfl) ?_
          refine mx_ga C hJ 0 (Nat.le_of_ble_eq_true rfl) rfl lk0 dX6_type_53 ?_
          refine lv_iload_n hx hb dX6_type_56 rfl (lv_at hl 1 rfl) ?_
          obtain ⟨x9, hx9, h⟩ := ob h
          refine my_il C hJ 0 rfl hx9 dX6_type_57 ?_
          refine lv_iadd hx hb dX6_type_58 ?_
          refine lv_iload_n hx hb dX6_type_59 rfl (lv_at hl 2 rfl) ?_
          obtain ⟨σ10, hσ10, h⟩ := ob h
          refine my_is C hJ 1 rfl hσ10 dX6_type_60 (fun H locs hJ => ?_)
          refine lv_aload_n hx hb dX6_type_61 rfl (lv_at hl 0 rfl) ?_
          refine mx_ga C hJ 0 (Nat.le_of_ble_eq_true rfl) rfl lk0 dX6_type_62 ?_
          refine lv_iload_n hx hb dX6_type_65 rfl (lv_at hl 1 rfl) ?_
          refine lv_dup2_11 hx hb dX6_type_66 rfl rfl ?_
          obtain ⟨x11, hx11, h⟩ := ob h
          refine my_il C hJ 0 rfl hx11 dX6_type_67 ?_
          refine lv_iconst hx hb dX6_type_68 kc_1 ?_
          refine lv_iadd hx hb dX6_type_69 ?_
          obtain ⟨σ12, hσ12, h⟩ := ob h
          refine my_is C hJ 0 rfl hσ12 dX6_type_70 (fun H locs hJ => ?_)
          refine lv_aload_n hx hb dX6_type_71 rfl (lv_at hl 0 rfl) ?_
          refine mx_ga C hJ 0 (Nat.le_of_ble_eq_true rfl) rfl lk0 dX6_type_72 ?_
          refine lv_iload_n hx hb dX6_type_75 rfl (lv_at hl 1 rfl) ?_
          obtain ⟨x13, hx13, h⟩ := ob h
          refine my_il C hJ 0 rfl hx13 dX6_type_76 ?_
          have h := Option.some.inj h
          subst h
          exact hE _ _ _ _ (some (.int (x13))) hJ ⟨_, rfl⟩ rfl dX6_type_77
        · have h := ip h hc8
          refine lv_bipush hx hb dX6_type_41 kb_m4 ?_
          have h := Option.some.inj h
          subst h
          exact hE _ _ _ _ (some (.int ((-4 : Int32)))) hJ ⟨_, rfl⟩ rfl dX6_type_43
      refine lv_if_ne (tgt := 36) hx hb dX6_type_28 (by decide) (fun hc6 => ?_) (fun hc6 => ?_)
      · have hq7 := im hq7 hc6
        refine lv_bipush hx hb dX6_type_36 kb_31 ?_
        have hq7 := Option.some.inj hq7
        subst hq7
        exact hjq7 _ _ _ hJ (lv_sub hl [0, 1, 2] rfl)
      · have hq7 := ip hq7 hc6
        refine lv_bipush hx hb dX6_type_31 kb_12 ?_
        refine lv_goto (tgt := 38) hx hb dX6_type_33 (by decide) ?_
        have hq7 := Option.some.inj hq7
        subst hq7
        exact hjq7 _ _ _ hJ (lv_sub hl [0, 1, 2] rfl)
    · have h := ip h hc4
      refine lv_bipush hx hb dX6_type_18 kb_m2 ?_
      have h := Option.some.inj h
      subst h
      exact hE _ _ _ _ (some (.int ((-2 : Int32)))) hJ ⟨_, rfl⟩ rfl dX6_type_20
def M_wipe (σ : MM) (v1 : Int32) : Option (Int32 × MM) :=
  (M_isText σ v1).bind fun c1 =>
  if c1 = 0 then
    some ((-2 : Int32), σ)
  else
    (mld σ 0 v1).bind fun x3 =>
    (mst σ 0 v1 (0 : Int32)).bind fun σ4 =>
    some (x3, σ4)
theorem hdM_wipe : yX6_wipe.cls = RX6 ∧ yX6_wipe.cls ≠ "java/lang/invoke/MethodHandle" ∧ yX6_wipe.cls ≠ "java/lang/invoke/VarHandle" ∧ (parseMethodDescriptor yX6_wipe.desc).map (fun d => d.parameters.length) = some 1 := by decide +kernel
set_option maxHeartbeats 4000000 in
theorem metM_wipe (l : Launch) (σ : MM) (v1 : Int32) (res : Int32 × MM) (h : M_wipe σ v1 = some res) : MetM l yX6_wipe cX6_wipe 3 (some .int) 3 (fun K => [.ref (kO K), .int v1]) σ (some (.int res.1)) res.2 := by
  refine met_walk rfl (by simp [mRt]) (fun _ => Nat.le_of_ble_eq_true rfl) (fun K p e s m args below meth c Q C hE ls hl hJ => ?_)
  have hx := C.1.1
  have hb := C.1.2.1
  have hown := C.1.2.2.2.1
  have hts := C.1.2.2.2.2
  have hl : lv_has ls 3 [(0, .ref (kO K)), (1, .int v1)] := hl
  unfold M_wipe at h
  refine lv_iload_n hx hb dX6_wipe_0 rfl (lv_at hl 1 rfl) ?_
  obtain ⟨c1, hc1, h⟩ := ob h
  refine mc_S (As := [.int v1]) (rest := []) C hJ (metM_isText l σ v1 c1 hc1) (va_cwS 1 hts (lw_S q1362 q1363 q118 q1364) rfl rfl rfl hdM_isText ⟨Nat.le_of_ble_eq_true rfl, Nat.le_of_ble_eq_true rfl⟩) rfl hl.1 rfl (lv_room (Nat.le_of_ble_eq_true rfl)) dX6_wipe_1 (fun H locs hJ => ?_)
  refine lv_if_ne (tgt := 10) hx hb dX6_wipe_4 (by decide) (fun hc2 => ?_) (fun hc2 => ?_)
  · have h := im h hc2
    refine lv_aload_n hx hb dX6_wipe_10 rfl (lv_at hl 0 rfl) ?_
    refine mx_ga C hJ 0 (Nat.le_of_ble_eq_true rfl) rfl lk0 dX6_wipe_11 ?_
    refine lv_iload_n hx hb dX6_wipe_14 rfl (lv_at hl 1 rfl) ?_
    obtain ⟨x3, hx3, h⟩ := ob h
    refine my_il C hJ 0 rfl hx3 dX6_wipe_15 ?_
    refine lv_istore_n (lv' := [(2, .int x3), (0, .ref (kO K)), (1, .int v1)]) hx hb dX6_wipe_16 rfl hl (Nat.le_of_ble_eq_true rfl) rfl (fun ls hl => ?_)
    refine lv_aload_n hx hb dX6_wipe_17 rfl (lv_at hl 1 rfl) ?_
    refine mx_ga C hJ 0 (Nat.le_of_ble_eq_true rfl) rfl lk0 dX6_wipe_18 ?_
    refine lv_iload_n hx hb dX6_wipe_21 rfl (lv_at hl 2 rfl) ?_
    refine lv_iconst hx hb dX6_wipe_22 kc_0 ?_
    obtain ⟨σ4, hσ4, h⟩ := ob h
    refine my_is C hJ 0 rfl hσ4 dX6_wipe_23 (fun H locs hJ => ?_)
    refine lv_iload_n hx hb dX6_wipe_24 rfl (lv_at hl 0 rfl) ?_
    have h := Option.some.inj h
    subst h
    exact hE _ _ _ _ (some (.int (x3))) hJ ⟨_, rfl⟩ rfl dX6_wipe_25
  · have h := ip h hc2
    refine lv_bipush hx hb dX6_wipe_7 kb_m2 ?_
    have h := Option.some.inj h
    subst h
    exact hE _ _ _ _ (some (.int ((-2 : Int32)))) hJ ⟨_, rfl⟩ rfl dX6_wipe_9
def M_undo (σ : MM) (v1 : Int32) : Option (Int32 × MM) :=
  (M_isText σ v1).bind fun c1 =>
  if c1 = 0 then
    some ((-2 : Int32), σ)
  else
    (mld σ 0 v1).bind fun x3 =>
    if x3 = 0 then
      some ((-3 : Int32), σ)
    else
      (mld σ 0 v1).bind fun x5 =>
      (mst σ 0 v1 (x5 - (1 : Int32))).bind fun σ6 =>
      (mld σ6 0 v1).bind fun x7 =>
      some (x7, σ6)
theorem hdM_undo : yX6_undo.cls = RX6 ∧ yX6_undo.cls ≠ "java/lang/invoke/MethodHandle" ∧ yX6_undo.cls ≠ "java/lang/invoke/VarHandle" ∧ (parseMethodDescriptor yX6_undo.desc).map (fun d => d.parameters.length) = some 1 := by decide +kernel
set_option maxHeartbeats 4000000 in
theorem metM_undo (l : Launch) (σ : MM) (v1 : Int32) (res : Int32 × MM) (h : M_undo σ v1 = some res) : MetM l yX6_undo cX6_undo 2 (some .int) 3 (fun K => [.ref (kO K), .int v1]) σ (some (.int res.1)) res.2 := by
  refine met_walk rfl (by simp [mRt]) (fun _ => Nat.le_of_ble_eq_true rfl) (fun K p e s m args below meth c Q C hE ls hl hJ => ?_)
  have hx := C.1.1
  have hb := C.1.2.1
  have hown := C.1.2.2.2.1
  have hts := C.1.2.2.2.2
  have hl : lv_has ls 2 [(0, .ref (kO K)), (1, .int v1)] := hl
  unfold M_undo at h
  refine lv_iload_n hx hb dX6_undo_0 rfl (lv_at hl 1 rfl) ?_
  obtain ⟨c1, hc1, h⟩ := ob h
  refine mc_S (As := [.int v1]) (rest := []) C hJ (metM_isText l σ v1 c1 hc1) (va_cwS 1 hts (lw_S q1362 q1363 q118 q1364) rfl rfl rfl hdM_isText ⟨Nat.le_of_ble_eq_true rfl, Nat.le_of_ble_eq_true rfl⟩) rfl hl.1 rfl (lv_room (Nat.le_of_ble_eq_true rfl)) dX6_undo_1 (fun H locs hJ => ?_)
  refine lv_if_ne (tgt := 10) hx hb dX6_undo_4 (by decide) (fun hc2 => ?_) (fun hc2 => ?_)
  · have h := im h hc2
    refine lv_aload_n hx hb dX6_undo_10 rfl (lv_at hl 0 rfl) ?_
    refine mx_ga C hJ 0 (Nat.le_of_ble_eq_true rfl) rfl lk0 dX6_undo_11 ?_
    refine lv_iload_n hx hb dX6_undo_14 rfl (lv_at hl 1 rfl) ?_
    obtain ⟨x3, hx3, h⟩ := ob h
    refine my_il C hJ 0 rfl hx3 dX6_undo_15 ?_
    refine lv_if_ne (tgt := 22) hx hb dX6_undo_16 (by decide) (fun hc4 => ?_) (fun hc4 => ?_)
    · have h := im h hc4
      refine lv_aload_n hx hb dX6_undo_22 rfl (lv_at hl 0 rfl) ?_
      refine mx_ga C hJ 0 (Nat.le_of_ble_eq_true rfl) rfl lk0 dX6_undo_23 ?_
      refine lv_iload_n hx hb dX6_undo_26 rfl (lv_at hl 1 rfl) ?_
      refine lv_dup2_11 hx hb dX6_undo_27 rfl rfl ?_
      obtain ⟨x5, hx5, h⟩ := ob h
      refine my_il C hJ 0 rfl hx5 dX6_undo_28 ?_
      refine lv_iconst hx hb dX6_undo_29 kc_1 ?_
      refine lv_isub hx hb dX6_undo_30 ?_
      obtain ⟨σ6, hσ6, h⟩ := ob h
      refine my_is C hJ 0 rfl hσ6 dX6_undo_31 (fun H locs hJ => ?_)
      refine lv_aload_n hx hb dX6_undo_32 rfl (lv_at hl 0 rfl) ?_
      refine mx_ga C hJ 0 (Nat.le_of_ble_eq_true rfl) rfl lk0 dX6_undo_33 ?_
      refine lv_iload_n hx hb dX6_undo_36 rfl (lv_at hl 1 rfl) ?_
      obtain ⟨x7, hx7, h⟩ := ob h
      refine my_il C hJ 0 rfl hx7 dX6_undo_37 ?_
      have h := Option.some.inj h
      subst h
      exact hE _ _ _ _ (some (.int (x7))) hJ ⟨_, rfl⟩ rfl dX6_undo_38
    · have h := ip h hc4
      refine lv_bipush hx hb dX6_undo_19 kb_m3 ?_
      have h := Option.some.inj h
      subst h
      exact hE _ _ _ _ (some (.int ((-3 : Int32)))) hJ ⟨_, rfl⟩ rfl dX6_undo_21
  · have h := ip h hc2
    refine lv_bipush hx hb dX6_undo_7 kb_m2 ?_
    have h := Option.some.inj h
    subst h
    exact hE _ _ _ _ (some (.int ((-2 : Int32)))) hJ ⟨_, rfl⟩ rfl dX6_undo_9
def M_readsMember (σ : MM) (v1 : Int32) (v2 : Int32) : Option (Int32 × MM) :=
  if v1 = (8 : Int32) then
    some ((0 : Int32), σ)
  else
    (M_sortAt σ v2).bind fun c2 =>
    if c2 = (-1 : Int32) then
      some ((0 : Int32), σ)
    else
      (M_byteAt σ (v2 + (1 : Int32))).bind fun c4 =>
      (M_in σ c4 (97 : Int32) (108 : Int32)).bind fun c5 =>
      if c5 = 0 then
        some ((1 : Int32), σ)
      else
        (M_byteAt σ (v2 + (2 : Int32))).bind fun c7 =>
        if c7 = (117 : Int32) then
          (M_sortAt σ v2).bind fun c9 =>
          (mst σ 5 v1 c9).bind fun σ10 =>
          (M_byteAt σ10 (v2 + (1 : Int32))).bind fun c11 =>
          (mst σ10 6 v1 (c11 - (97 : Int32))).bind fun σ12 =>
          (if c7 = (117 : Int32) then
              some (1 : Int32)
            else
              some (0 : Int32) : Option (Int32)).bind fun q14 =>
          (mst σ12 7 v1 q14).bind fun σ15 =>
          some ((3 : Int32), σ15)
        else
          if c7 = (100 : Int32) then
            (M_sortAt σ v2).bind fun c17 =>
            (mst σ 5 v1 c17).bind fun σ18 =>
            (M_byteAt σ18 (v2 + (1 : Int32))).bind fun c19 =>
            (mst σ18 6 v1 (c19 - (97 : Int32))).bind fun σ20 =>
            (if c7 = (117 : Int32) then
                some (1 : Int32)
              else
                some (0 : Int32) : Option (Int32)).bind fun q22 =>
            (mst σ20 7 v1 q22).bind fun σ23 =>
            some ((3 : Int32), σ23)
          else
            some ((2 : Int32), σ)
theorem hdM_readsMember : yX6_readsMember.cls = RX6 ∧ yX6_readsMember.cls ≠ "java/lang/invoke/MethodHandle" ∧ yX6_readsMember.cls ≠ "java/lang/invoke/VarHandle" ∧ (parseMethodDescriptor yX6_readsMember.desc).map (fun d => d.parameters.length) = some 2 := by decide +kernel
set_option maxHeartbeats 4000000 in
theorem metM_readsMember (l : Launch) (σ : MM) (v1 : Int32) (v2 : Int32) (res : Int32 × MM) (h : M_readsMember σ v1 v2 = some res) : MetM l yX6_readsMember cX6_readsMember 4 (some .int) 3 (fun K => [.ref (kO K), .int v1, .int v2]) σ (some (.int res.1)) res.2 := by
  refine met_walk rfl (by simp [mRt]) (fun _ => Nat.le_of_ble_eq_true rfl) (fun K p e s m args below meth c Q C hE ls hl hJ => ?_)
  have hx := C.1.1
  have hb := C.1.2.1
  have hown := C.1.2.2.2.1
  have hts := C.1.2.2.2.2
  have hl : lv_has ls 4 [(0, .ref (kO K)), (1, .int v1), (2, .int v2)] := hl
  unfold M_readsMember at h
  refine lv_iload_n hx hb dX6_readsMember_0 rfl (lv_at hl 1 rfl) ?_
  refine lv_bipush hx hb dX6_readsMember_1 kb_8 ?_
  refine lv_icmp_eq (tgt := 15) hx hb dX6_readsMember_3 (by decide) (fun hc1 => ?_) (fun hc1 => ?_)
  · have h := ip h hc1
    refine lv_iconst hx hb dX6_readsMember_15 kc_0 ?_
    have h := Option.some.inj h
    subst h
    exact hE _ _ _ _ (some (.int ((0 : Int32)))) hJ ⟨_, rfl⟩ rfl dX6_readsMember_16
  · have h := im h hc1
    refine lv_aload_n hx hb dX6_readsMember_6 rfl (lv_at hl 0 rfl) ?_
    refine lv_iload_n hx hb dX6_readsMember_7 rfl (lv_at hl 2 rfl) ?_
    obtain ⟨c2, hc2, h⟩ := ob h
    refine mc_V (As := [.int v2]) (rest := []) C hJ (metM_sortAt l σ v2 c2 hc2) (cwV 1 hts (lw_V q1396 q1398 qs55 q118 q1399) rfl rfl rfl hdM_sortAt ⟨Nat.le_of_ble_eq_true rfl, Nat.le_of_ble_eq_true rfl⟩) rfl hl.1 rfl (lv_room (Nat.le_of_ble_eq_true rfl)) dX6_readsMember_8 (fun H locs hJ => ?_)
    refine lv_iconst hx hb dX6_readsMember_11 kc_m1 ?_
    refine lv_icmp_ne (tgt := 17) hx hb dX6_readsMember_12 (by decide) (fun hc3 => ?_) (fun hc3 => ?_)
    · have h := im h hc3
      refine lv_aload_n hx hb dX6_readsMember_17 rfl (lv_at hl 0 rfl) ?_
      refine lv_iload_n hx hb dX6_readsMember_18 rfl (lv_at hl 2 rfl) ?_
      refine lv_iconst hx hb dX6_readsMember_19 kc_1 ?_
      refine lv_iadd hx hb dX6_readsMember_20 ?_
      obtain ⟨c4, hc4, h⟩ := ob h
      refine mc_V (As := [.int (v2 + (1 : Int32))]) (rest := []) C hJ (metM_byteAt l σ (v2 + (1 : Int32)) c4 hc4) (cwV 1 hts (lw_V q1400 q1402 qs56 q118 q1403) rfl rfl rfl hdM_byteAt ⟨Nat.le_of_ble_eq_true rfl, Nat.le_of_ble_eq_true rfl⟩) rfl hl.1 rfl (lv_room (Nat.le_of_ble_eq_true rfl)) dX6_readsMember_21 (fun H locs hJ => ?_)
      refine lv_bipush hx hb dX6_readsMember_24 kb_97 ?_
      refine lv_bipush hx hb dX6_readsMember_26 kb_108 ?_
      obtain ⟨c5, hc5, h⟩ := ob h
      refine mc_S (As := [.int c4, .int (97 : Int32), .int (108 : Int32)]) (rest := []) C hJ (metM_in l σ c4 (97 : Int32) (108 : Int32) c5 hc5) (va_cwS 3 hts (lw_S q1365 q1366 q118 q1367) rfl rfl rfl hdM_in ⟨Nat.le_of_ble_eq_true rfl, Nat.le_of_ble_eq_true rfl⟩) rfl hl.1 rfl (lv_room (Nat.le_of_ble_eq_true rfl)) dX6_readsMember_28 (fun H locs hJ => ?_)
      refine lv_if_ne (tgt := 36) hx hb dX6_readsMember_31 (by decide) (fun hc6 => ?_) (fun hc6 => ?_)
      · have h := im h hc6
        refine lv_aload_n hx hb dX6_readsMember_36 rfl (lv_at hl 0 rfl) ?_
        refine lv_iload_n hx hb dX6_readsMember_37 rfl (lv_at hl 2 rfl) ?_
        refine lv_iconst hx hb dX6_readsMember_38 kc_2 ?_
        refine lv_iadd hx hb dX6_readsMember_39 ?_
        obtain ⟨c7, hc7, h⟩ := ob h
        refine mc_V (As := [.int (v2 + (2 : Int32))]) (rest := []) C hJ (metM_byteAt l σ (v2 + (2 : Int32)) c7 hc7) (cwV 1 hts (lw_V q1400 q1402 qs56 q118 q1403) rfl rfl rfl hdM_byteAt ⟨Nat.le_of_ble_eq_true rfl, Nat.le_of_ble_eq_true rfl⟩) rfl hl.1 rfl (lv_room (Nat.le_of_ble_eq_true rfl)) dX6_readsMember_40 (fun H locs hJ => ?_)
        refine lv_istore_n (lv' := [(3, .int c7), (0, .ref (kO K)), (1, .int v1), (2, .int v2)]) hx hb dX6_readsMember_43 rfl hl (Nat.le_of_ble_eq_true rfl) rfl (fun ls hl => ?_)
        refine lv_iload_n hx hb dX6_readsMember_44 rfl (lv_at hl 0 rfl) ?_
        refine lv_bipush hx hb dX6_readsMember_45 kb_117 ?_
        refine lv_icmp_eq (tgt := 58) hx hb dX6_readsMember_47 (by decide) (fun hc8 => ?_) (fun hc8 => ?_)
        · have h := ip h hc8
          refine lv_aload_n hx hb dX6_readsMember_58 rfl (lv_at hl 1 rfl) ?_
          refine mx_ga C hJ 5 (Nat.le_of_ble_eq_true rfl) rfl lk5 dX6_readsMember_59 ?_
          refine lv_iload_n hx hb dX6_readsMember_62 rfl (lv_at hl 2 rfl) ?_
          refine lv_aload_n hx hb dX6_readsMember_63 rfl (lv_at hl 1 rfl) ?_
          refine lv_iload_n hx hb dX6_readsMember_64 rfl (lv_at hl 3 rfl) ?_
          obtain ⟨c9, hc9, h⟩ := ob h
          refine mc_V (As := [.int v2]) (rest := [.int v1, .ref (kA K 5)]) C hJ (metM_sortAt l σ v2 c9 hc9) (cwV 1 hts (lw_V q1396 q1398 qs55 q118 q1399) rfl rfl rfl hdM_sortAt ⟨Nat.le_of_ble_eq_true rfl, Nat.le_of_ble_eq_true rfl⟩) rfl hl.1 rfl (lv_room (Nat.le_of_ble_eq_true rfl)) dX6_readsMember_65 (fun H locs hJ => ?_)
          obtain ⟨σ10, hσ10, h⟩ := ob h
          refine my_is C hJ 5 rfl hσ10 dX6_readsMember_68 (fun H locs hJ => ?_)
          refine lv_aload_n hx hb dX6_readsMember_69 rfl (lv_at hl 1 rfl) ?_
          refine mx_ga C hJ 6 (Nat.le_of_ble_eq_true rfl) rfl lk6 dX6_readsMember_70 ?_
          refine lv_iload_n hx hb dX6_readsMember_73 rfl (lv_at hl 2 rfl) ?_
          refine lv_aload_n hx hb dX6_readsMember_74 rfl (lv_at hl 1 rfl) ?_
          refine lv_iload_n hx hb dX6_readsMember_75 rfl (lv_at hl 3 rfl) ?_
          refine lv_iconst hx hb dX6_readsMember_76 kc_1 ?_
          refine lv_iadd hx hb dX6_readsMember_77 ?_
          obtain ⟨c11, hc11, h⟩ := ob h
          refine mc_V (As := [.int (v2 + (1 : Int32))]) (rest := [.int v1, .ref (kA K 6)]) C hJ (metM_byteAt l σ10 (v2 + (1 : Int32)) c11 hc11) (cwV 1 hts (lw_V q1400 q1402 qs56 q118 q1403) rfl rfl rfl hdM_byteAt ⟨Nat.le_of_ble_eq_true rfl, Nat.le_of_ble_eq_true rfl⟩) rfl hl.1 rfl (lv_room (Nat.le_of_ble_eq_true rfl)) dX6_readsMember_78 (fun H locs hJ => ?_)
          refine lv_bipush hx hb dX6_readsMember_81 kb_97 ?_
          refine lv_isub hx hb dX6_readsMember_83 ?_
          obtain ⟨σ12, hσ12, h⟩ := ob h
          refine my_is C hJ 6 rfl hσ12 dX6_readsMember_84 (fun H locs hJ => ?_)
          refine lv_aload_n hx hb dX6_readsMember_85 rfl (lv_at hl 1 rfl) ?_
          refine mx_ga C hJ 7 (Nat.le_of_ble_eq_true rfl) rfl lk7 dX6_readsMember_86 ?_
          refine lv_iload_n hx hb dX6_readsMember_89 rfl (lv_at hl 2 rfl) ?_
          refine lv_iload_n hx hb dX6_readsMember_90 rfl (lv_at hl 0 rfl) ?_
          refine lv_bipush hx hb dX6_readsMember_91 kb_117 ?_
          obtain ⟨q14, hq14, h⟩ := ob h
          have hjq14 : ∀ (H : Heap) (locs : List Loc) (ls : Array Slot), MJ K σ12 s.heap H locs → lv_has ls 4 [] → W p l e (rmd 3) s m args below meth c H locs 0 0 Q (F0 m 101 ls [.int q14, .int v1, .ref (kA K 7)]) := by
            intro H locs ls hJ hl
            obtain ⟨σ15, hσ15, h⟩ := ob h
            refine my_is C hJ 7 rfl hσ15 dX6_readsMember_101 (fun H locs hJ => ?_)
            refine lv_iconst hx hb dX6_readsMember_102 kc_3 ?_
            have h := Option.some.inj h
            subst h
            exact hE _ _ _ _ (some (.int ((3 : Int32)))) hJ ⟨_, rfl⟩ rfl dX6_readsMember_103
          refine lv_icmp_ne (tgt := 100) hx hb dX6_readsMember_93 (by decide) (fun hc13 => ?_) (fun hc13 => ?_)
          · have hq14 := im hq14 hc13
            refine lv_iconst hx hb dX6_readsMember_100 kc_0 ?_
            have hq14 := Option.some.inj hq14
            subst hq14
            exact hjq14 _ _ _ hJ (lv_sub hl [] rfl)
          · have hq14 := ip hq14 hc13
            refine lv_iconst hx hb dX6_readsMember_96 kc_1 ?_
            refine lv_goto (tgt := 101) hx hb dX6_readsMember_97 (by decide) ?_
            have hq14 := Option.some.inj hq14
            subst hq14
            exact hjq14 _ _ _ hJ (lv_sub hl [] rfl)
        · have h := im h hc8
          refine lv_iload_n hx hb dX6_readsMember_50 rfl (lv_at hl 0 rfl) ?_
          refine lv_bipush hx hb dX6_readsMember_51 kb_100 ?_
          refine lv_icmp_eq (tgt := 58) hx hb dX6_readsMember_53 (by decide) (fun hc16 => ?_) (fun hc16 => ?_)
          · have h := ip h hc16
            refine lv_aload_n hx hb dX6_readsMember_58 rfl (lv_at hl 1 rfl) ?_
            refine mx_ga C hJ 5 (Nat.le_of_ble_eq_true rfl) rfl lk5 dX6_readsMember_59 ?_
            refine lv_iload_n hx hb dX6_readsMember_62 rfl (lv_at hl 2 rfl) ?_
            refine lv_aload_n hx hb dX6_readsMember_63 rfl (lv_at hl 1 rfl) ?_
            refine lv_iload_n hx hb dX6_readsMember_64 rfl (lv_at hl 3 rfl) ?_
            obtain ⟨c17, hc17, h⟩ := ob h
            refine mc_V (As := [.int v2]) (rest := [.int v1, .ref (kA K 5)]) C hJ (metM_sortAt l σ v2 c17 hc17) (cwV 1 hts (lw_V q1396 q1398 qs55 q118 q1399) rfl rfl rfl hdM_sortAt ⟨Nat.le_of_ble_eq_true rfl, Nat.le_of_ble_eq_true rfl⟩) rfl hl.1 rfl (lv_room (Nat.le_of_ble_eq_true rfl)) dX6_readsMember_65 (fun H locs hJ => ?_)
            obtain ⟨σ18, hσ18, h⟩ := ob h
            refine my_is C hJ 5 rfl hσ18 dX6_readsMember_68 (fun H locs hJ => ?_)
            refine lv_aload_n hx hb dX6_readsMember_69 rfl (lv_at hl 1 rfl) ?_
            refine mx_ga C hJ 6 (Nat.le_of_ble_eq_true rfl) rfl lk6 dX6_readsMember_70 ?_
            refine lv_iload_n hx hb dX6_readsMember_73 rfl (lv_at hl 2 rfl) ?_
            refine lv_aload_n hx hb dX6_readsMember_74 rfl (lv_at hl 1 rfl) ?_
            refine lv_iload_n hx hb dX6_readsMember_75 rfl (lv_at hl 3 rfl) ?_
            refine lv_iconst hx hb dX6_readsMember_76 kc_1 ?_
            refine lv_iadd hx hb dX6_readsMember_77 ?_
            obtain ⟨c19, hc19, h⟩ := ob h
            refine mc_V (As := [.int (v2 + (1 : Int32))]) (rest := [.int v1, .ref (kA K 6)]) C hJ (metM_byteAt l σ18 (v2 + (1 : Int32)) c19 hc19) (cwV 1 hts (lw_V q1400 q1402 qs56 q118 q1403) rfl rfl rfl hdM_byteAt ⟨Nat.le_of_ble_eq_true rfl, Nat.le_of_ble_eq_true rfl⟩) rfl hl.1 rfl (lv_room (Nat.le_of_ble_eq_true rfl)) dX6_readsMember_78 (fun H locs hJ => ?_)
            refine lv_bipush hx hb dX6_readsMember_81 kb_97 ?_
            refine lv_isub hx hb dX6_readsMember_83 ?_
            obtain ⟨σ20, hσ20, h⟩ := ob h
            refine my_is C hJ 6 rfl hσ20 dX6_readsMember_84 (fun H locs hJ => ?_)
            refine lv_aload_n hx hb dX6_readsMember_85 rfl (lv_at hl 1 rfl) ?_
            refine mx_ga C hJ 7 (Nat.le_of_ble_eq_true rfl) rfl lk7 dX6_readsMember_86 ?_
            refine lv_iload_n hx hb dX6_readsMember_89 rfl (lv_at hl 2 rfl) ?_
            refine lv_iload_n hx hb dX6_readsMember_90 rfl (lv_at hl 0 rfl) ?_
            refine lv_bipush hx hb dX6_readsMember_91 kb_117 ?_
            obtain ⟨q22, hq22, h⟩ := ob h
            have hjq22 : ∀ (H : Heap) (locs : List Loc) (ls : Array Slot), MJ K σ20 s.heap H locs → lv_has ls 4 [] → W p l e (rmd 3) s m args below meth c H locs 0 0 Q (F0 m 101 ls [.int q22, .int v1, .ref (kA K 7)]) := by
              intro H locs ls hJ hl
              obtain ⟨σ23, hσ23, h⟩ := ob h
              refine my_is C hJ 7 rfl hσ23 dX6_readsMember_101 (fun H locs hJ => ?_)
              refine lv_iconst hx hb dX6_readsMember_102 kc_3 ?_
              have h := Option.some.inj h
              subst h
              exact hE _ _ _ _ (some (.int ((3 : Int32)))) hJ ⟨_, rfl⟩ rfl dX6_readsMember_103
            refine lv_icmp_ne (tgt := 100) hx hb dX6_readsMember_93 (by decide) (fun hc21 => ?_) (fun hc21 => ?_)
            · have hq22 := im hq22 hc21
              refine lv_iconst hx hb dX6_readsMember_100 kc_0 ?_
              have hq22 := Option.some.inj hq22
              subst hq22
              exact hjq22 _ _ _ hJ (lv_sub hl [] rfl)
            · have hq22 := ip hq22 hc21
              refine lv_iconst hx hb dX6_readsMember_96 kc_1 ?_
              refine lv_goto (tgt := 101) hx hb dX6_readsMember_97 (by decide) ?_
              have hq22 := Option.some.inj hq22
              subst hq22
              exact hjq22 _ _ _ hJ (lv_sub hl [] rfl)
          · have h := im h hc16
            refine lv_iconst hx hb dX6_readsMember_56 kc_2 ?_
            have h := Option.some.inj h
            subst h
            exact hE _ _ _ _ (some (.int ((2 : Int32)))) hJ ⟨_, rfl⟩ rfl dX6_readsMember_57
      · have h := ip h hc6
        refine lv_iconst hx hb dX6_readsMember_34 kc_1 ?_
        have h := Option.some.inj h
        subst h
        exact hE _ _ _ _ (some (.int ((1 : Int32)))) hJ ⟨_, rfl⟩ rfl dX6_readsMember_35
    · have h := ip h hc3
      refine lv_iconst hx hb dX6_readsMember_15 kc_0 ?_
      have h := Option.some.inj h
      subst h
      exact hE _ _ _ _ (some (.int ((0 : Int32)))) hJ ⟨_, rfl⟩ rfl dX6_readsMember_16
def M_event (σ : MM) (v1 : Int32) (v2 : Int32) (v3 : Int32) : Option (Int32 × MM) :=
  (M_in σ v1 (0 : Int32) (3 : Int32)).bind fun c1 =>
  if c1 = 0 then
    some ((-2 : Int32), σ)
  else
    (M_isHour σ v2).bind fun c3 =>
    if c3 = 0 then
      some ((-2 : Int32), σ)
    else
      (M_isPlace σ v3).bind fun c5 =>
      if c5 = 0 then
        some ((-2 : Int32), σ)
      else
        if (σ 8 0) = (8 : Int32) then
          some ((-4 : Int32), σ)
        else
          (mst σ 9 (σ 8 0) v1).bind fun σ8 =>
          (mst σ8 10 (σ8 8 0) v2).bind fun σ9 =>
          (mst σ9 11 (σ9 8 0) v3).bind fun σ10 =>
          (mpf σ10 8 ((σ10 8 0) + (1 : Int32))).bind fun σ11 =>
          some ((σ11 8 0), σ11)
theorem hdM_event : yX6_event.cls = RX6 ∧ yX6_event.cls ≠ "java/lang/invoke/MethodHandle" ∧ yX6_event.cls ≠ "java/lang/invoke/VarHandle" ∧ (parseMethodDescriptor yX6_event.desc).map (fun d => d.parameters.length) = some 3 := by decide +kernel
set_option maxHeartbeats 4000000 in
theorem metM_event (l : Launch) (σ : MM) (v1 : Int32) (v2 : Int32) (v3 : Int32) (res : Int32 × MM) (h : M_event σ v1 v2 v3 = some res) : MetM l yX6_event cX6_event 4 (some .int) 3 (fun K => [.ref (kO K), .int v1, .int v2, .int v3]) σ (some (.int res.1)) res.2 := by
  refine met_walk rfl (by simp [mRt]) (fun _ => Nat.le_of_ble_eq_true rfl) (fun K p e s m args below meth c Q C hE ls hl hJ => ?_)
  have hx := C.1.1
  have hb := C.1.2.1
  have hown := C.1.2.2.2.1
  have hts := C.1.2.2.2.2
  have hl : lv_has ls 4 [(0, .ref (kO K)), (1, .int v1), (2, .int v2), (3, .int v3)] := hl
  unfold M_event at h
  refine lv_iload_n hx hb dX6_event_0 rfl (lv_at hl 1 rfl) ?_
  refine lv_iconst hx hb dX6_event_1 kc_0 ?_
  refine lv_iconst hx hb dX6_event_2 kc_3 ?_
  obtain ⟨c1, hc1, h⟩ := ob h
  refine mc_S (As := [.int v1, .int (0 : Int32), .int (3 : Int32)]) (rest := []) C hJ (metM_in l σ v1 (0 : Int32) (3 : Int32) c1 hc1) (va_cwS 3 hts (lw_S q1365 q1366 q118 q1367) rfl rfl rfl hdM_in ⟨Nat.le_of_ble_eq_true rfl, Nat.le_of_ble_eq_true rfl⟩) rfl hl.1 rfl (lv_room (Nat.le_of_ble_eq_true rfl)) dX6_event_3 (fun H locs hJ => ?_)
  refine lv_if_eq (tgt := 23) hx hb dX6_event_6 (by decide) (fun hc2 => ?_) (fun hc2 => ?_)
  · have h := ip h hc2
    refine lv_bipush hx hb dX6_event_23 kb_m2 ?_
    have h := Option.some.inj h
    subst h
    exact hE _ _ _ _ (some (.int ((-2 : Int32)))) hJ ⟨_, rfl⟩ rfl dX6_event_25
  · have h := im h hc2
    refine lv_iload_n hx hb dX6_event_9 rfl (lv_at hl 2 rfl) ?_
    obtain ⟨c3, hc3, h⟩ := ob h
    refine mc_S (As := [.int v2]) (rest := []) C hJ (metM_isHour l σ v2 c3 hc3) (va_cwS 1 hts (lw_S q1435 q1436 q118 q1437) rfl rfl rfl hdM_isHour ⟨Nat.le_of_ble_eq_true rfl, Nat.le_of_ble_eq_true rfl⟩) rfl hl.1 rfl (lv_room (Nat.le_of_ble_eq_true rfl)) dX6_event_10 (fun H locs hJ => ?_)
    refine lv_if_eq (tgt := 23) hx hb dX6_event_13 (by decide) (fun hc4 => ?_) (fun hc4 => ?_)
    · have h := ip h hc4
      refine lv_bipush hx hb dX6_event_23 kb_m2 ?_
      have h := Option.some.inj h
      subst h
      exact hE _ _ _ _ (some (.int ((-2 : Int32)))) hJ ⟨_, rfl⟩ rfl dX6_event_25
    · have h := im h hc4
      refine lv_iload_n hx hb dX6_event_16 rfl (lv_at hl 3 rfl) ?_
      obtain ⟨c5, hc5, h⟩ := ob h
      refine mc_S (As := [.int v3]) (rest := []) C hJ (metM_isPlace l σ v3 c5 hc5) (va_cwS 1 hts (lw_S q1408 q1409 q118 q1410) rfl rfl rfl hdM_isPlace ⟨Nat.le_of_ble_eq_true rfl, Nat.le_of_ble_eq_true rfl⟩) rfl hl.1 rfl (lv_room (Nat.le_of_ble_eq_true rfl)) dX6_event_17 (fun H locs hJ => ?_)
      refine lv_if_ne (tgt := 26) hx hb dX6_event_20 (by decide) (fun hc6 => ?_) (fun hc6 => ?_)
      · have h := im h hc6
        refine lv_aload_n hx hb dX6_event_26 rfl (lv_at hl 0 rfl) ?_
        refine mx_gi C hJ 8 (Nat.le_of_ble_eq_true rfl) rfl lk8 dX6_event_27 ?_
        refine lv_bipush hx hb dX6_event_30 kb_8 ?_
        refine lv_icmp_ne (tgt := 38) hx hb dX6_event_32 (by decide) (fun hc7 => ?_) (fun hc7 => ?_)
        · have h := im h hc7
          refine lv_aload_n hx hb dX6_event_38 rfl (lv_at hl 0 rfl) ?_
          refine mx_ga C hJ 9 (Nat.le_of_ble_eq_true rfl) rfl lk9 dX6_event_39 ?_
          refine lv_aload_n hx hb dX6_event_42 rfl (lv_at hl 0 rfl) ?_
          refine mx_gi C hJ 8 (Nat.le_of_ble_eq_true rfl) rfl lk8 dX6_event_43 ?_
          refine lv_iload_n hx hb dX6_event_46 rfl (lv_at hl 1 rfl) ?_
          obtain ⟨σ8, hσ8, h⟩ := ob h
          refine my_is C hJ 9 rfl hσ8 dX6_event_47 (fun H locs hJ => ?_)
          refine lv_aload_n hx hb dX6_event_48 rfl (lv_at hl 0 rfl) ?_
          refine mx_ga C hJ 10 (Nat.le_of_ble_eq_true rfl) rfl lk10 dX6_event_49 ?_
          refine lv_aload_n hx hb dX6_event_52 rfl (lv_at hl 0 rfl) ?_
          refine mx_gi C hJ 8 (Nat.le_of_ble_eq_true rfl) rfl lk8 dX6_event_53 ?_
          refine lv_iload_n hx hb dX6_event_56 rfl (lv_at hl 2 rfl) ?_
          obtain ⟨σ9, hσ9, h⟩ := ob h
          refine my_is C hJ 10 rfl hσ9 dX6_event_57 (fun H locs hJ => ?_)
          refine lv_aload_n hx hb dX6_event_58 rfl (lv_at hl 0 rfl) ?_
          refine mx_ga C hJ 11 (Nat.le_of_ble_eq_true rfl) rfl lk11 dX6_event_59 ?_
          refine lv_aload_n hx hb dX6_event_62 rfl (lv_at hl 0 rfl) ?_
          refine mx_gi C hJ 8 (Nat.le_of_ble_eq_true rfl) rfl lk8 dX6_event_63 ?_
          refine lv_iload_n hx hb dX6_event_66 rfl (lv_at hl 3 rfl) ?_
          obtain ⟨σ10, hσ10, h⟩ := ob h
          refine my_is C hJ 11 rfl hσ10 dX6_event_67 (fun H locs hJ => ?_)
          refine lv_aload_n hx hb dX6_event_68 rfl (lv_at hl 0 rfl) ?_
          refine lv_dup hx hb dX6_event_69 rfl ?_
          refine mx_gi C hJ 8 (Nat.le_of_ble_eq_true rfl) rfl lk8 dX6_event_70 ?_
          refine lv_iconst hx hb dX6_event_73 kc_1 ?_
          refine lv_iadd hx hb dX6_event_74 ?_
          obtain ⟨σ11, hσ11, h⟩ := ob h
          refine my_pi C hJ 8 (Nat.le_of_ble_eq_true rfl) rfl rfl rfl lk8 hσ11 dX6_event_75 (fun H locs hJ => ?_)
          refine lv_aload_n hx hb dX6_event_78 rfl (lv_at hl 0 rfl) ?_
          refine mx_gi C hJ 8 (Nat.le_of_ble_eq_true rfl) rfl lk8 dX6_event_79 ?_
          have h := Option.some.inj h
          subst h
          exact hE _ _ _ _ (some (.int ((σ11 8 0)))) hJ ⟨_, rfl⟩ rfl dX6_event_82
        · have h := ip h hc7
          refine lv_bipush hx hb dX6_event_35 kb_m4 ?_
          have h := Option.some.inj h
          subst h
          exact hE _ _ _ _ (some (.int ((-4 : Int32)))) hJ ⟨_, rfl⟩ rfl dX6_event_37
      · have h := ip h hc6
        refine lv_bipush hx hb dX6_event_23 kb_m2 ?_
        have h := Option.some.inj h
        subst h
        exact hE _ _ _ _ (some (.int ((-2 : Int32)))) hJ ⟨_, rfl⟩ rfl dX6_event_25
