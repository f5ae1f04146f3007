/-! the reference, walked (printed by tool/gen_m.py) -/
set_option maxRecDepth 100000
def M_in (σ : MM) (v0 : Int32) (v1 : Int32) (v2 : Int32) : Option (Int32) :=
  if v0 < v1 then
    some (0 : Int32)
  else
    if v2 < v0 then
      some (0 : Int32)
    else
      some (1 : Int32)
theorem hdM_in : yX6_in.cls ≠ "java/lang/invoke/MethodHandle" ∧ yX6_in.cls ≠ "java/lang/invoke/VarHandle" ∧ (parseMethodDescriptor yX6_in.desc).map (fun d => d.parameters.length) = some 3 := by decide +kernel
set_option maxHeartbeats 4000000 in
theorem metM_in (l : Launch) (σ : MM) (v0 : Int32) (v1 : Int32) (v2 : Int32) (res : Int32) (h : M_in σ v0 v1 v2 = some res) : MetM l yX6_in cX6_in 3 (some .boolean) 1 (fun K => [.int v0, .int v1, .int v2]) σ (some (.int res)) σ := by
  refine met_walk rfl (by simp [mRt]) (fun _ => Nat.le_of_ble_eq_true rfl) (fun K p e s m args below meth c Q C hE ls hl hJ => ?_)
  have hx := C.1.1
  have hb := C.1.2.1
  have hown := C.1.2.2.2.1
  have hts := C.1.2.2.2.2
  have hl : lv_has ls 3 [(0, .int v0), (1, .int v1), (2, .int v2)] := hl
  unfold M_in at h
  refine lv_iload_n hx hb dX6_in_0 rfl (lv_at hl 0 rfl) ?_
  refine lv_iload_n hx hb dX6_in_1 rfl (lv_at hl 1 rfl) ?_
  refine lv_icmp_lt (tgt := 14) hx hb dX6_in_2 (by decide) (fun hc1 => ?_) (fun hc1 => ?_)
  · have h := ip h hc1
    refine lv_iconst hx hb dX6_in_14 kc_0 ?_
    have h := Option.some.inj h
    subst h
    exact hE _ _ _ _ (some (.int (0 : Int32))) hJ ⟨_, rfl⟩ mz0 dX6_in_15
  · have h := im h hc1
    refine lv_iload_n hx hb dX6_in_5 rfl (lv_at hl 0 rfl) ?_
    refine lv_iload_n hx hb dX6_in_6 rfl (lv_at hl 2 rfl) ?_
    refine lv_icmp_gt (tgt := 14) hx hb dX6_in_7 (by decide) (fun hc2 => ?_) (fun hc2 => ?_)
    · have h := ip h hc2
      refine lv_iconst hx hb dX6_in_14 kc_0 ?_
      have h := Option.some.inj h
      subst h
      exact hE _ _ _ _ (some (.int (0 : Int32))) hJ ⟨_, rfl⟩ mz0 dX6_in_15
    · have h := im h hc2
      refine lv_iconst hx hb dX6_in_10 kc_1 ?_
      refine lv_goto (tgt := 15) hx hb dX6_in_11 (by decide) ?_
      have h := Option.some.inj h
      subst h
      exact hE _ _ _ _ (some (.int (1 : Int32))) hJ ⟨_, rfl⟩ mz1 dX6_in_15
def M_isIn (σ : MM) (v0 : Int32) (v1 : Int32) : Option (Int32) :=
  if ((v0 >>> (v1 &&& 31)) &&& (1 : Int32)) = (1 : Int32) then
    some (1 : Int32)
  else
    some (0 : Int32)
theorem hdM_isIn : yX6_isIn.cls ≠ "java/lang/invoke/MethodHandle" ∧ yX6_isIn.cls ≠ "java/lang/invoke/VarHandle" ∧ (parseMethodDescriptor yX6_isIn.desc).map (fun d => d.parameters.length) = some 2 := by decide +kernel
set_option maxHeartbeats 4000000 in
theorem metM_isIn (l : Launch) (σ : MM) (v0 : Int32) (v1 : Int32) (res : Int32) (h : M_isIn σ v0 v1 = some res) : MetM l yX6_isIn cX6_isIn 2 (some .boolean) 1 (fun K => [.int v0, .int v1]) σ (some (.int res)) σ := by
  refine met_walk rfl (by simp [mRt]) (fun _ => Nat.le_of_ble_eq_true rfl) (fun K p e s m args below meth c Q C hE ls hl hJ => ?_)
  have hx := C.1.1
  have hb := C.1.2.1
  have hown := C.1.2.2.2.1
  have hts := C.1.2.2.2.2
  have hl : lv_has ls 2 [(0, .int v0), (1, .int v1)] := hl
  unfold M_isIn at h
  refine lv_iload_n hx hb dX6_isIn_0 rfl (lv_at hl 0 rfl) ?_
  refine lv_iload_n hx hb dX6_isIn_1 rfl (lv_at hl 1 rfl) ?_
  refine lv_ishr hx hb dX6_isIn_2 ?_
  refine lv_iconst hx hb dX6_isIn_3 kc_1 ?_
  refine lv_iand hx hb dX6_isIn_4 ?_
  refine lv_iconst hx hb dX6_isIn_5 kc_1 ?_
  refine lv_icmp_ne (tgt := 13) hx hb dX6_isIn_6 (by decide) (fun hc1 => ?_) (fun hc1 => ?_)
  · have h := im h hc1
    refine lv_iconst hx hb dX6_isIn_13 kc_0 ?_
    have h := Option.some.inj h
    subst h
    exact hE _ _ _ _ (some (.int (0 : Int32))) hJ ⟨_, rfl⟩ mz0 dX6_isIn_14
  · have h := ip h hc1
    refine lv_iconst hx hb dX6_isIn_9 kc_1 ?_
    refine lv_goto (tgt := 14) hx hb dX6_isIn_10 (by decide) ?_
    have h := Option.some.inj h
    subst h
    exact hE _ _ _ _ (some (.int (1 : Int32))) hJ ⟨_, rfl⟩ mz1 dX6_isIn_14
def M_no (σ : MM) (v0 : Int32) : Option (Int64) :=
  some ((-9223372036854775808 : Int64) - v0.toInt64)
theorem hdM_no : yX6_no.cls ≠ "java/lang/invoke/MethodHandle" ∧ yX6_no.cls ≠ "java/lang/invoke/VarHandle" ∧ (parseMethodDescriptor yX6_no.desc).map (fun d => d.parameters.length) = some 1 := by decide +kernel
set_option maxHeartbeats 4000000 in
theorem metM_no (l : Launch) (σ : MM) (v0 : Int32) (res : Int64) (h : M_no σ v0 = some res) : MetM l yX6_no cX6_no 1 (some .long) 1 (fun K => [.int v0]) σ (some (.long res)) σ := by
  refine met_walk rfl (by simp [mRt]) (fun _ => Nat.le_of_ble_eq_true rfl) (fun K p e s m args below meth c Q C hE ls hl hJ => ?_)
  have hx := C.1.1
  have hb := C.1.2.1
  have hown := C.1.2.2.2.1
  have hts := C.1.2.2.2.2
  have hl : lv_has ls 1 [(0, .int v0)] := hl
  unfold M_no at h
  refine lv_ldc2 (v := (-9223372036854775808 : Int64)) hx hb hown (hts _ q1695) dX6_no_0 ?_
  refine lv_iload_n hx hb dX6_no_3 rfl (lv_at hl 0 rfl) ?_
  refine lv_i2l (v := v0.toInt64) hx hb dX6_no_4 rfl ?_
  refine lv_lsub hx hb dX6_no_5 ?_
  have h := Option.some.inj h
  subst h
  exact hE _ _ _ _ (some (.long (((-9223372036854775808 : Int64) - v0.toInt64)))) hJ ⟨_, rfl⟩ rfl dX6_no_6
def M_lowest (σ : MM) (v0 : Int64) (v2 : Int64) (v4 : Int32) : Option (Int64) :=
  (lp (S := Int64 × Int64) (T := Int64) (fun w1 =>
    if (lg_cmp w1.2 (0 : Int64)) = 0 then
        some (.inr w1.1)
      else
        (lrm w1.1 w1.2).bind fun x4 =>
        some (.inl (w1.2, x4))) 2000 (v0, v2)).bind fun q2 =>
  if v4 = 0 then
    (ldv v0 q2).bind fun x7 =>
    some x7
  else
    (ldv v2 q2).bind fun x6 =>
    some x6
theorem hdM_lowest : yX6_lowest.cls ≠ "java/lang/invoke/MethodHandle" ∧ yX6_lowest.cls ≠ "java/lang/invoke/VarHandle" ∧ (parseMethodDescriptor yX6_lowest.desc).map (fun d => d.parameters.length) = some 3 := by decide +kernel
set_option maxHeartbeats 4000000 in
theorem metM_lowest (l : Launch) (σ : MM) (v0 : Int64) (v2 : Int64) (v4 : Int32) (res : Int64) (h : M_lowest σ v0 v2 v4 = some res) : MetM l yX6_lowest cX6_lowest 11 (some .long) 1 (fun K => [.long v0, .long v2, .int v4]) σ (some (.long res)) σ := by
  refine met_walk rfl (by simp [mRt]) (fun _ => Nat.le_of_ble_eq_true rfl) (fun K p e s m args below meth c Q C hE ls hl hJ => ?_)
  have hx := C.1.1
  have hb := C.1.2.1
  have hown := C.1.2.2.2.1
  have hts := C.1.2.2.2.2
  have hl : lv_has ls 11 [(0, .long v0), (2, .long v2), (4, .int v4)] := hl
  unfold M_lowest at h
  refine lv_lload_n hx hb dX6_lowest_0 rfl (lv_at hl 0 rfl) ?_
  refine lv_lstore (lv' := [(5, .long v0), (0, .long v0), (2, .long v2), (4, .int v4)]) hx hb dX6_lowest_1 hl (Nat.le_of_ble_eq_true rfl) rfl (fun ls hl => ?_)
  refine lv_lload_n hx hb dX6_lowest_3 rfl (lv_at hl 2 rfl) ?_
  refine lv_lstore (lv' := [(7, .long v2), (5, .long v0), (0, .long v0), (2, .long v2), (4, .int v4)]) hx hb dX6_lowest_4 hl (Nat.le_of_ble_eq_true rfl) rfl (fun ls hl => ?_)
  obtain ⟨q2, hq2, h⟩ := ob h
  have hxq2 : ∀ (H : Heap) (locs : List Loc) (ls : Array Slot), MJ K σ s.heap H locs → lv_has ls 11 [(0, .long v0), (2, .long v2), (4, .int v4), (5, .long q2)] → W p l e (rmd 1) s m args below meth c H locs 0 0 Q (F0 m 31 ls []) := by
    intro H locs ls hJ hl
    refine lv_iload hx hb dX6_lowest_31 (lv_at hl 2 rfl) ?_
    refine lv_if_ne (tgt := 43) hx hb dX6_lowest_33 (by decide) (fun hc5 => ?_) (fun hc5 => ?_)
    · have h := im h hc5
      refine lv_lload_n hx hb dX6_lowest_43 rfl (lv_at hl 1 rfl) ?_
      refine lv_lload hx hb dX6_lowest_44 (lv_at hl 3 rfl) ?_
      obtain ⟨x6, hx6, h⟩ := ob h
      refine my_ldiv hx hb hx6 dX6_lowest_46 ?_
      have h := Option.some.inj h
      subst h
      exact hE _ _ _ _ (some (.long (x6))) hJ ⟨_, rfl⟩ rfl dX6_lowest_47
    · have h := ip h hc5
      refine lv_lload_n hx hb dX6_lowest_36 rfl (lv_at hl 0 rfl) ?_
      refine lv_lload hx hb dX6_lowest_37 (lv_at hl 3 rfl) ?_
      obtain ⟨x7, hx7, h⟩ := ob h
      refine my_ldiv hx hb hx7 dX6_lowest_39 ?_
      refine lv_goto (tgt := 47) hx hb dX6_lowest_40 (by decide) ?_
      have h := Option.some.inj h
      subst h
      exact hE _ _ _ _ (some (.long (x7))) hJ ⟨_, rfl⟩ rfl dX6_lowest_47
  refine lp_ind (P := fun (w1 : Int64 × Int64) => ∀ (H : Heap) (locs : List Loc) (ls : Array Slot), MJ K σ s.heap H locs → lv_has ls 11 [(0, .long v0), (2, .long v2), (4, .int v4), (5, .long w1.1), (7, .long w1.2)] → W p l e (rmd 1) s m args below meth c H locs 0 0 Q (F0 m 6 ls [])) ?_ _ _ hq2 _ _ _ hJ (lv_sub hl [2, 3, 4, 1, 0] rfl)
  intro nw1 w1 ihw1 zw1 hzw1 hqw1 H locs ls hJ hl
  refine lv_lload hx hb dX6_lowest_6 (lv_at hl 4 rfl) ?_
  refine lv_lconst (v := (0 : Int64)) hx hb dX6_lowest_8 rfl ?_
  refine W.lcmp hx hb dX6_lowest_9 ?_
  refine lv_if_eq (tgt := 31) hx hb dX6_lowest_10 (by decide) (fun hc3 => ?_) (fun hc3 => ?_)
  · have hzw1 := ip hzw1 hc3
    have hzw1 := Option.some.inj hzw1
    subst hzw1
    have hqw1 : _ = q2 := hqw1
    subst hqw1
    exact hxq2 _ _ _ hJ (lv_sub hl [0, 1, 2, 3] rfl)
  · have hzw1 := im hzw1 hc3
    refine lv_lload hx hb dX6_lowest_13 (lv_at hl 3 rfl) ?_
    refine lv_lload hx hb dX6_lowest_15 (lv_at hl 4 rfl) ?_
    obtain ⟨x4, hx4, hzw1⟩ := ob hzw1
    refine my_lrem hx hb hx4 dX6_lowest_17 ?_
    refine lv_lstore (lv' := [(9, .long x4), (0, .long v0), (2, .long v2), (4, .int v4), (5, .long w1.1), (7, .long w1.2)]) hx hb dX6_lowest_18 hl (Nat.le_of_ble_eq_true rfl) rfl (fun ls hl => ?_)
    refine lv_lload hx hb dX6_lowest_20 (lv_at hl 5 rfl) ?_
    refine lv_lstore (lv' := [(5, .long w1.2), (9, .long x4), (0, .long v0), (2, .long v2), (4, .int v4), (7, .long w1.2)]) hx hb dX6_lowest_22 hl (Nat.le_of_ble_eq_true rfl) rfl (fun ls hl => ?_)
    refine lv_lload hx hb dX6_lowest_24 (lv_at hl 1 rfl) ?_
    refine lv_lstore (lv' := [(7, .long x4), (5, .long w1.2), (9, .long x4), (0, .long v0), (2, .long v2), (4, .int v4)]) hx hb dX6_lowest_26 hl (Nat.le_of_ble_eq_true rfl) rfl (fun ls hl => ?_)
    refine lv_goto (tgt := 6) hx hb dX6_lowest_28 (by decide) ?_
    have hzw1 := Option.some.inj hzw1
    subst hzw1
    exact ihw1 _ hqw1 _ _ _ hJ (lv_sub hl [3, 4, 5, 1, 0] rfl)
def M_byteAt (σ : MM) (v1 : Int32) : Option (Int32) :=
  (mld σ 0 (1 : Int32)).bind fun x1 =>
  if x1 ≤ v1 then
    some (-1 : Int32)
  else
    (mld σ 1 ((31 : Int32) + v1)).bind fun x3 =>
    some x3
theorem hdM_byteAt : yX6_byteAt.cls = RX6 ∧ yX6_byteAt.cls ≠ "java/lang/invoke/MethodHandle" ∧ yX6_byteAt.cls ≠ "java/lang/invoke/VarHandle" ∧ (parseMethodDescriptor yX6_byteAt.desc).map (fun d => d.parameters.length) = some 1 := by decide +kernel
set_option maxHeartbeats 4000000 in
theorem metM_byteAt (l : Launch) (σ : MM) (v1 : Int32) (res : Int32) (h : M_byteAt σ v1 = some res) : MetM l yX6_byteAt cX6_byteAt 2 (some .int) 1 (fun K => [.ref (kO K), .int v1]) σ (some (.int res)) σ := by
  refine met_walk rfl (by simp [mRt]) (fun _ => Nat.le_of_ble_eq_true rfl) (fun K p e s m args below meth c Q C hE ls hl hJ => ?_)
  have hx := C.1.1
  have hb := C.1.2.1
  have hown := C.1.2.2.2.1
  have hts := C.1.2.2.2.2
  have hl : lv_has ls 2 [(0, .ref (kO K)), (1, .int v1)] := hl
  unfold M_byteAt at h
  refine lv_iload_n hx hb dX6_byteAt_0 rfl (lv_at hl 1 rfl) ?_
  refine lv_aload_n hx hb dX6_byteAt_1 rfl (lv_at hl 0 rfl) ?_
  refine mx_ga C hJ 0 (Nat.le_of_ble_eq_true rfl) rfl lk0 dX6_byteAt_2 ?_
  refine lv_iconst hx hb dX6_byteAt_5 kc_1 ?_
  obtain ⟨x1, hx1, h⟩ := ob h
  refine my_il C hJ 0 rfl hx1 dX6_byteAt_6 ?_
  refine lv_icmp_ge (tgt := 22) hx hb dX6_byteAt_7 (by decide) (fun hc2 => ?_) (fun hc2 => ?_)
  · have h := ip h hc2
    refine lv_iconst hx hb dX6_byteAt_22 kc_m1 ?_
    have h := Option.some.inj h
    subst h
    exact hE _ _ _ _ (some (.int ((-1 : Int32)))) hJ ⟨_, rfl⟩ rfl dX6_byteAt_23
  · have h := im h hc2
    refine lv_aload_n hx hb dX6_byteAt_10 rfl (lv_at hl 0 rfl) ?_
    refine mx_ga C hJ 1 (Nat.le_of_ble_eq_true rfl) rfl lk1 dX6_byteAt_11 ?_
    refine lv_bipush hx hb dX6_byteAt_14 kb_31 ?_
    refine lv_iload_n hx hb dX6_byteAt_16 rfl (lv_at hl 1 rfl) ?_
    refine lv_iadd hx hb dX6_byteAt_17 ?_
    obtain ⟨x3, hx3, h⟩ := ob h
    refine my_il C hJ 1 rfl hx3 dX6_byteAt_18 ?_
    refine lv_goto (tgt := 23) hx hb dX6_byteAt_19 (by decide) ?_
    have h := Option.some.inj h
    subst h
    exact hE _ _ _ _ (some (.int (x3))) hJ ⟨_, rfl⟩ rfl dX6_byteAt_23
def M_memberOf (σ : MM) (v1 : Int32) (v2 : Int32) : Option (Int32) :=
  if v2 = 0 then
    (mld σ 5 v1).bind fun x5 =>
    some x5
  else
    if v2 = (1 : Int32) then
      (mld σ 6 v1).bind fun x4 =>
      some x4
    else
      (mld σ 7 v1).bind fun x3 =>
      some x3
theorem hdM_memberOf : yX6_memberOf.cls = RX6 ∧ yX6_memberOf.cls ≠ "java/lang/invoke/MethodHandle" ∧ yX6_memberOf.cls ≠ "java/lang/invoke/VarHandle" ∧ (parseMethodDescriptor yX6_memberOf.desc).map (fun d => d.parameters.length) = some 2 := by decide +kernel
set_option maxHeartbeats 4000000 in
theorem metM_memberOf (l : Launch) (σ : MM) (v1 : Int32) (v2 : Int32) (res : Int32) (h : M_memberOf σ v1 v2 = some res) : MetM l yX6_memberOf cX6_memberOf 3 (some .int) 1 (fun K => [.ref (kO K), .int v1, .int v2]) σ (some (.int res)) σ := by
  refine met_walk rfl (by simp [mRt]) (fun _ => Nat.le_of_ble_eq_true rfl) (fun K p e s m args below meth c Q C hE ls hl hJ => ?_)
  have hx := C.1.1
  have hb := C.1.2.1
  have hown := C.1.2.2.2.1
  have hts := C.1.2.2.2.2
  have hl : lv_has ls 3 [(0, .ref (kO K)), (1, .int v1), (2, .int v2)] := hl
  unfold M_memberOf at h
  refine lv_iload_n hx hb dX6_memberOf_0 rfl (lv_at hl 2 rfl) ?_
  refine lv_if_ne (tgt := 13) hx hb dX6_memberOf_1 (by decide) (fun hc1 => ?_) (fun hc1 => ?_)
  · have h := im h hc1
    refine lv_iload_n hx hb dX6_memberOf_13 rfl (lv_at hl 2 rfl) ?_
    refine lv_iconst hx hb dX6_memberOf_14 kc_1 ?_
    refine lv_icmp_ne (tgt := 27) hx hb dX6_memberOf_15 (by decide) (fun hc2 => ?_) (fun hc2 => ?_)
    · have h := im h hc2
      refine lv_aload_n hx hb dX6_memberOf_27 rfl (lv_at hl 0 rfl) ?_
      refine mx_ga C hJ 7 (Nat.le_of_ble_eq_true rfl) rfl lk7 dX6_memberOf_28 ?_
      refine lv_iload_n hx hb dX6_memberOf_31 rfl (lv_at hl 1 rfl) ?_
      obtain ⟨x3, hx3, h⟩ := ob h
      refine my_il C hJ 7 rfl hx3 dX6_memberOf_32 ?_
      have h := Option.some.inj h
      subst h
      exact hE _ _ _ _ (some (.int (x3))) hJ ⟨_, rfl⟩ rfl dX6_memberOf_33
    · have h := ip h hc2
      refine lv_aload_n hx hb dX6_memberOf_18 rfl (lv_at hl 0 rfl) ?_
      refine mx_ga C hJ 6 (Nat.le_of_ble_eq_true rfl) rfl lk6 dX6_memberOf_19 ?_
      refine lv_iload_n hx hb dX6_memberOf_22 rfl (lv_at hl 1 rfl) ?_
      obtain ⟨x4, hx4, h⟩ := ob h
      refine my_il C hJ 6 rfl hx4 dX6_memberOf_23 ?_
      refine lv_goto (tgt := 33) hx hb dX6_memberOf_24 (by decide) ?_
      have h := Option.some.inj h
      subst h
      exact hE _ _ _ _ (some (.int (x4))) hJ ⟨_, rfl⟩ rfl dX6_memberOf_33
  · have h := ip h hc1
    refine lv_aload_n hx hb dX6_memberOf_4 rfl (lv_at hl 0 rfl) ?_
    refine mx_ga C hJ 5 (Nat.le_of_ble_eq_true rfl) rfl lk5 dX6_memberOf_5 ?_
    refine lv_iload_n hx hb dX6_memberOf_8 rfl (lv_at hl 1 rfl) ?_
    obtain ⟨x5, hx5, h⟩ := ob h
    refine my_il C hJ 5 rfl hx5 dX6_memberOf_9 ?_
    refine lv_goto (tgt := 33) hx hb dX6_memberOf_10 (by decide) ?_
    have h := Option.some.inj h
    subst h
    exact hE _ _ _ _ (some (.int (x5))) hJ ⟨_, rfl⟩ rfl dX6_memberOf_33
def M_back (σ : MM) : Option (Int32 × MM) :=
  if (σ 8 0) = 0 then
    some ((-3 : Int32), σ)
  else
    (mpf σ 8 ((σ 8 0) - (1 : Int32))).bind fun σ2 =>
    some ((σ2 8 0), σ2)
theorem hdM_back : yX6_back.cls = RX6 ∧ yX6_back.cls ≠ "java/lang/invoke/MethodHandle" ∧ yX6_back.cls ≠ "java/lang/invoke/VarHandle" ∧ (parseMethodDescriptor yX6_back.desc).map (fun d => d.parameters.length) = some 0 := by decide +kernel
set_option maxHeartbeats 4000000 in
theorem metM_back (l : Launch) (σ : MM) (res : Int32 × MM) (h : M_back σ = some res) : MetM l yX6_back cX6_back 1 (some .int) 1 (fun K => [.ref (kO K)]) σ (some (.int res.1)) res.2 := by
  refine met_walk rfl (by simp [mRt]) (fun _ => Nat.le_of_ble_eq_true rfl) (fun K p e s m args below meth c Q C hE ls hl hJ => ?_)
  have hx := C.1.1
  have hb := C.1.2.1
  have hown := C.1.2.2.2.1
  have hts := C.1.2.2.2.2
  have hl : lv_has ls 1 [(0, .ref (kO K))] := hl
  unfold M_back at h
  refine lv_aload_n hx hb dX6_back_0 rfl (lv_at hl 0 rfl) ?_
  refine mx_gi C hJ 8 (Nat.le_of_ble_eq_true rfl) rfl lk8 dX6_back_1 ?_
  refine lv_if_ne (tgt := 10) hx hb dX6_back_4 (by decide) (fun hc1 => ?_) (fun hc1 => ?_)
  · have h := im h hc1
    refine lv_aload_n hx hb dX6_back_10 rfl (lv_at hl 0 rfl) ?_
    refine lv_dup hx hb dX6_back_11 rfl ?_
    refine mx_gi C hJ 8 (Nat.le_of_ble_eq_true rfl) rfl lk8 dX6_back_12 ?_
    refine lv_iconst hx hb dX6_back_15 kc_1 ?_
    refine lv_isub hx hb dX6_back_16 ?_
    obtain ⟨σ2, hσ2, h⟩ := ob h
    refine my_pi C hJ 8 (Nat.le_of_ble_eq_true rfl) rfl rfl rfl lk8 hσ2 dX6_back_17 (fun H locs hJ => ?_)
    refine lv_aload_n hx hb dX6_back_20 rfl (lv_at hl 0 rfl) ?_
    refine mx_gi C hJ 8 (Nat.le_of_ble_eq_true rfl) rfl lk8 dX6_back_21 ?_
    have h := Option.some.inj h
    subst h
    exact hE _ _ _ _ (some (.int ((σ2 8 0)))) hJ ⟨_, rfl⟩ rfl dX6_back_24
  · have h := ip h hc1
    refine lv_bipush hx hb dX6_back_7 kb_m3 ?_
    have h := Option.some.inj h
    subst h
    exact hE _ _ _ _ (some (.int ((-3 : Int32)))) hJ ⟨_, rfl⟩ rfl dX6_back_9
def M_lifts (σ : MM) (v1 : Int32) : Option (MM) :=
  (lp (S := Int32 × MM) (T := MM) (fun w1 =>
    if (w1.2 4 0) ≤ w1.1 then
        some (.inr w1.2)
      else
        (mld w1.2 5 w1.1).bind fun x4 =>
        (mst w1.2 20 w1.1 ((v1 + x4) + (1 : Int32))).bind fun σ5 =>
        some (.inl ((w1.1 + 1), σ5))) 2000 ((0 : Int32), σ)).bind fun q2 =>
  some q2
theorem hdM_lifts : yX6_lifts.cls = RX6 ∧ yX6_lifts.cls ≠ "java/lang/invoke/MethodHandle" ∧ yX6_lifts.cls ≠ "java/lang/invoke/VarHandle" ∧ (parseMethodDescriptor yX6_lifts.desc).map (fun d => d.parameters.length) = some 1 := by decide +kernel
set_option maxHeartbeats 4000000 in
theorem metM_lifts (l : Launch) (σ : MM) (v1 : Int32) (res : MM) (h : M_lifts σ v1 = some res) : MetM l yX6_lifts cX6_lifts 3 none 1 (fun K => [.ref (kO K), .int v1]) σ none res := by
  refine met_walk rfl (by simp [mRt]) (fun _ => Nat.le_of_ble_eq_true rfl) (fun K p e s m args below meth c Q C hE ls hl hJ => ?_)
  have hx := C.1.1
  have hb := C.1.2.1
  have hown := C.1.2.2.2.1
  have hts := C.1.2.2.2.2
  have hl : lv_has ls 3 [(0, .ref (kO K)), (1, .int v1)] := hl
  unfold M_lifts at h
  refine lv_iconst hx hb dX6_lifts_0 kc_0 ?_
  refine lv_istore_n (lv' := [(2, .int (0 : Int32)), (0, .ref (kO K)), (1, .int v1)]) hx hb dX6_lifts_1 rfl hl (Nat.le_of_ble_eq_true rfl) rfl (fun ls hl => ?_)
  obtain ⟨q2, hq2, h⟩ := ob h
  have hxq2 : ∀ (H : Heap) (locs : List Loc) (ls : Array Slot), MJ K q2 s.heap H locs → lv_has ls 3 [] → W p l e (rmd 1) s m args below meth c H locs 0 0 Q (F0 m 32 ls []) := by
    intro H locs ls hJ hl
    have h := Option.some.inj h
    subst h
    exact hE _ _ _ _ none hJ rfl rfl dX6_lifts_32
  refine lp_ind (P := fun (w1 : Int32 × MM) => ∀ (H : Heap) (locs : List Loc) (ls : Array Slot), MJ K w1.2 s.heap H locs → lv_has ls 3 [(0, .ref (kO K)), (1, .int v1), (2, .int w1.1)] → W p l e (rmd 1) s m args below meth c H locs 0 0 Q (F0 m 2 ls [])) ?_ _ _ hq2 _ _ _ hJ (lv_sub hl [1, 2, 0] rfl)
  intro nw1 w1 ihw1 zw1 hzw1 hqw1 H locs ls hJ hl
  refine lv_iload_n hx hb dX6_lifts_2 rfl (lv_at hl 2 rfl) ?_
  refine lv_aload_n hx hb dX6_lifts_3 rfl (lv_at hl 0 rfl) ?_
  refine mx_gi C hJ 4 (Nat.le_of_ble_eq_true rfl) rfl lk4 dX6_lifts_4 ?_
  refine lv_icmp_ge (tgt := 32) hx hb dX6_lifts_7 (by decide) (fun hc3 => ?_) (fun hc3 => ?_)
  · have hzw1 := ip hzw1 hc3
    have hzw1 := Option.some.inj hzw1
    subst hzw1
    have hqw1 : _ = q2 := hqw1
    subst hqw1
    exact hxq2 _ _ _ hJ (lv_sub hl [] rfl)
  · have hzw1 := im hzw1 hc3
    refine lv_aload_n hx hb dX6_lifts_10 rfl (lv_at hl 0 rfl) ?_
    refine mx_ga C hJ 20 (Nat.le_of_ble_eq_true rfl) rfl lk20 dX6_lifts_11 ?_
    refine lv_iload_n hx hb dX6_lifts_14 rfl (lv_at hl 2 rfl) ?_
    refine lv_iload_n hx hb dX6_lifts_15 rfl (lv_at hl 1 rfl) ?_
    refine lv_aload_n hx hb dX6_lifts_16 rfl (lv_at hl 0 rfl) ?_
    refine mx_ga C hJ 5 (Nat.le_of_ble_eq_true rfl) rfl lk5 dX6_lifts_17 ?_
    refine lv_iload_n hx hb dX6_lifts_20 rfl (lv_at hl 2 rfl) ?_
    obtain ⟨x4, hx4, hzw1⟩ := ob hzw1
    refine my_il C hJ 5 rfl hx4 dX6_lifts_21 ?_
    refine lv_iadd hx hb dX6_lifts_22 ?_
    refine lv_iconst hx hb dX6_lifts_23 kc_1 ?_
    refine lv_iadd hx hb dX6_lifts_24 ?_
    obtain ⟨σ5, hσ5, hzw1⟩ := ob hzw1
    refine my_is C hJ 20 rfl hσ5 dX6_lifts_25 (fun H locs hJ => ?_)
    refine lv_iinc (v := (w1.1 + 1)) (lv' := [(2, .int (w1.1 + 1)), (0, .ref (kO K)), (1, .int v1)]) hx hb dX6_lifts_26 hl (k := 2) rfl rfl (Nat.le_of_ble_eq_true rfl) rfl (fun ls hl => ?_)
    refine lv_goto (tgt := 2) hx hb dX6_lifts_29 (by decide) ?_
    have hzw1 := Option.some.inj hzw1
    subst hzw1
    exact ihw1 _ hqw1 _ _ _ hJ (lv_sub hl [1, 2, 0] rfl)
def M_peppers (σ : MM) (v1 : Int32) : Option (MM) :=
  (lp (S := Int32 × MM) (T := MM) (fun w1 =>
    if (w1.2 4 0) ≤ w1.1 then
        some (.inr w1.2)
      else
        (mld w1.2 18 w1.1).bind fun x4 =>
        (if x4 = v1 then
            (mld w1.2 19 w1.1).bind fun x7 =>
            some ((1 : Int32) - x7)
          else
            (mld w1.2 19 w1.1).bind fun x6 =>
            some x6 : Option (Int32)).bind fun q8 =>
        (mst w1.2 19 w1.1 q8).bind fun σ9 =>
        some (.inl ((w1.1 + 1), σ9))) 2000 ((0 : Int32), σ)).bind fun q2 =>
  some q2
theorem hdM_peppers : yX6_peppers.cls = RX6 ∧ yX6_peppers.cls ≠ "java/lang/invoke/MethodHandle" ∧ yX6_peppers.cls ≠ "java/lang/invoke/VarHandle" ∧ (parseMethodDescriptor yX6_peppers.desc).map (fun d => d.parameters.length) = some 1 := by decide +kernel
set_option maxHeartbeats 4000000 in
theorem metM_peppers (l : Launch) (σ : MM) (v1 : Int32) (res : MM) (h : M_peppers σ v1 = some res) : MetM l yX6_peppers cX6_peppers 3 none 1 (fun K => [.ref (kO K), .int v1]) σ none res := by
  refine met_walk rfl (by simp [mRt]) (fun _ => Nat.le_of_ble_eq_true rfl) (fun K p e s m args below meth c Q C hE ls hl hJ => ?_)
  have hx := C.1.1
  have hb := C.1.2.1
  have hown := C.1.2.2.2.1
  have hts := C.1.2.2.2.2
  have hl : lv_has ls 3 [(0, .ref (kO K)), (1, .int v1)] := hl
  unfold M_peppers at h
  refine lv_iconst hx hb dX6_peppers_0 kc_0 ?_
  refine lv_istore_n (lv' := [(2, .int (0 : Int32)), (0, .ref (kO K)), (1, .int v1)]) hx hb dX6_peppers_1 rfl hl (Nat.le_of_ble_eq_true rfl) rfl (fun ls hl => ?_)
  obtain ⟨q2, hq2, h⟩ := ob h
  have hxq2 : ∀ (H : Heap) (locs : List Loc) (ls : Array Slot), MJ K q2 s.heap H locs → lv_has ls 3 [] → W p l e (rmd 1) s m args below meth c H locs 0 0 Q (F0 m 49 ls []) := by
    intro H locs ls hJ hl
    have h := Option.some.inj h
    subst h
    exact hE _ _ _ _ none hJ rfl rfl dX6_peppers_49
  refine lp_ind (P := fun (w1 : Int32 × MM) => ∀ (H : Heap) (locs : List Loc) (ls : Array Slot), MJ K w1.2 s.heap H locs → lv_has ls 3 [(0, .ref (kO K)), (1, .int v1), (2, .int w1.1)] → W p l e (rmd 1) s m args below meth c H locs 0 0 Q (F0 m 2 ls [])) ?_ _ _ hq2 _ _ _ hJ (lv_sub hl [1, 2, 0] rfl)
  intro nw1 w1 ihw1 zw1 hzw1 hqw1 H locs ls hJ hl
  refine lv_iload_n hx hb dX6_peppers_2 rfl (lv_at hl 2 rfl) ?_
  refine lv_aload_n hx hb dX6_peppers_3 rfl (lv_at hl 0 rfl) ?_
  refine mx_gi C hJ 4 (Nat.le_of_ble_eq_true rfl) rfl lk4 dX6_peppers_4 ?_
  refine lv_icmp_ge (tgt := 49) hx hb dX6_peppers_7 (by decide) (fun hc3 => ?_) (fun hc3 => ?_)
  · have hzw1 := ip hzw1 hc3
    have hzw1 := Option.some.inj hzw1
    subst hzw1
    have hqw1 : _ = q2 := hqw1
    subst hqw1
    exact hxq2 _ _ _ hJ (lv_sub hl [] rfl)
  · have hzw1 := im hzw1 hc3
    refine lv_aload_n hx hb dX6_peppers_10 rfl (lv_at hl 0 rfl) ?_
    refine mx_ga C hJ 19 (Nat.le_of_ble_eq_true rfl) rfl lk19 dX6_peppers_11 ?_
    refine lv_iload_n hx hb dX6_peppers_14 rfl (lv_at hl 2 rfl) ?_
    refine lv_aload_n hx hb dX6_peppers_15 rfl (lv_at hl 0 rfl) ?_
    refine mx_ga C hJ 18 (Nat.le_of_ble_eq_true rfl) rfl lk18 dX6_peppers_16 ?_
    refine lv_iload_n hx hb dX6_peppers_19 rfl (lv_at hl 2 rfl) ?_
    obtain ⟨x4, hx4, hzw1⟩ := ob hzw1
    refine my_il C hJ 18 rfl hx4 dX6_peppers_20 ?_
    refine lv_iload_n hx hb dX6_peppers_21 rfl (lv_at hl 1 rfl) ?_
    obtain ⟨q8, hq8, hzw1⟩ := ob hzw1
    have hjq8 : ∀ (H : Heap) (locs : List Loc) (ls : Array Slot), MJ K w1.2 s.heap H locs → lv_has ls 3 [(0, .ref (kO K)), (1, .int v1), (2, .int w1.1)] → W p l e (rmd 1) s m args below meth c H locs 0 0 Q (F0 m 42 ls [.int q8, .int w1.1, .ref (kA K 19)]) := by
      intro H locs ls hJ hl
      obtain ⟨σ9, hσ9, hzw1⟩ := ob hzw1
      refine my_is C hJ 19 rfl hσ9 dX6_peppers_42 (fun H locs hJ => ?_)
      refine lv_iinc (v := (w1.1 + 1)) (lv' := [(2, .int (w1.1 + 1)), (0, .ref (kO K)), (1, .int v1)]) hx hb dX6_peppers_43 hl (k := 2) rfl rfl (Nat.le_of_ble_eq_true rfl) rfl (fun ls hl => ?_)
      refine lv_goto (tgt := 2) hx hb dX6_peppers_46 (by decide) ?_
      have hzw1 := Option.some.inj hzw1
      subst hzw1
      exact ihw1 _ hqw1 _ _ _ hJ (lv_sub hl [1, 2, 0] rfl)
    refine lv_icmp_ne (tgt := 36) hx hb dX6_peppers_22 (by decide) (fun hc5 => ?_) (fun hc5 => ?_)
    · have hq8 := im hq8 hc5
      refine lv_aload_n hx hb dX6_peppers_36 rfl (lv_at hl 0 rfl) ?_
      refine mx_ga C hJ 19 (Nat.le_of_ble_eq_true rfl) rfl lk19 dX6_peppers_37 ?_
      refine lv_iload_n hx hb dX6_peppers_40 rfl (lv_at hl 2 rfl) ?_
      obtain ⟨x6, hx6, hq8⟩ := ob hq8
      refine my_il C hJ 19 rfl hx6 dX6_peppers_41 ?_
      have hq8 := Option.some.inj hq8
      subst hq8
      exact hjq8 _ _ _ hJ (lv_sub hl [0, 1, 2] rfl)
    · have hq8 := ip hq8 hc5
      refine lv_iconst hx hb dX6_peppers_25 kc_1 ?_
      refine lv_aload_n hx hb dX6_peppers_26 rfl (lv_at hl 0 rfl) ?_
      refine mx_ga C hJ 19 (Nat.le_of_ble_eq_true rfl) rfl lk19 dX6_peppers_27 ?_
      refine lv_iload_n hx hb dX6_peppers_30 rfl (lv_at hl 2 rfl) ?_
      obtain ⟨x7, hx7, hq8⟩ := ob hq8
      refine my_il C hJ 19 rfl hx7 dX6_peppers_31 ?_
      refine lv_isub hx hb dX6_peppers_32 ?_
      refine lv_goto (tgt := 42) hx hb dX6_peppers_33 (by decide) ?_
      have hq8 := Option.some.inj hq8
      subst hq8
      exact hjq8 _ _ _ hJ (lv_sub hl [0, 1, 2] rfl)
def M_wets (σ : MM) (v1 : Int32) : Option (MM) :=
  (lp (S := Int32 × MM) (T := MM) (fun w1 =>
    if (12 : Int32) ≤ w1.1 then
        some (.inr w1.2)
      else
        (mld w1.2 17 w1.1).bind fun x4 =>
        (if (0 : Int32) ≤ (x4 + v1) then
            if (x4 + v1) ≤ (9 : Int32) then
              some (x4 + v1)
            else
              some (9 : Int32)
          else
            some (0 : Int32) : Option (Int32)).bind fun q7 =>
        (mst w1.2 17 w1.1 q7).bind fun σ8 =>
        some (.inl ((w1.1 + 1), σ8))) 2000 ((0 : Int32), σ)).bind fun q2 =>
  some q2
theorem hdM_wets : yX6_wets.cls = RX6 ∧ yX6_wets.cls ≠ "java/lang/invoke/MethodHandle" ∧ yX6_wets.cls ≠ "java/lang/invoke/VarHandle" ∧ (parseMethodDescriptor yX6_wets.desc).map (fun d => d.parameters.length) = some 1 := by decide +kernel
set_option maxHeartbeats 4000000 in
theorem metM_wets (l : Launch) (σ : MM) (v1 : Int32) (res : MM) (h : M_wets σ v1 = some res) : MetM l yX6_wets cX6_wets 4 none 1 (fun K => [.ref (kO K), .int v1]) σ none res := by
  refine met_walk rfl (by simp [mRt]) (fun _ => Nat.le_of_ble_eq_true rfl) (fun K p e s m args below meth c Q C hE ls hl hJ => ?_)
  have hx := C.1.1
  have hb := C.1.2.1
  have hown := C.1.2.2.2.1
  have hts := C.1.2.2.2.2
  have hl : lv_has ls 4 [(0, .ref (kO K)), (1, .int v1)] := hl
  unfold M_wets at h
  refine lv_iconst hx hb dX6_wets_0 kc_0 ?_
  refine lv_istore_n (lv' := [(2, .int (0 : Int32)), (0, .ref (kO K)), (1, .int v1)]) hx hb dX6_wets_1 rfl hl (Nat.le_of_ble_eq_true rfl) rfl (fun ls hl => ?_)
  obtain ⟨q2, hq2, h⟩ := ob h
  have hxq2 : ∀ (H : Heap) (locs : List Loc) (ls : Array Slot), MJ K q2 s.heap H locs → lv_has ls 4 [] → W p l e (rmd 1) s m args below meth c H locs 0 0 Q (F0 m 49 ls []) := by
    intro H locs ls hJ hl
    have h := Option.some.inj h
    subst h
    exact hE _ _ _ _ none hJ rfl rfl dX6_wets_49
  refine lp_ind (P := fun (w1 : Int32 × MM) => ∀ (H : Heap) (locs : List Loc) (ls : Array Slot), MJ K w1.2 s.heap H locs → lv_has ls 4 [(0, .ref (kO K)), (1, .int v1), (2, .int w1.1)] → W p l e (rmd 1) s m args below meth c H locs 0 0 Q (F0 m 2 ls [])) ?_ _ _ hq2 _ _ _ hJ (lv_sub hl [1, 2, 0] rfl)
  intro nw1 w1 ihw1 zw1 hzw1 hqw1 H locs ls hJ hl
  refine lv_iload_n hx hb dX6_wets_2 rfl (lv_at hl 2 rfl) ?_
  refine lv_bipush hx hb dX6_wets_3 kb_12 ?_
  refine lv_icmp_ge (tgt := 49) hx hb dX6_wets_5 (by decide) (fun hc3 => ?_) (fun hc3 => ?_)
  · have hzw1 := ip hzw1 hc3
    have hzw1 := Option.some.inj hzw1
    subst hzw1
    have hqw1 : _ = q2 := hqw1
    subst hqw1
    exact hxq2 _ _ _ hJ (lv_sub hl [] rfl)
  · have hzw1 := im hzw1 hc3
    refine lv_aload_n hx hb dX6_wets_8 rfl (lv_at hl 0 rfl) ?_
    refine mx_ga C hJ 17 (Nat.le_of_ble_eq_true rfl) rfl lk17 dX6_wets_9 ?_
    refine lv_iload_n hx hb dX6_wets_12 rfl (lv_at hl 2 rfl) ?_
    obtain ⟨x4, hx4, hzw1⟩ := ob hzw1
    refine my_il C hJ 17 rfl hx4 dX6_wets_13 ?_
    refine lv_iload_n hx hb dX6_wets_14 rfl (lv_at hl 1 rfl) ?_
    refine lv_iadd hx hb dX6_wets_15 ?_
    refine lv_istore_n (lv' := [(3, .int (x4 + v1)), (0, .ref (kO K)), (1, .int v1), (2, .int w1.1)]) hx hb dX6_wets_16 rfl hl (Nat.le_of_ble_eq_true rfl) rfl (fun ls hl => ?_)
    refine lv_aload_n hx hb dX6_wets_17 rfl (lv_at hl 1 rfl) ?_
    refine mx_ga C hJ 17 (Nat.le_of_ble_eq_true rfl) rfl lk17 dX6_wets_18 ?_
    refine lv_iload_n hx hb dX6_wets_21 rfl (lv_at hl 3 rfl) ?_
    refine lv_iload_n hx hb dX6_wets_22 rfl (lv_at hl 0 rfl) ?_
    obtain ⟨q7, hq7, hzw1⟩ := ob hzw1
    have hjq7 : ∀ (H : Heap) (locs : List Loc) (ls : Array Slot), MJ K w1.2 s.heap H locs → lv_has ls 4 [(0, .ref (kO K)), (1, .int v1), (2, .int w1.1)] → W p l e (rmd 1) s m args below meth c H locs 0 0 Q (F0 m 42 ls [.int q7, .int w1.1, .ref (kA K 17)]) := by
      intro H locs ls hJ hl
      obtain ⟨σ8, hσ8, hzw1⟩ := ob hzw1
      refine my_is C hJ 17 rfl hσ8 dX6_wets_42 (fun H locs hJ => ?_)
      refine lv_iinc (v := (w1.1 + 1)) (lv' := [(2, .int (w1.1 + 1)), (0, .ref (kO K)), (1, .int v1)]) hx hb dX6_wets_43 hl (k := 2) rfl rfl (Nat.le_of_ble_eq_true rfl) rfl (fun ls hl => ?_)
      refine lv_goto (tgt := 2) hx hb dX6_wets_46 (by decide) ?_
      have hzw1 := Option.some.inj hzw1
      subst hzw1
      exact ihw1 _ hqw1 _ _ _ hJ (lv_sub hl [1, 2, 0] rfl)
    refine lv_if_ge (tgt := 30) hx hb dX6_wets_23 (by decide) (fun hc5 => ?_) (fun hc5 => ?_)
    · have hq7 := ip hq7 hc5
      refine lv_iload_n hx hb dX6_wets_30 rfl (lv_at hl 0 rfl) ?_
      refine lv_bipush hx hb dX6_wets_31 kb_9 ?_
      refine lv_icmp_le (tgt := 41) hx hb dX6_wets_33 (by decide) (fun hc6 => ?_) (fun hc6 => ?_)
      · have hq7 := ip hq7 hc6
        refine lv_iload_n hx hb dX6_wets_41 rfl (lv_at hl 0 rfl) ?_
        have hq7 := Option.some.inj hq7
        subst hq7
        exact hjq7 _ _ _ hJ (lv_sub hl [1, 2, 3] rfl)
      · have hq7 := im hq7 hc6
        refine lv_bipush hx hb dX6_wets_36 kb_9 ?_
        refine lv_goto (tgt := 42) hx hb dX6_wets_38 (by decide) ?_
        have hq7 := Option.some.inj hq7
        subst hq7
        exact hjq7 _ _ _ hJ (lv_sub hl [1, 2, 3] rfl)
    · have hq7 := im hq7 hc5
      refine lv_iconst hx hb dX6_wets_26 kc_0 ?_
      refine lv_goto (tgt := 42) hx hb dX6_wets_27 (by decide) ?_
      have hq7 := Option.some.inj hq7
      subst hq7
      exact hjq7 _ _ _ hJ (lv_sub hl [1, 2, 3] rfl)
def M_isRolled (σ : MM) (v1 : Int32) (v2 : Int32) : Option (Int32) :=
  (mld σ 20 v1).bind fun x1 =>
  if x1 ≤ v2 then
    some (0 : Int32)
  else
    some (1 : Int32)
theorem hdM_isRolled : yX6_isRolled.cls = RX6 ∧ yX6_isRolled.cls ≠ "java/lang/invoke/MethodHandle" ∧ yX6_isRolled.cls ≠ "java/lang/invoke/VarHandle" ∧ (parseMethodDescriptor yX6_isRolled.desc).map (fun d => d.parameters.length) = some 2 := by decide +kernel
set_option maxHeartbeats 4000000 in
theorem metM_isRolled (l : Launch) (σ : MM) (v1 : Int32) (v2 : Int32) (res : Int32) (h : M_isRolled σ v1 v2 = some res) : MetM l yX6_isRolled cX6_isRolled 3 (some .boolean) 1 (fun K => [.ref (kO K), .int v1, .int v2]) σ (some (.int res)) σ := by
  refine met_walk rfl (by simp [mRt]) (fun _ => Nat.le_of_ble_eq_true rfl) (fun K p e s m args below meth c Q C hE ls hl hJ => ?_)
  have hx := C.1.1
  have hb := C.1.2.1
  have hown := C.1.2.2.2.1
  have hts := C.1.2.2.2.2
  have hl : lv_has ls 3 [(0, .ref (kO K)), (1, .int v1), (2, .int v2)] := hl
  unfold M_isRolled at h
  refine lv_iload_n hx hb dX6_isRolled_0 rfl (lv_at hl 2 rfl) ?_
  refine lv_aload_n hx hb dX6_isRolled_1 rfl (lv_at hl 0 rfl) ?_
  refine mx_ga C hJ 20 (Nat.le_of_ble_eq_true rfl) rfl lk20 dX6_isRolled_2 ?_
  refine lv_iload_n hx hb dX6_isRolled_5 rfl (lv_at hl 1 rfl) ?_
  obtain ⟨x1, hx1, h⟩ := ob h
  refine my_il C hJ 20 rfl hx1 dX6_isRolled_6 ?_
  refine lv_icmp_ge (tgt := 14) hx hb dX6_isRolled_7 (by decide) (fun hc2 => ?_) (fun hc2 => ?_)
  · have h := ip h hc2
    refine lv_iconst hx hb dX6_isRolled_14 kc_0 ?_
    have h := Option.some.inj h
    subst h
    exact hE _ _ _ _ (some (.int (0 : Int32))) hJ ⟨_, rfl⟩ mz0 dX6_isRolled_15
  · have h := im h hc2
    refine lv_iconst hx hb dX6_isRolled_10 kc_1 ?_
    refine lv_goto (tgt := 15) hx hb dX6_isRolled_11 (by decide) ?_
    have h := Option.some.inj h
    subst h
    exact hE _ _ _ _ (some (.int (1 : Int32))) hJ ⟨_, rfl⟩ mz1 dX6_isRolled_15
def M_manyAt (σ : MM) (v1 : Int32) (v2 : Int32) : Option (Int32) :=
  (lp (S := Int32 × Int32) (T := Int32) (fun w1 =>
    if (σ 4 0) ≤ w1.2 then
        some (.inr w1.1)
      else
        (mld σ 24 (((8 : Int32) * v1) + w1.2)).bind fun x4 =>
        (if x4 = v2 then
            some (1 : Int32)
          else
            some (0 : Int32) : Option (Int32)).bind fun q6 =>
        some (.inl ((w1.1 + q6), (w1.2 + 1)))) 2000 ((0 : Int32), (0 : Int32))).bind fun q2 =>
  some q2
theorem hdM_manyAt : yX6_manyAt.cls = RX6 ∧ yX6_manyAt.cls ≠ "java/lang/invoke/MethodHandle" ∧ yX6_manyAt.cls ≠ "java/lang/invoke/VarHandle" ∧ (parseMethodDescriptor yX6_manyAt.desc).map (fun d => d.parameters.length) = some 2 := by decide +kernel
set_option maxHeartbeats 4000000 in
theorem metM_manyAt (l : Launch) (σ : MM) (v1 : Int32) (v2 : Int32) (res : Int32) (h : M_manyAt σ v1 v2 = some res) : MetM l yX6_manyAt cX6_manyAt 5 (some .int) 1 (fun K => [.ref (kO K), .int v1, .int v2]) σ (some (.int res)) σ := by
  refine met_walk rfl (by simp [mRt]) (fun _ => Nat.le_of_ble_eq_true rfl) (fun K p e s m args below meth c Q C hE ls hl hJ => ?_)
  have hx := C.1.1
  have hb := C.1.2.1
  have hown := C.1.2.2.2.1
  have hts := C.1.2.2.2.2
  have hl : lv_has ls 5 [(0, .ref (kO K)), (1, .int v1), (2, .int v2)] := hl
  unfold M_manyAt at h
  refine lv_iconst hx hb dX6_manyAt_0 kc_0 ?_
  refine lv_istore_n (lv' := [(3, .int (0 : Int32)), (0, .ref (kO K)), (1, .int v1), (2, .int v2)]) hx hb dX6_manyAt_1 rfl hl (Nat.le_of_ble_eq_true rfl) rfl (fun ls hl => ?_)
  refine lv_iconst hx hb dX6_manyAt_2 kc_0 ?_
  refine lv_istore (lv' := [(4, .int (0 : Int32)), (3, .int (0 : Int32)), (0, .ref (kO K)), (1, .int v1), (2, .int v2)]) hx hb dX6_manyAt_3 hl (Nat.le_of_ble_eq_true rfl) rfl (fun ls hl => ?_)
  obtain ⟨q2, hq2, h⟩ := ob h
  have hxq2 : ∀ (H : Heap) (locs : List Loc) (ls : Array Slot), MJ K σ s.heap H locs → lv_has ls 5 [(3, .int q2)] → W p l e (rmd 1) s m args below meth c H locs 0 0 Q (F0 m 44 ls []) := by
    intro H locs ls hJ hl
    refine lv_iload_n hx hb dX6_manyAt_44 rfl (lv_at hl 0 rfl) ?_
    have h := Option.some.inj h
    subst h
    exact hE _ _ _ _ (some (.int (q2))) hJ ⟨_, rfl⟩ rfl dX6_manyAt_45
  refine lp_ind (P := fun (w1 : Int32 × Int32) => ∀ (H : Heap) (locs : List Loc) (ls : Array Slot), MJ K σ s.heap H locs → lv_has ls 5 [(0, .ref (kO K)), (1, .int v1), (2, .int v2), (3, .int w1.1), (4, .int w1.2)] → W p l e (rmd 1) s m args below meth c H locs 0 0 Q (F0 m 5 ls [])) ?_ _ _ hq2 _ _ _ hJ (lv_sub hl [2, 3, 4, 1, 0] rfl)
  intro nw1 w1 ihw1 zw1 hzw1 hqw1 H locs ls hJ hl
  refine lv_iload hx hb dX6_manyAt_5 (lv_at hl 4 rfl) ?_
  refine lv_aload_n hx hb dX6_manyAt_7 rfl (lv_at hl 0 rfl) ?_
  refine mx_gi C hJ 4 (Nat.le_of_ble_eq_true rfl) rfl lk4 dX6_manyAt_8 ?_
  refine lv_icmp_ge (tgt := 44) hx hb dX6_manyAt_11 (by decide) (fun hc3 => ?_) (fun hc3 => ?_)
  · have hzw1 := ip hzw1 hc3
    have hzw1 := Option.some.inj hzw1
    subst hzw1
    have hqw1 : _ = q2 := hqw1
    subst hqw1
    exact hxq2 _ _ _ hJ (lv_sub hl [3] rfl)
  · have hzw1 := im hzw1 hc3
    refine lv_iload_n hx hb dX6_manyAt_14 rfl (lv_at hl 3 rfl) ?_
    refine lv_aload_n hx hb dX6_manyAt_15 rfl (lv_at hl 0 rfl) ?_
    refine mx_ga C hJ 24 (Nat.le_of_ble_eq_true rfl) rfl lk24 dX6_manyAt_16 ?_
    refine lv_bipush hx hb dX6_manyAt_19 kb_8 ?_
    refine lv_iload_n hx hb dX6_manyAt_21 rfl (lv_at hl 1 rfl) ?_
    refine lv_imul hx hb dX6_manyAt_22 ?_
    refine lv_iload hx hb dX6_manyAt_23 (lv_at hl 4 rfl) ?_
    refine lv_iadd hx hb dX6_manyAt_25 ?_
    obtain ⟨x4, hx4, hzw1⟩ := ob hzw1
    refine my_il C hJ 24 rfl hx4 dX6_manyAt_26 ?_
    refine lv_iload_n hx hb dX6_manyAt_27 rfl (lv_at hl 2 rfl) ?_
    obtain ⟨q6, hq6, hzw1⟩ := ob hzw1
    have hjq6 : ∀ (H : Heap) (locs : List Loc) (ls : Array Slot), MJ K σ s.heap H locs → lv_has ls 5 [(0, .ref (kO K)), (1, .int v1), (2, .int v2), (4, .int w1.2)] → W p l e (rmd 1) s m args below meth c H locs 0 0 Q (F0 m 36 ls [.int q6, .int w1.1]) := by
      intro H locs ls hJ hl
      refine lv_iadd hx hb dX6_manyAt_36 ?_
      refine lv_istore_n (lv' := [(3, .int (w1.1 + q6)), (0, .ref (kO K)), (1, .int v1), (2, .int v2), (4, .int w1.2)]) hx hb dX6_manyAt_37 rfl hl (Nat.le_of_ble_eq_true rfl) rfl (fun ls hl => ?_)
      refine lv_iinc (v := (w1.2 + 1)) (lv' := [(4, .int (w1.2 + 1)), (3, .int (w1.1 + q6)), (0, .ref (kO K)), (1, .int v1), (2, .int v2)]) hx hb dX6_manyAt_38 hl (k := 4) rfl rfl (Nat.le_of_ble_eq_true rfl) rfl (fun ls hl => ?_)
      refine lv_goto (tgt := 5) hx hb dX6_manyAt_41 (by decide) ?_
      have hzw1 := Option.some.inj hzw1
      subst hzw1
      exact ihw1 _ hqw1 _ _ _ hJ (lv_sub hl [2, 3, 4, 1, 0] rfl)
    refine lv_icmp_ne (tgt := 35) hx hb dX6_manyAt_28 (by decide) (fun hc5 => ?_) (fun hc5 => ?_)
    · have hq6 := im hq6 hc5
      refine lv_iconst hx hb dX6_manyAt_35 kc_0 ?_
      have hq6 := Option.some.inj hq6
      subst hq6
      exact hjq6 _ _ _ hJ (lv_sub hl [0, 1, 2, 4] rfl)
    · have hq6 := ip hq6 hc5
      refine lv_iconst hx hb dX6_manyAt_31 kc_1 ?_
      refine lv_goto (tgt := 36) hx hb dX6_manyAt_32 (by decide) ?_
      have hq6 := Option.some.inj hq6
      subst hq6
      exact hjq6 _ _ _ hJ (lv_sub hl [0, 1, 2, 4] rfl)
def M_isCarried (σ : MM) (v1 : Int32) : Option (Int32) :=
  (mld σ 28 v1).bind fun x1 =>
  (mld σ 29 v1).bind fun x2 =>
  if x1 ≤ x2 then
    some (0 : Int32)
  else
    some (1 : Int32)
theorem hdM_isCarried : yX6_isCarried.cls = RX6 ∧ yX6_isCarried.cls ≠ "java/lang/invoke/MethodHandle" ∧ yX6_isCarried.cls ≠ "java/lang/invoke/VarHandle" ∧ (parseMethodDescriptor yX6_isCarried.desc).map (fun d => d.parameters.length) = some 1 := by decide +kernel
set_option maxHeartbeats 4000000 in
theorem metM_isCarried (l : Launch) (σ : MM) (v1 : Int32) (res : Int32) (h : M_isCarried σ v1 = some res) : MetM l yX6_isCarried cX6_isCarried 2 (some .boolean) 1 (fun K => [.ref (kO K), .int v1]) σ (some (.int res)) σ := by
  refine met_walk rfl (by simp [mRt]) (fun _ => Nat.le_of_ble_eq_true rfl) (fun K p e s m args below meth c Q C hE ls hl hJ => ?_)
  have hx := C.1.1
  have hb := C.1.2.1
  have hown := C.1.2.2.2.1
  have hts := C.1.2.2.2.2
  have hl : lv_has ls 2 [(0, .ref (kO K)), (1, .int v1)] := hl
  unfold M_isCarried at h
  refine lv_aload_n hx hb dX6_isCarried_0 rfl (lv_at hl 0 rfl) ?_
  refine mx_ga C hJ 28 (Nat.le_of_ble_eq_true rfl) rfl lk28 dX6_isCarried_1 ?_
  refine lv_iload_n hx hb dX6_isCarried_4 rfl (lv_at hl 1 rfl) ?_
  obtain ⟨x1, hx1, h⟩ := ob h
  refine my_il C hJ 28 rfl hx1 dX6_isCarried_5 ?_
  refine lv_aload_n hx hb dX6_isCarried_6 rfl (lv_at hl 0 rfl) ?_
  refine mx_ga C hJ 29 (Nat.le_of_ble_eq_true rfl) rfl lk29 dX6_isCarried_7 ?_
  refine lv_iload_n hx hb dX6_isCarried_10 rfl (lv_at hl 1 rfl) ?_
  obtain ⟨x2, hx2, h⟩ := ob h
  refine my_il C hJ 29 rfl hx2 dX6_isCarried_11 ?_
  refine lv_icmp_le (tgt := 19) hx hb dX6_isCarried_12 (by decide) (fun hc3 => ?_) (fun hc3 => ?_)
  · have h := ip h hc3
    refine lv_iconst hx hb dX6_isCarried_19 kc_0 ?_
    have h := Option.some.inj h
    subst h
    exact hE _ _ _ _ (some (.int (0 : Int32))) hJ ⟨_, rfl⟩ mz0 dX6_isCarried_20
  · have h := im h hc3
    refine lv_iconst hx hb dX6_isCarried_15 kc_1 ?_
    refine lv_goto (tgt := 20) hx hb dX6_isCarried_16 (by decide) ?_
    have h := Option.some.inj h
    subst h
    exact hE _ _ _ _ (some (.int (1 : Int32))) hJ ⟨_, rfl⟩ mz1 dX6_isCarried_20
def M_ofRow (σ : MM) (v1 : Int32) (v2 : Int32) : Option (Int32) :=
  if v2 = (-1 : Int32) then
    some v1
  else
    if v1 ≤ v2 then
      some (-1 : Int32)
    else
      (mld σ 30 v2).bind fun x3 =>
      some x3
theorem hdM_ofRow : yX6_ofRow.cls = RX6 ∧ yX6_ofRow.cls ≠ "java/lang/invoke/MethodHandle" ∧ yX6_ofRow.cls ≠ "java/lang/invoke/VarHandle" ∧ (parseMethodDescriptor yX6_ofRow.desc).map (fun d => d.parameters.length) = some 2 := by decide +kernel
set_option maxHeartbeats 4000000 in
theorem metM_ofRow (l : Launch) (σ : MM) (v1 : Int32) (v2 : Int32) (res : Int32) (h : M_ofRow σ v1 v2 = some res) : MetM l yX6_ofRow cX6_ofRow 3 (some .int) 1 (fun K => [.ref (kO K), .int v1, .int v2]) σ (some (.int res)) σ := by
  refine met_walk rfl (by simp [mRt]) (fun _ => Nat.le_of_ble_eq_true rfl) (fun K p e s m args below meth c Q C hE ls hl hJ => ?_)
  have hx := C.1.1
  have hb := C.1.2.1
  have hown := C.1.2.2.2.1
  have hts := C.1.2.2.2.2
  have hl : lv_has ls 3 [(0, .ref (kO K)), (1, .int v1), (2, .int v2)] := hl
  unfold M_ofRow at h
  refine lv_iload_n hx hb dX6_ofRow_0 rfl (lv_at hl 2 rfl) ?_
  refine lv_iconst hx hb dX6_ofRow_1 kc_m1 ?_
  refine lv_icmp_ne (tgt := 9) hx hb dX6_ofRow_2 (by decide) (fun hc1 => ?_) (fun hc1 => ?_)
  · have h := im h hc1
    refine lv_iload_n hx hb dX6_ofRow_9 rfl (lv_at hl 2 rfl) ?_
    refine lv_iload_n hx hb dX6_ofRow_10 rfl (lv_at hl 1 rfl) ?_
    refine lv_icmp_ge (tgt := 23) hx hb dX6_ofRow_11 (by decide) (fun hc2 => ?_) (fun hc2 => ?_)
    · have h := ip h hc2
      refine lv_iconst hx hb dX6_ofRow_23 kc_m1 ?_
      have h := Option.some.inj h
      subst h
      exact hE _ _ _ _ (some (.int ((-1 : Int32)))) hJ ⟨_, rfl⟩ rfl dX6_ofRow_24
    · have h := im h hc2
      refine lv_aload_n hx hb dX6_ofRow_14 rfl (lv_at hl 0 rfl) ?_
      refine mx_ga C hJ 30 (Nat.le_of_ble_eq_true rfl) rfl lk30 dX6_ofRow_15 ?_
      refine lv_iload_n hx hb dX6_ofRow_18 rfl (lv_at hl 2 rfl) ?_
      obtain ⟨x3, hx3, h⟩ := ob h
      refine my_il C hJ 30 rfl hx3 dX6_ofRow_19 ?_
      refine lv_goto (tgt := 24) hx hb dX6_ofRow_20 (by decide) ?_
      have h := Option.some.inj h
      subst h
      exact hE _ _ _ _ (some (.int (x3))) hJ ⟨_, rfl⟩ rfl dX6_ofRow_24
  · have h := ip h hc1
    refine lv_iload_n hx hb dX6_ofRow_5 rfl (lv_at hl 1 rfl) ?_
    refine lv_goto (tgt := 24) hx hb dX6_ofRow_6 (by decide) ?_
    have h := Option.some.inj h
    subst h
    exact hE _ _ _ _ (some (.int (v1))) hJ ⟨_, rfl⟩ rfl dX6_ofRow_24
