/-! the reference, walked (printed by tool/gen_m.py) -/
set_option maxRecDepth 100000
def M_forget (σ : MM) : Option (Int32 × MM) :=
  (mpf σ 31 (0 : Int32)).bind fun σ1 =>
  some ((σ 31 0), σ1)
theorem hdM_forget : yX6_forget.cls = RX6 ∧ yX6_forget.cls ≠ "java/lang/invoke/MethodHandle" ∧ yX6_forget.cls ≠ "java/lang/invoke/VarHandle" ∧ (parseMethodDescriptor yX6_forget.desc).map (fun d => d.parameters.length) = some 0 := by decide +kernel
set_option maxHeartbeats 4000000 in
theorem metM_forget (l : Launch) (σ : MM) (res : Int32 × MM) (h : M_forget σ = some res) : MetM l yX6_forget cX6_forget 2 (some .int) 1 (fun K => [.ref (kO K)]) σ (some (.int res.1)) res.2 := by
  refine met_walk rfl (by simp [mRt]) (fun _ => Nat.le_of_ble_eq_true rfl) (fun K p e s m args below meth c Q C hE ls hl hJ => ?_)
  have hx := C.1.1
  have hb := C.1.2.1
  have hown := C.1.2.2.2.1
  have hts := C.1.2.2.2.2
  have hl : lv_has ls 2 [(0, .ref (kO K))] := hl
  unfold M_forget at h
  refine lv_aload_n hx hb dX6_forget_0 rfl (lv_at hl 0 rfl) ?_
  refine mx_gi C hJ 31 (Nat.le_of_ble_eq_true rfl) rfl lk31 dX6_forget_1 ?_
  refine lv_istore_n (lv' := [(1, .int (σ 31 0)), (0, .ref (kO K))]) hx hb dX6_forget_4 rfl hl (Nat.le_of_ble_eq_true rfl) rfl (fun ls hl => ?_)
  refine lv_aload_n hx hb dX6_forget_5 rfl (lv_at hl 1 rfl) ?_
  refine lv_iconst hx hb dX6_forget_6 kc_0 ?_
  obtain ⟨σ1, hσ1, h⟩ := ob h
  refine my_pi C hJ 31 (Nat.le_of_ble_eq_true rfl) rfl rfl rfl lk31 hσ1 dX6_forget_7 (fun H locs hJ => ?_)
  refine lv_iload_n hx hb dX6_forget_10 rfl (lv_at hl 0 rfl) ?_
  have h := Option.some.inj h
  subst h
  exact hE _ _ _ _ (some (.int ((σ 31 0)))) hJ ⟨_, rfl⟩ rfl dX6_forget_11
def M_meets (σ : MM) (v1 : Int32) : Option (Int32 × MM) :=
  (mpf σ 41 v1).bind fun σ1 =>
  some (((-10 : Int32) - v1), σ1)
theorem hdM_meets : yX6_meets.cls = RX6 ∧ yX6_meets.cls ≠ "java/lang/invoke/MethodHandle" ∧ yX6_meets.cls ≠ "java/lang/invoke/VarHandle" ∧ (parseMethodDescriptor yX6_meets.desc).map (fun d => d.parameters.length) = some 1 := by decide +kernel
set_option maxHeartbeats 4000000 in
theorem metM_meets (l : Launch) (σ : MM) (v1 : Int32) (res : Int32 × MM) (h : M_meets σ v1 = some res) : MetM l yX6_meets cX6_meets 2 (some .int) 1 (fun K => [.ref (kO K), .int v1]) σ (some (.int res.1)) res.2 := by
  refine met_walk rfl (by simp [mRt]) (fun _ => Nat.le_of_ble_eq_true rfl) (fun K p e s m args below meth c Q C hE ls hl hJ => ?_)
  have hx := C.1.1
  have hb := C.1.2.1
  have hown := C.1.2.2.2.1
  have hts := C.1.2.2.2.2
  have hl : lv_has ls 2 [(0, .ref (kO K)), (1, .int v1)] := hl
  unfold M_meets at h
  refine lv_aload_n hx hb dX6_meets_0 rfl (lv_at hl 0 rfl) ?_
  refine lv_iload_n hx hb dX6_meets_1 rfl (lv_at hl 1 rfl) ?_
  obtain ⟨σ1, hσ1, h⟩ := ob h
  refine my_pi C hJ 41 (Nat.le_of_ble_eq_true rfl) rfl rfl rfl lk41 hσ1 dX6_meets_2 (fun H locs hJ => ?_)
  refine lv_bipush hx hb dX6_meets_5 kb_m10 ?_
  refine lv_iload_n hx hb dX6_meets_7 rfl (lv_at hl 1 rfl) ?_
  refine lv_isub hx hb dX6_meets_8 ?_
  have h := Option.some.inj h
  subst h
  exact hE _ _ _ _ (some (.int (((-10 : Int32) - v1)))) hJ ⟨_, rfl⟩ rfl dX6_meets_9
def M_keep (σ : MM) (v1 : Int32) (v2 : Int32) (v3 : Int32) : Option (MM) :=
  (mld σ 37 v1).bind fun x1 =>
  (if x1 = 0 then
      some v3.toInt8.toInt32
    else
      (mld σ 37 v1).bind fun x3 =>
      if x3 = (1 : Int32) then
        some v3.toInt16.toInt32
      else
        some v3 : Option (Int32)).bind fun q5 =>
  (mst σ 39 (((60 : Int32) * v1) + v2) q5).bind fun σ6 =>
  some σ6
theorem hdM_keep : yX6_keep.cls = RX6 ∧ yX6_keep.cls ≠ "java/lang/invoke/MethodHandle" ∧ yX6_keep.cls ≠ "java/lang/invoke/VarHandle" ∧ (parseMethodDescriptor yX6_keep.desc).map (fun d => d.parameters.length) = some 3 := by decide +kernel
set_option maxHeartbeats 4000000 in
theorem metM_keep (l : Launch) (σ : MM) (v1 : Int32) (v2 : Int32) (v3 : Int32) (res : MM) (h : M_keep σ v1 v2 v3 = some res) : MetM l yX6_keep cX6_keep 4 none 1 (fun K => [.ref (kO K), .int v1, .int v2, .int v3]) σ none res := by
  refine met_walk rfl (by simp [mRt]) (fun _ => Nat.le_of_ble_eq_true rfl) (fun K p e s m args below meth c Q C hE ls hl hJ => ?_)
  have hx := C.1.1
  have hb := C.1.2.1
  have hown := C.1.2.2.2.1
  have hts := C.1.2.2.2.2
  have hl : lv_has ls 4 [(0, .ref (kO K)), (1, .int v1), (2, .int v2), (3, .int v3)] := hl
  unfold M_keep at h
  refine lv_aload_n hx hb dX6_keep_0 rfl (lv_at hl 0 rfl) ?_
  refine mx_ga C hJ 39 (Nat.le_of_ble_eq_true rfl) rfl lk39 dX6_keep_1 ?_
  refine lv_bipush hx hb dX6_keep_4 kb_60 ?_
  refine lv_iload_n hx hb dX6_keep_6 rfl (lv_at hl 1 rfl) ?_
  refine lv_imul hx hb dX6_keep_7 ?_
  refine lv_iload_n hx hb dX6_keep_8 rfl (lv_at hl 2 rfl) ?_
  refine lv_iadd hx hb dX6_keep_9 ?_
  refine lv_aload_n hx hb dX6_keep_10 rfl (lv_at hl 0 rfl) ?_
  refine mx_ga C hJ 37 (Nat.le_of_ble_eq_true rfl) rfl lk37 dX6_keep_11 ?_
  refine lv_iload_n hx hb dX6_keep_14 rfl (lv_at hl 1 rfl) ?_
  obtain ⟨x1, hx1, h⟩ := ob h
  refine my_il C hJ 37 rfl hx1 dX6_keep_15 ?_
  obtain ⟨q5, hq5, h⟩ := ob h
  have hjq5 : ∀ (H : Heap) (locs : List Loc) (ls : Array Slot), MJ K σ s.heap H locs → lv_has ls 4 [] → W p l e (rmd 1) s m args below meth c H locs 0 0 Q (F0 m 40 ls [.int q5, .int (((60 : Int32) * v1) + v2), .ref (kA K 39)]) := by
    intro H locs ls hJ hl
    obtain ⟨σ6, hσ6, h⟩ := ob h
    refine my_is C hJ 39 rfl hσ6 dX6_keep_40 (fun H locs hJ => ?_)
    have h := Option.some.inj h
    subst h
    exact hE _ _ _ _ none hJ rfl rfl dX6_keep_41
  refine lv_if_ne (tgt := 24) hx hb dX6_keep_16 (by decide) (fun hc2 => ?_) (fun hc2 => ?_)
  · have hq5 := im hq5 hc2
    refine lv_aload_n hx hb dX6_keep_24 rfl (lv_at hl 0 rfl) ?_
    refine mx_ga C hJ 37 (Nat.le_of_ble_eq_true rfl) rfl lk37 dX6_keep_25 ?_
    refine lv_iload_n hx hb dX6_keep_28 rfl (lv_at hl 1 rfl) ?_
    obtain ⟨x3, hx3, hq5⟩ := ob hq5
    refine my_il C hJ 37 rfl hx3 dX6_keep_29 ?_
    refine lv_iconst hx hb dX6_keep_30 kc_1 ?_
    refine lv_icmp_ne (tgt := 39) hx hb dX6_keep_31 (by decide) (fun hc4 => ?_) (fun hc4 => ?_)
    · have hq5 := im hq5 hc4
      refine lv_iload_n hx hb dX6_keep_39 rfl (lv_at hl 3 rfl) ?_
      have hq5 := Option.some.inj hq5
      subst hq5
      exact hjq5 _ _ _ hJ (lv_sub hl [] rfl)
    · have hq5 := ip hq5 hc4
      refine lv_iload_n hx hb dX6_keep_34 rfl (lv_at hl 3 rfl) ?_
      refine lv_i2s (v := v3.toInt16.toInt32) hx hb dX6_keep_35 rfl ?_
      refine lv_goto (tgt := 40) hx hb dX6_keep_36 (by decide) ?_
      have hq5 := Option.some.inj hq5
      subst hq5
      exact hjq5 _ _ _ hJ (lv_sub hl [] rfl)
  · have hq5 := ip hq5 hc2
    refine lv_iload_n hx hb dX6_keep_19 rfl (lv_at hl 3 rfl) ?_
    refine lv_i2b (v := v3.toInt8.toInt32) hx hb dX6_keep_20 rfl ?_
    refine lv_goto (tgt := 40) hx hb dX6_keep_21 (by decide) ?_
    have hq5 := Option.some.inj hq5
    subst hq5
    exact hjq5 _ _ _ hJ (lv_sub hl [] rfl)
def M_isText (σ : MM) (v0 : Int32) : Option (Int32) :=
  (M_in σ v0 (0 : Int32) (1 : Int32)).bind fun c1 =>
  some (bz c1)
theorem hdM_isText : yX6_isText.cls ≠ "java/lang/invoke/MethodHandle" ∧ yX6_isText.cls ≠ "java/lang/invoke/VarHandle" ∧ (parseMethodDescriptor yX6_isText.desc).map (fun d => d.parameters.length) = some 1 := by decide +kernel
set_option maxHeartbeats 4000000 in
theorem metM_isText (l : Launch) (σ : MM) (v0 : Int32) (res : Int32) (h : M_isText σ v0 = some res) : MetM l yX6_isText cX6_isText 1 (some .boolean) 2 (fun K => [.int v0]) σ (some (.int res)) σ := by
  refine met_walk rfl (by simp [mRt]) (fun _ => Nat.le_of_ble_eq_true rfl) (fun K p e s m args below meth c Q C hE ls hl hJ => ?_)
  have hx := C.1.1
  have hb := C.1.2.1
  have hown := C.1.2.2.2.1
  have hts := C.1.2.2.2.2
  have hl : lv_has ls 1 [(0, .int v0)] := hl
  unfold M_isText at h
  refine lv_iload_n hx hb dX6_isText_0 rfl (lv_at hl 0 rfl) ?_
  refine lv_iconst hx hb dX6_isText_1 kc_0 ?_
  refine lv_iconst hx hb dX6_isText_2 kc_1 ?_
  obtain ⟨c1, hc1, h⟩ := ob h
  refine mc_S (As := [.int v0, .int (0 : Int32), .int (1 : Int32)]) (rest := []) C hJ (metM_in l σ v0 (0 : Int32) (1 : Int32) c1 hc1) (va_cwS 3 hts (lw_S q1365 q1366 q118 q1367) rfl rfl rfl hdM_in ⟨Nat.le_of_ble_eq_true rfl, Nat.le_of_ble_eq_true rfl⟩) rfl hl.1 rfl (lv_room (Nat.le_of_ble_eq_true rfl)) dX6_isText_3 (fun H locs hJ => ?_)
  have h := Option.some.inj h
  subst h
  exact hE _ _ _ _ (some (.int c1)) hJ ⟨_, rfl⟩ rfl dX6_isText_6
def M_isHour (σ : MM) (v0 : Int32) : Option (Int32) :=
  (M_in σ v0 (0 : Int32) (19 : Int32)).bind fun c1 =>
  some (bz c1)
theorem hdM_isHour : yX6_isHour.cls ≠ "java/lang/invoke/MethodHandle" ∧ yX6_isHour.cls ≠ "java/lang/invoke/VarHandle" ∧ (parseMethodDescriptor yX6_isHour.desc).map (fun d => d.parameters.length) = some 1 := by decide +kernel
set_option maxHeartbeats 4000000 in
theorem metM_isHour (l : Launch) (σ : MM) (v0 : Int32) (res : Int32) (h : M_isHour σ v0 = some res) : MetM l yX6_isHour cX6_isHour 1 (some .boolean) 2 (fun K => [.int v0]) σ (some (.int res)) σ := by
  refine met_walk rfl (by simp [mRt]) (fun _ => Nat.le_of_ble_eq_true rfl) (fun K p e s m args below meth c Q C hE ls hl hJ => ?_)
  have hx := C.1.1
  have hb := C.1.2.1
  have hown := C.1.2.2.2.1
  have hts := C.1.2.2.2.2
  have hl : lv_has ls 1 [(0, .int v0)] := hl
  unfold M_isHour at h
  refine lv_iload_n hx hb dX6_isHour_0 rfl (lv_at hl 0 rfl) ?_
  refine lv_iconst hx hb dX6_isHour_1 kc_0 ?_
  refine lv_bipush hx hb dX6_isHour_2 kb_19 ?_
  obtain ⟨c1, hc1, h⟩ := ob h
  refine mc_S (As := [.int v0, .int (0 : Int32), .int (19 : Int32)]) (rest := []) C hJ (metM_in l σ v0 (0 : Int32) (19 : Int32) c1 hc1) (va_cwS 3 hts (lw_S q1365 q1366 q118 q1367) rfl rfl rfl hdM_in ⟨Nat.le_of_ble_eq_true rfl, Nat.le_of_ble_eq_true rfl⟩) rfl hl.1 rfl (lv_room (Nat.le_of_ble_eq_true rfl)) dX6_isHour_4 (fun H locs hJ => ?_)
  have h := Option.some.inj h
  subst h
  exact hE _ _ _ _ (some (.int c1)) hJ ⟨_, rfl⟩ rfl dX6_isHour_7
def M_isPlace (σ : MM) (v0 : Int32) : Option (Int32) :=
  (M_in σ v0 (0 : Int32) (11 : Int32)).bind fun c1 =>
  some (bz c1)
theorem hdM_isPlace : yX6_isPlace.cls ≠ "java/lang/invoke/MethodHandle" ∧ yX6_isPlace.cls ≠ "java/lang/invoke/VarHandle" ∧ (parseMethodDescriptor yX6_isPlace.desc).map (fun d => d.parameters.length) = some 1 := by decide +kernel
set_option maxHeartbeats 4000000 in
theorem metM_isPlace (l : Launch) (σ : MM) (v0 : Int32) (res : Int32) (h : M_isPlace σ v0 = some res) : MetM l yX6_isPlace cX6_isPlace 1 (some .boolean) 2 (fun K => [.int v0]) σ (some (.int res)) σ := by
  refine met_walk rfl (by simp [mRt]) (fun _ => Nat.le_of_ble_eq_true rfl) (fun K p e s m args below meth c Q C hE ls hl hJ => ?_)
  have hx := C.1.1
  have hb := C.1.2.1
  have hown := C.1.2.2.2.1
  have hts := C.1.2.2.2.2
  have hl : lv_has ls 1 [(0, .int v0)] := hl
  unfold M_isPlace at h
  refine lv_iload_n hx hb dX6_isPlace_0 rfl (lv_at hl 0 rfl) ?_
  refine lv_iconst hx hb dX6_isPlace_1 kc_0 ?_
  refine lv_bipush hx hb dX6_isPlace_2 kb_11 ?_
  obtain ⟨c1, hc1, h⟩ := ob h
  refine mc_S (As := [.int v0, .int (0 : Int32), .int (11 : Int32)]) (rest := []) C hJ (metM_in l σ v0 (0 : Int32) (11 : Int32) c1 hc1) (va_cwS 3 hts (lw_S q1365 q1366 q118 q1367) rfl rfl rfl hdM_in ⟨Nat.le_of_ble_eq_true rfl, Nat.le_of_ble_eq_true rfl⟩) rfl hl.1 rfl (lv_room (Nat.le_of_ble_eq_true rfl)) dX6_isPlace_4 (fun H locs hJ => ?_)
  have h := Option.some.inj h
  subst h
  exact hE _ _ _ _ (some (.int c1)) hJ ⟨_, rfl⟩ rfl dX6_isPlace_7
def M_readsStone (σ : MM) : Option (Int32 × MM) :=
  (mpf σ 2 (0 : Int32)).bind fun σ1 =>
  (lp (S := Int32 × MM) (T := MM) (fun w2 =>
    if (12 : Int32) ≤ w2.1 then
        some (.inr w2.2)
      else
        (mst w2.2 3 w2.1 (5 : Int32)).bind fun σ5 =>
        some (.inl ((w2.1 + 1), σ5))) 2000 ((0 : Int32), σ1)).bind fun q3 =>
  (lp (S := Int32) (T := (Unit) ⊕ (Int32 × MM)) (fun w6 =>
    (mld q3 0 (0 : Int32)).bind fun x8 =>
      if x8 ≤ w6 then
        some (.inr (.inl ()))
      else
        (mld q3 1 w6).bind fun x10 =>
        (M_in q3 x10 (48 : Int32) (57 : Int32)).bind fun c11 =>
        if c11 = 0 then
          some (.inr (.inr (w6, q3)))
        else
          some (.inl (w6 + 1))) 2000 (0 : Int32)).bind fun q7 =>
  lpo q7 (fun q7' =>
    (lp (S := Int32 × MM) (T := MM) (fun w13 =>
      (mld w13.2 0 (0 : Int32)).bind fun x15 =>
        if x15 ≤ w13.1 then
          some (.inr w13.2)
        else
          (mld w13.2 1 w13.1).bind fun x17 =>
          (mst w13.2 3 w13.1 (x17 - (48 : Int32))).bind fun σ18 =>
          some (.inl ((w13.1 + 1), σ18))) 2000 ((0 : Int32), q3)).bind fun q14 =>
    (mld q14 0 (0 : Int32)).bind fun x19 =>
    (mpf q14 2 x19).bind fun σ20 =>
    some ((-1 : Int32), σ20)) (fun r => some r)
theorem hdM_readsStone : yX6_readsStone.cls = RX6 ∧ yX6_readsStone.cls ≠ "java/lang/invoke/MethodHandle" ∧ yX6_readsStone.cls ≠ "java/lang/invoke/VarHandle" ∧ (parseMethodDescriptor yX6_readsStone.desc).map (fun d => d.parameters.length) = some 0 := by decide +kernel
set_option maxHeartbeats 4000000 in
theorem metM_readsStone (l : Launch) (σ : MM) (res : Int32 × MM) (h : M_readsStone σ = some res) : MetM l yX6_readsStone cX6_readsStone 2 (some .int) 2 (fun K => [.ref (kO K)]) σ (some (.int res.1)) res.2 := by
  refine met_walk rfl (by simp [mRt]) (fun _ => Nat.le_of_ble_eq_true rfl) (fun K p e s m args below meth c Q C hE ls hl hJ => ?_)
  have hx := C.1.1
  have hb := C.1.2.1
  have hown := C.1.2.2.2.1
  have hts := C.1.2.2.2.2
  have hl : lv_has ls 2 [(0, .ref (kO K))] := hl
  unfold M_readsStone at h
  refine lv_aload_n hx hb dX6_readsStone_0 rfl (lv_at hl 0 rfl) ?_
  refine lv_iconst hx hb dX6_readsStone_1 kc_0 ?_
  obtain ⟨σ1, hσ1, h⟩ := ob h
  refine my_pi C hJ 2 (Nat.le_of_ble_eq_true rfl) rfl rfl rfl lk2 hσ1 dX6_readsStone_2 (fun H locs hJ => ?_)
  refine lv_iconst hx hb dX6_readsStone_5 kc_0 ?_
  refine lv_istore_n (lv' := [(1, .int (0 : Int32)), (0, .ref (kO K))]) hx hb dX6_readsStone_6 rfl hl (Nat.le_of_ble_eq_true rfl) rfl (fun ls hl => ?_)
  obtain ⟨q3, hq3, h⟩ := ob h
  have hxq3 : ∀ (H : Heap) (locs : List Loc) (ls : Array Slot), MJ K q3 s.heap H locs → lv_has ls 2 [(0, .ref (kO K))] → W p l e (rmd 2) s m args below meth c H locs 0 0 Q (F0 m 26 ls []) := by
    intro H locs ls hJ hl
    refine lv_iconst hx hb dX6_readsStone_26 kc_0 ?_
    refine lv_istore_n (lv' := [(1, .int (0 : Int32)), (0, .ref (kO K))]) hx hb dX6_readsStone_27 rfl hl (Nat.le_of_ble_eq_true rfl) rfl (fun ls hl => ?_)
    obtain ⟨q7, hq7, h⟩ := ob h
    have hxq7 : ∀ q7', q7 = .inl q7' → ∀ (H : Heap) (locs : List Loc) (ls : Array Slot), MJ K q3 s.heap H locs → lv_has ls 2 [(0, .ref (kO K))] → W p l e (rmd 2) s m args below meth c H locs 0 0 Q (F0 m 62 ls []) := by
      intro q7' heq7
      subst heq7
      have h := lpo_l h
      intro H locs ls hJ hl
      refine lv_iconst hx hb dX6_readsStone_62 kc_0 ?_
      refine lv_istore_n (lv' := [(1, .int (0 : Int32)), (0, .ref (kO K))]) hx hb dX6_readsStone_63 rfl hl (Nat.le_of_ble_eq_true rfl) rfl (fun ls hl => ?_)
      obtain ⟨q14, hq14, h⟩ := ob h
      have hxq14 : ∀ (H : Heap) (locs : List Loc) (ls : Array Slot), MJ K q14 s.heap H locs → lv_has ls 2 [(0, .ref (kO K))] → W p l e (rmd 2) s m args below meth c H locs 0 0 Q (F0 m 95 ls []) := by
        intro H locs ls hJ hl
        refine lv_aload_n hx hb dX6_readsStone_95 rfl (lv_at hl 0 rfl) ?_
        refine lv_aload_n hx hb dX6_readsStone_96 rfl (lv_at hl 0 rfl) ?_
        refine mx_ga C hJ 0 (Nat.le_of_ble_eq_true rfl) rfl lk0 dX6_readsStone_97 ?_
        refine lv_iconst hx hb dX6_readsStone_100 kc_0 ?_
        obtain ⟨x19, hx19, h⟩ := ob h
        refine my_il C hJ 0 rfl hx19 dX6_readsStone_101 ?_
        obtain ⟨σ20, hσ20, h⟩ := ob h
        refine my_pi C hJ 2 (Nat.le_of_ble_eq_true rfl) rfl rfl rfl lk2 hσ20 dX6_readsStone_102 (fun H locs hJ => ?_)
        refine lv_iconst hx hb dX6_readsStone_105 kc_m1 ?_
        have h := Option.some.inj h
        subst h
        exact hE _ _ _ _ (some (.int ((-1 : Int32)))) hJ ⟨_, rfl⟩ rfl dX6_readsStone_106
      refine lp_ind (P := fun (w13 : Int32 × MM) => ∀ (H : Heap) (locs : List Loc) (ls : Array Slot), MJ K w13.2 s.heap H locs → lv_has ls 2 [(0, .ref (kO K)), (1, .int w13.1)] → W p l e (rmd 2) s m args below meth c H locs 0 0 Q (F0 m 64 ls [])) ?_ _ _ hq14 _ _ _ hJ (lv_sub hl [1, 0] rfl)
      intro nw13 w13 ihw13 zw13 hzw13 hqw13 H locs ls hJ hl
      refine lv_iload_n hx hb dX6_readsStone_64 rfl (lv_at hl 1 rfl) ?_
      refine lv_aload_n hx hb dX6_readsStone_65 rfl (lv_at hl 0 rfl) ?_
      refine mx_ga C hJ 0 (Nat.le_of_ble_eq_true rfl) rfl lk0 dX6_readsStone_66 ?_
      refine lv_iconst hx hb dX6_readsStone_69 kc_0 ?_
      obtain ⟨x15, hx15, hzw13⟩ := ob hzw13
      refine my_il C hJ 0 rfl hx15 dX6_readsStone_70 ?_
      refine lv_icmp_ge (tgt := 95) hx hb dX6_readsStone_71 (by decide) (fun hc16 => ?_) (fun hc16 => ?_)
      · have hzw13 := ip hzw13 hc16
        have hzw13 := Option.some.inj hzw13
        subst hzw13
        have hqw13 : _ = q14 := hqw13
        subst hqw13
        exact hxq14 _ _ _ hJ (lv_sub hl [0] rfl)
      · have hzw13 := im hzw13 hc16
        refine lv_aload_n hx hb dX6_readsStone_74 rfl (lv_at hl 0 rfl) ?_
        refine mx_ga C hJ 3 (Nat.le_of_ble_eq_true rfl) rfl lk3 dX6_readsStone_75 ?_
        refine lv_iload_n hx hb dX6_readsStone_78 rfl (lv_at hl 1 rfl) ?_
        refine lv_aload_n hx hb dX6_readsStone_79 rfl (lv_at hl 0 rfl) ?_
        refine mx_ga C hJ 1 (Nat.le_of_ble_eq_true rfl) rfl lk1 dX6_readsStone_80 ?_
        refine lv_iload_n hx hb dX6_readsStone_83 rfl (lv_at hl 1 rfl) ?_
        obtain ⟨x17, hx17, hzw13⟩ := ob hzw13
        refine my_il C hJ 1 rfl hx17 dX6_readsStone_84 ?_
        refine lv_bipush hx hb dX6_readsStone_85 kb_48 ?_
        refine lv_isub hx hb dX6_readsStone_87 ?_
        obtain ⟨σ18, hσ18, hzw13⟩ := ob hzw13
        refine my_is C hJ 3 rfl hσ18 dX6_readsStone_88 (fun H locs hJ => ?_)
        refine lv_iinc (v := (w13.1 + 1)) (lv' := [(1, .int (w13.1 + 1)), (0, .ref (kO K))]) hx hb dX6_readsStone_89 hl (k := 1) rfl rfl (Nat.le_of_ble_eq_true rfl) rfl (fun ls hl => ?_)
        refine lv_goto (tgt := 64) hx hb dX6_readsStone_92 (by decide) ?_
        have hzw13 := Option.some.inj hzw13
        subst hzw13
        exact ihw13 _ hqw13 _ _ _ hJ (lv_sub hl [1, 0] rfl)
    refine lp_ind (P := fun (w6 : Int32) => ∀ (H : Heap) (locs : List Loc) (ls : Array Slot), MJ K q3 s.heap H locs → lv_has ls 2 [(0, .ref (kO K)), (1, .int w6)] → W p l e (rmd 2) s m args below meth c H locs 0 0 Q (F0 m 28 ls [])) ?_ _ _ hq7 _ _ _ hJ (lv_sub hl [1, 0] rfl)
    intro nw6 w6 ihw6 zw6 hzw6 hqw6 H locs ls hJ hl
    refine lv_iload_n hx hb dX6_readsStone_28 rfl (lv_at hl 1 rfl) ?_
    refine lv_aload_n hx hb dX6_readsStone_29 rfl (lv_at hl 0 rfl) ?_
    refine mx_ga C hJ 0 (Nat.le_of_ble_eq_true rfl) rfl lk0 dX6_readsStone_30 ?_
    refine lv_iconst hx hb dX6_readsStone_33 kc_0 ?_
    obtain ⟨x8, hx8, hzw6⟩ := ob hzw6
    refine my_il C hJ 0 rfl hx8 dX6_readsStone_34 ?_
    refine lv_icmp_ge (tgt := 62) hx hb dX6_readsStone_35 (by decide) (fun hc9 => ?_) (fun hc9 => ?_)
    · have hzw6 := ip hzw6 hc9
      have hzw6 := Option.some.inj hzw6
      subst hzw6
      have hqw6 : _ = q7 := hqw6
      subst hqw6
      exact hxq7 _ rfl _ _ _ hJ (lv_sub hl [0] rfl)
    · have hzw6 := im hzw6 hc9
      refine lv_aload_n hx hb dX6_readsStone_38 rfl (lv_at hl 0 rfl) ?_
      refine mx_ga C hJ 1 (Nat.le_of_ble_eq_true rfl) rfl lk1 dX6_readsStone_39 ?_
      refine lv_iload_n hx hb dX6_readsStone_42 rfl (lv_at hl 1 rfl) ?_
      obtain ⟨x10, hx10, hzw6⟩ := ob hzw6
      refine my_il C hJ 1 rfl hx10 dX6_readsStone_43 ?_
      refine lv_bipush hx hb dX6_readsStone_44 kb_48 ?_
      refine lv_bipush hx hb dX6_readsStone_46 kb_57 ?_
      obtain ⟨c11, hc11, hzw6⟩ := ob hzw6
      refine mc_S (As := [.int x10, .int (48 : Int32), .int (57 : Int32)]) (rest := []) C hJ (metM_in l q3 x10 (48 : Int32) (57 : Int32) c11 hc11) (va_cwS 3 hts (lw_S q1365 q1366 q118 q1367) rfl rfl rfl hdM_in ⟨Nat.le_of_ble_eq_true rfl, Nat.le_of_ble_eq_true rfl⟩) rfl hl.1 rfl (lv_room (Nat.le_of_ble_eq_true rfl)) dX6_readsStone_48 (fun H locs hJ => ?_)
      refine lv_if_ne (tgt := 56) hx hb dX6_readsStone_51 (by decide) (fun hc12 => ?_) (fun hc12 => ?_)
      · have hzw6 := im hzw6 hc12
        refine lv_iinc (v := (w6 + 1)) (lv' := [(1, .int (w6 + 1)), (0, .ref (kO K))]) hx hb dX6_readsStone_56 hl (k := 1) rfl rfl (Nat.le_of_ble_eq_true rfl) rfl (fun ls hl => ?_)
        refine lv_goto (tgt := 28) hx hb dX6_readsStone_59 (by decide) ?_
        have hzw6 := Option.some.inj hzw6
        subst hzw6
        exact ihw6 _ hqw6 _ _ _ hJ (lv_sub hl [1, 0] rfl)
      · have hzw6 := ip hzw6 hc12
        refine lv_iload_n hx hb dX6_readsStone_54 rfl (lv_at hl 1 rfl) ?_
        have hzw6 := Option.some.inj hzw6
        subst hzw6
        have hqw6 : _ = q7 := hqw6
        subst hqw6
        have h := lpo_r h
        have h := Option.some.inj h
        subst h
        exact hE _ _ _ _ (some (.int (w6))) hJ ⟨_, rfl⟩ rfl dX6_readsStone_55
  refine lp_ind (P := fun (w2 : Int32 × MM) => ∀ (H : Heap) (locs : List Loc) (ls : Array Slot), MJ K w2.2 s.heap H locs → lv_has ls 2 [(0, .ref (kO K)), (1, .int w2.1)] → W p l e (rmd 2) s m args below meth c H locs 0 0 Q (F0 m 7 ls [])) ?_ _ _ hq3 _ _ _ hJ (lv_sub hl [1, 0] rfl)
  intro nw2 w2 ihw2 zw2 hzw2 hqw2 H locs ls hJ hl
  refine lv_iload_n hx hb dX6_readsStone_7 rfl (lv_at hl 1 rfl) ?_
  refine lv_bipush hx hb dX6_readsStone_8 kb_12 ?_
  refine lv_icmp_ge (tgt := 26) hx hb dX6_readsStone_10 (by decide) (fun hc4 => ?_) (fun hc4 => ?_)
  · have hzw2 := ip hzw2 hc4
    have hzw2 := Option.some.inj hzw2
    subst hzw2
    have hqw2 : _ = q3 := hqw2
    subst hqw2
    exact hxq3 _ _ _ hJ (lv_sub hl [0] rfl)
  · have hzw2 := im hzw2 hc4
    refine lv_aload_n hx hb dX6_readsStone_13 rfl (lv_at hl 0 rfl) ?_
    refine mx_ga C hJ 3 (Nat.le_of_ble_eq_true rfl) rfl lk3 dX6_readsStone_14 ?_
    refine lv_iload_n hx hb dX6_readsStone_17 rfl (lv_at hl 1 rfl) ?_
    refine lv_iconst hx hb dX6_readsStone_18 kc_5 ?_
    obtain ⟨σ5, hσ5, hzw2⟩ := ob hzw2
    refine my_is C hJ 3 rfl hσ5 dX6_readsStone_19 (fun H locs hJ => ?_)
    refine lv_iinc (v := (w2.1 + 1)) (lv' := [(1, .int (w2.1 + 1)), (0, .ref (kO K))]) hx hb dX6_readsStone_20 hl (k := 1) rfl rfl (Nat.le_of_ble_eq_true rfl) rfl (fun ls hl => ?_)
    refine lv_goto (tgt := 7) hx hb dX6_readsStone_23 (by decide) ?_
    have hzw2 := Option.some.inj hzw2
    subst hzw2
    exact ihw2 _ hqw2 _ _ _ hJ (lv_sub hl [1, 0] rfl)
def M_sortAt (σ : MM) (v1 : Int32) : Option (Int32) :=
  (M_byteAt σ v1).bind fun c1 =>
  if c1 = (112 : Int32) then
    some (0 : Int32)
  else
    if c1 = (103 : Int32) then
      some (1 : Int32)
    else
      if c1 = (111 : Int32) then
        some (2 : Int32)
      else
        some (-1 : Int32)
theorem hdM_sortAt : yX6_sortAt.cls = RX6 ∧ yX6_sortAt.cls ≠ "java/lang/invoke/MethodHandle" ∧ yX6_sortAt.cls ≠ "java/lang/invoke/VarHandle" ∧ (parseMethodDescriptor yX6_sortAt.desc).map (fun d => d.parameters.length) = some 1 := by decide +kernel
set_option maxHeartbeats 4000000 in
theorem metM_sortAt (l : Launch) (σ : MM) (v1 : Int32) (res : Int32) (h : M_sortAt σ v1 = some res) : MetM l yX6_sortAt cX6_sortAt 3 (some .int) 2 (fun K => [.ref (kO K), .int v1]) σ (some (.int res)) σ := by
  refine met_walk rfl (by simp [mRt]) (fun _ => Nat.le_of_ble_eq_true rfl) (fun K p e s m args below meth c Q C hE ls hl hJ => ?_)
  have hx := C.1.1
  have hb := C.1.2.1
  have hown := C.1.2.2.2.1
  have hts := C.1.2.2.2.2
  have hl : lv_has ls 3 [(0, .ref (kO K)), (1, .int v1)] := hl
  unfold M_sortAt at h
  refine lv_aload_n hx hb dX6_sortAt_0 rfl (lv_at hl 0 rfl) ?_
  refine lv_iload_n hx hb dX6_sortAt_1 rfl (lv_at hl 1 rfl) ?_
  obtain ⟨c1, hc1, h⟩ := ob h
  refine mc_V (As := [.int v1]) (rest := []) C hJ (metM_byteAt l σ v1 c1 hc1) (cwV 1 hts (lw_V q1400 q1402 qs56 q118 q1403) rfl rfl rfl hdM_byteAt ⟨Nat.le_of_ble_eq_true rfl, Nat.le_of_ble_eq_true rfl⟩) rfl hl.1 rfl (lv_room (Nat.le_of_ble_eq_true rfl)) dX6_sortAt_2 (fun H locs hJ => ?_)
  refine lv_istore_n (lv' := [(2, .int c1), (0, .ref (kO K)), (1, .int v1)]) hx hb dX6_sortAt_5 rfl hl (Nat.le_of_ble_eq_true rfl) rfl (fun ls hl => ?_)
  refine lv_iload_n hx hb dX6_sortAt_6 rfl (lv_at hl 0 rfl) ?_
  refine lv_bipush hx hb dX6_sortAt_7 kb_112 ?_
  refine lv_icmp_ne (tgt := 16) hx hb dX6_sortAt_9 (by decide) (fun hc2 => ?_) (fun hc2 => ?_)
  · have h := im h hc2
    refine lv_iload_n hx hb dX6_sortAt_16 rfl (lv_at hl 0 rfl) ?_
    refine lv_bipush hx hb dX6_sortAt_17 kb_103 ?_
    refine lv_icmp_ne (tgt := 26) hx hb dX6_sortAt_19 (by decide) (fun hc3 => ?_) (fun hc3 => ?_)
    · have h := im h hc3
      refine lv_iload_n hx hb dX6_sortAt_26 rfl (lv_at hl 0 rfl) ?_
      refine lv_bipush hx hb dX6_sortAt_27 kb_111 ?_
      refine lv_icmp_ne (tgt := 36) hx hb dX6_sortAt_29 (by decide) (fun hc4 => ?_) (fun hc4 => ?_)
      · have h := im h hc4
        refine lv_iconst hx hb dX6_sortAt_36 kc_m1 ?_
        have h := Option.some.inj h
        subst h
        exact hE _ _ _ _ (some (.int ((-1 : Int32)))) hJ ⟨_, rfl⟩ rfl dX6_sortAt_37
      · have h := ip h hc4
        refine lv_iconst hx hb dX6_sortAt_32 kc_2 ?_
        refine lv_goto (tgt := 37) hx hb dX6_sortAt_33 (by decide) ?_
        have h := Option.some.inj h
        subst h
        exact hE _ _ _ _ (some (.int ((2 : Int32)))) hJ ⟨_, rfl⟩ rfl dX6_sortAt_37
    · have h := ip h hc3
      refine lv_iconst hx hb dX6_sortAt_22 kc_1 ?_
      refine lv_goto (tgt := 37) hx hb dX6_sortAt_23 (by decide) ?_
      have h := Option.some.inj h
      subst h
      exact hE _ _ _ _ (some (.int ((1 : Int32)))) hJ ⟨_, rfl⟩ rfl dX6_sortAt_37
  · have h := ip h hc2
    refine lv_iconst hx hb dX6_sortAt_12 kc_0 ?_
    refine lv_goto (tgt := 37) hx hb dX6_sortAt_13 (by decide) ?_
    have h := Option.some.inj h
    subst h
    exact hE _ _ _ _ (some (.int ((0 : Int32)))) hJ ⟨_, rfl⟩ rfl dX6_sortAt_37
def M_befalls (σ : MM) (v1 : Int32) : Option (MM) :=
  (mld σ 13 v1).bind fun x1 =>
  (if x1 = 0 then
      (mld σ 14 v1).bind fun x3 =>
      (M_lifts σ x3).bind fun c4 =>
      some c4
    else
      some σ : Option (MM)).bind fun q5 =>
  (if x1 = (1 : Int32) then
      (mld q5 15 v1).bind fun x7 =>
      (M_peppers q5 x7).bind fun c8 =>
      some c8
    else
      some q5 : Option (MM)).bind fun q9 =>
  if x1 ≤ (1 : Int32) then
    some q9
  else
    (if x1 = (2 : Int32) then
        some (-2 : Int32)
      else
        some (3 : Int32) : Option (Int32)).bind fun q12 =>
    (M_wets q9 q12).bind fun c13 =>
    some c13
theorem hdM_befalls : yX6_befalls.cls = RX6 ∧ yX6_befalls.cls ≠ "java/lang/invoke/MethodHandle" ∧ yX6_befalls.cls ≠ "java/lang/invoke/VarHandle" ∧ (parseMethodDescriptor yX6_befalls.desc).map (fun d => d.parameters.length) = some 1 := by decide +kernel
set_option maxHeartbeats 4000000 in
theorem metM_befalls (l : Launch) (σ : MM) (v1 : Int32) (res : MM) (h : M_befalls σ v1 = some res) : MetM l yX6_befalls cX6_befalls 3 none 2 (fun K => [.ref (kO K), .int v1]) σ none res := by
  refine met_walk rfl (by simp [mRt]) (fun _ => Nat.le_of_ble_eq_true rfl) (fun K p e s m args below meth c Q C hE ls hl hJ => ?_)
  have hx := C.1.1
  have hb := C.1.2.1
  have hown := C.1.2.2.2.1
  have hts := C.1.2.2.2.2
  have hl : lv_has ls 3 [(0, .ref (kO K)), (1, .int v1)] := hl
  unfold M_befalls at h
  refine lv_aload_n hx hb dX6_befalls_0 rfl (lv_at hl 0 rfl) ?_
  refine mx_ga C hJ 13 (Nat.le_of_ble_eq_true rfl) rfl lk13 dX6_befalls_1 ?_
  refine lv_iload_n hx hb dX6_befalls_4 rfl (lv_at hl 1 rfl) ?_
  obtain ⟨x1, hx1, h⟩ := ob h
  refine my_il C hJ 13 rfl hx1 dX6_befalls_5 ?_
  refine lv_istore_n (lv' := [(2, .int x1), (0, .ref (kO K)), (1, .int v1)]) hx hb dX6_befalls_6 rfl hl (Nat.le_of_ble_eq_true rfl) rfl (fun ls hl => ?_)
  refine lv_iload_n hx hb dX6_befalls_7 rfl (lv_at hl 0 rfl) ?_
  obtain ⟨q5, hq5, h⟩ := ob h
  have hjq5 : ∀ (H : Heap) (locs : List Loc) (ls : Array Slot), MJ K q5 s.heap H locs → lv_has ls 3 [(0, .ref (kO K)), (1, .int v1), (2, .int x1)] → W p l e (rmd 2) s m args below meth c H locs 0 0 Q (F0 m 21 ls []) := by
    intro H locs ls hJ hl
    refine lv_iload_n hx hb dX6_befalls_21 rfl (lv_at hl 2 rfl) ?_
    refine lv_iconst hx hb dX6_befalls_22 kc_1 ?_
    obtain ⟨q9, hq9, h⟩ := ob h
    have hjq9 : ∀ (H : Heap) (locs : List Loc) (ls : Array Slot), MJ K q9 s.heap H locs → lv_has ls 3 [(0, .ref (kO K)), (2, .int x1)] → W p l e (rmd 2) s m args below meth c H locs 0 0 Q (F0 m 36 ls []) := by
      intro H locs ls hJ hl
      refine lv_iload_n hx hb dX6_befalls_36 rfl (lv_at hl 1 rfl) ?_
      refine lv_iconst hx hb dX6_befalls_37 kc_1 ?_
      refine lv_icmp_le (tgt := 56) hx hb dX6_befalls_38 (by decide) (fun hc10 => ?_) (fun hc10 => ?_)
      · have h := ip h hc10
        have h := Option.some.inj h
        subst h
        exact hE _ _ _ _ none hJ rfl rfl dX6_befalls_56
      · have h := im h hc10
        refine lv_aload_n hx hb dX6_befalls_41 rfl (lv_at hl 0 rfl) ?_
        refine lv_iload_n hx hb dX6_befalls_42 rfl (lv_at hl 1 rfl) ?_
        refine lv_iconst hx hb dX6_befalls_43 kc_2 ?_
        obtain ⟨q12, hq12, h⟩ := ob h
        have hjq12 : ∀ (H : Heap) (locs : List Loc) (ls : Array Slot), MJ K q9 s.heap H locs → lv_has ls 3 [] → W p l e (rmd 2) s m args below meth c H locs 0 0 Q (F0 m 53 ls [.int q12, .ref (kO K)]) := by
          intro H locs ls hJ hl
          obtain ⟨c13, hc13, h⟩ := ob h
          refine mc_V (As := [.int q12]) (rest := []) C hJ (metM_wets l q9 q12 c13 hc13) (cwV 1 hts (lw_V q1493 q1495 qs70 q118 q1496) rfl rfl rfl hdM_wets ⟨Nat.le_of_ble_eq_true rfl, Nat.le_of_ble_eq_true rfl⟩) rfl hl.1 rfl (lv_room (Nat.le_of_ble_eq_true rfl)) dX6_befalls_53 (fun H locs hJ => ?_)
          have h := Option.some.inj h
          subst h
          exact hE _ _ _ _ none hJ rfl rfl dX6_befalls_56
        refine lv_icmp_ne (tgt := 52) hx hb dX6_befalls_44 (by decide) (fun hc11 => ?_) (fun hc11 => ?_)
        · have hq12 := im hq12 hc11
          refine lv_iconst hx hb dX6_befalls_52 kc_3 ?_
          have hq12 := Option.some.inj hq12
          subst hq12
          exact hjq12 _ _ _ hJ (lv_sub hl [] rfl)
        · have hq12 := ip hq12 hc11
          refine lv_bipush hx hb dX6_befalls_47 kb_m2 ?_
          refine lv_goto (tgt := 53) hx hb dX6_befalls_49 (by decide) ?_
          have hq12 := Option.some.inj hq12
          subst hq12
          exact hjq12 _ _ _ hJ (lv_sub hl [] rfl)
    refine lv_icmp_ne (tgt := 36) hx hb dX6_befalls_23 (by decide) (fun hc6 => ?_) (fun hc6 => ?_)
    · have hq9 := im hq9 hc6
      have hq9 := Option.some.inj hq9
      subst hq9
      exact hjq9 _ _ _ hJ (lv_sub hl [0, 2] rfl)
    · have hq9 := ip hq9 hc6
      refine lv_aload_n hx hb dX6_befalls_26 rfl (lv_at hl 0 rfl) ?_
      refine lv_aload_n hx hb dX6_befalls_27 rfl (lv_at hl 0 rfl) ?_
      refine mx_ga C hJ 15 (Nat.le_of_ble_eq_true rfl) rfl lk15 dX6_befalls_28 ?_
      refine lv_iload_n hx hb dX6_befalls_31 rfl (lv_at hl 1 rfl) ?_
      obtain ⟨x7, hx7, hq9⟩ := ob hq9
      refine my_il C hJ 15 rfl hx7 dX6_befalls_32 ?_
      obtain ⟨c8, hc8, hq9⟩ := ob hq9
      refine mc_V (As := [.int x7]) (rest := []) C hJ (metM_peppers l q5 x7 c8 hc8) (cwV 1 hts (lw_V q1489 q1491 qs69 q118 q1492) rfl rfl rfl hdM_peppers ⟨Nat.le_of_ble_eq_true rfl, Nat.le_of_ble_eq_true rfl⟩) rfl hl.1 rfl (lv_room (Nat.le_of_ble_eq_true rfl)) dX6_befalls_33 (fun H locs hJ => ?_)
      have hq9 := Option.some.inj hq9
      subst hq9
      exact hjq9 _ _ _ hJ (lv_sub hl [0, 2] rfl)
  refine lv_if_ne (tgt := 21) hx hb dX6_befalls_8 (by decide) (fun hc2 => ?_) (fun hc2 => ?_)
  · have hq5 := im hq5 hc2
    have hq5 := Option.some.inj hq5
    subst hq5
    exact hjq5 _ _ _ hJ (lv_sub hl [1, 2, 0] rfl)
  · have hq5 := ip hq5 hc2
    refine lv_aload_n hx hb dX6_befalls_11 rfl (lv_at hl 1 rfl) ?_
    refine lv_aload_n hx hb dX6_befalls_12 rfl (lv_at hl 1 rfl) ?_
    refine mx_ga C hJ 14 (Nat.le_of_ble_eq_true rfl) rfl lk14 dX6_befalls_13 ?_
    refine lv_iload_n hx hb dX6_befalls_16 rfl (lv_at hl 2 rfl) ?_
    obtain ⟨x3, hx3, hq5⟩ := ob hq5
    refine my_il C hJ 14 rfl hx3 dX6_befalls_17 ?_
    obtain ⟨c4, hc4, hq5⟩ := ob hq5
    refine mc_V (As := [.int x3]) (rest := []) C hJ (metM_lifts l σ x3 c4 hc4) (cwV 1 hts (lw_V q1485 q1487 qs68 q118 q1488) rfl rfl rfl hdM_lifts ⟨Nat.le_of_ble_eq_true rfl, Nat.le_of_ble_eq_true rfl⟩) rfl hl.1 rfl (lv_room (Nat.le_of_ble_eq_true rfl)) dX6_befalls_18 (fun H locs hJ => ?_)
    have hq5 := Option.some.inj hq5
    subst hq5
    exact hjq5 _ _ _ hJ (lv_sub hl [1, 2, 0] rfl)
def M_passesOver (σ : MM) (v1 : Int32) (v2 : Int32) : Option (MM) :=
  (lp (S := Int32 × Int32) (T := Int32) (fun w1 =>
    if w1.2 < 0 then
        some (.inr w1.1)
      else
        if w1.2 = v1 then
          some (.inl (w1.1, (w1.2 + (-1))))
        else
          (mld σ 18 w1.2).bind fun x5 =>
          (mld σ 18 v1).bind fun x6 =>
          if x5 = x6 then
            (M_isRolled σ w1.2 v2).bind fun c8 =>
            if c8 = 0 then
              some (.inl (w1.2, (w1.2 + (-1))))
            else
              some (.inl (w1.1, (w1.2 + (-1))))
          else
            some (.inl (w1.1, (w1.2 + (-1))))) 2000 ((-1 : Int32), ((σ 4 0) - (1 : Int32)))).bind fun q2 =>
  if q2 = (-1 : Int32) then
    some σ
  else
    (mld σ 19 q2).bind fun x11 =>
    (mst σ 19 q2 ((1 : Int32) - x11)).bind fun σ12 =>
    (mld σ12 21 v1).bind fun x13 =>
    (mst σ12 21 v1 (x13 + (1 : Int32))).bind fun σ14 =>
    some σ14
theorem hdM_passesOver : yX6_passesOver.cls = RX6 ∧ yX6_passesOver.cls ≠ "java/lang/invoke/MethodHandle" ∧ yX6_passesOver.cls ≠ "java/lang/invoke/VarHandle" ∧ (parseMethodDescriptor yX6_passesOver.desc).map (fun d => d.parameters.length) = some 2 := by decide +kernel
set_option maxHeartbeats 4000000 in
theorem metM_passesOver (l : Launch) (σ : MM) (v1 : Int32) (v2 : Int32) (res : MM) (h : M_passesOver σ v1 v2 = some res) : MetM l yX6_passesOver cX6_passesOver 5 none 2 (fun K => [.ref (kO K), .int v1, .int v2]) σ none res := by
  refine met_walk rfl (by simp [mRt]) (fun _ => Nat.le_of_ble_eq_true rfl) (fun K p e s m args below meth c Q C hE ls hl hJ => ?_)
  have hx := C.1.1
  have hb := C.1.2.1
  have hown := C.1.2.2.2.1
  have hts := C.1.2.2.2.2
  have hl : lv_has ls 5 [(0, .ref (kO K)), (1, .int v1), (2, .int v2)] := hl
  unfold M_passesOver at h
  refine lv_iconst hx hb dX6_passesOver_0 kc_m1 ?_
  refine lv_istore_n (lv' := [(3, .int (-1 : Int32)), (0, .ref (kO K)), (1, .int v1), (2, .int v2)]) hx hb dX6_passesOver_1 rfl hl (Nat.le_of_ble_eq_true rfl) rfl (fun ls hl => ?_)
  refine lv_aload_n hx hb dX6_passesOver_2 rfl (lv_at hl 1 rfl) ?_
  refine mx_gi C hJ 4 (Nat.le_of_ble_eq_true rfl) rfl lk4 dX6_passesOver_3 ?_
  refine lv_iconst hx hb dX6_passesOver_6 kc_1 ?_
  refine lv_isub hx hb dX6_passesOver_7 ?_
  refine lv_istore (lv' := [(4, .int ((σ 4 0) - (1 : Int32))), (3, .int (-1 : Int32)), (0, .ref (kO K)), (1, .int v1), (2, .int v2)]) hx hb dX6_passesOver_8 hl (Nat.le_of_ble_eq_true rfl) rfl (fun ls hl => ?_)
  obtain ⟨q2, hq2, h⟩ := ob h
  have hxq2 : ∀ (H : Heap) (locs : List Loc) (ls : Array Slot), MJ K σ s.heap H locs → lv_has ls 5 [(0, .ref (kO K)), (1, .int v1), (3, .int q2)] → W p l e (rmd 2) s m args below meth c H locs 0 0 Q (F0 m 60 ls []) := by
    intro H locs ls hJ hl
    refine lv_iload_n hx hb dX6_passesOver_60 rfl (lv_at hl 2 rfl) ?_
    refine lv_iconst hx hb dX6_passesOver_61 kc_m1 ?_
    refine lv_icmp_eq (tgt := 89) hx hb dX6_passesOver_62 (by decide) (fun hc10 => ?_) (fun hc10 => ?_)
    · have h := ip h hc10
      have h := Option.some.inj h
      subst h
      exact hE _ _ _ _ none hJ rfl rfl dX6_passesOver_89
    · have h := im h hc10
      refine lv_aload_n hx hb dX6_passesOver_65 rfl (lv_at hl 0 rfl) ?_
      refine mx_ga C hJ 19 (Nat.le_of_ble_eq_true rfl) rfl lk19 dX6_passesOver_66 ?_
      refine lv_iload_n hx hb dX6_passesOver_69 rfl (lv_at hl 2 rfl) ?_
      refine lv_iconst hx hb dX6_passesOver_70 kc_1 ?_
      refine lv_aload_n hx hb dX6_passesOver_71 rfl (lv_at hl 0 rfl) ?_
      refine mx_ga C hJ 19 (Nat.le_of_ble_eq_true rfl) rfl lk19 dX6_passesOver_72 ?_
      refine lv_iload_n hx hb dX6_passesOver_75 rfl (lv_at hl 2 rfl) ?_
      obtain ⟨x11, hx11, h⟩ := ob h
      refine my_il C hJ 19 rfl hx11 dX6_passesOver_76 ?_
      refine lv_isub hx hb dX6_passesOver_77 ?_
      obtain ⟨σ12, hσ12, h⟩ := ob h
      refine my_is C hJ 19 rfl hσ12 dX6_passesOver_78 (fun H locs hJ => ?_)
      refine lv_aload_n hx hb dX6_passesOver_79 rfl (lv_at hl 0 rfl) ?_
      refine mx_ga C hJ 21 (Nat.le_of_ble_eq_true rfl) rfl lk21 dX6_passesOver_80 ?_
      refine lv_iload_n hx hb dX6_passesOver_83 rfl (lv_at hl 1 rfl) ?_
      refine lv_dup2_11 hx hb dX6_passesOver_84 rfl rfl ?_
      obtain ⟨x13, hx13, h⟩ := ob h
      refine my_il C hJ 21 rfl hx13 dX6_passesOver_85 ?_
      refine lv_iconst hx hb dX6_passesOver_86 kc_1 ?_
      refine lv_iadd hx hb dX6_passesOver_87 ?_
      obtain ⟨σ14, hσ14, h⟩ := ob h
      refine my_is C hJ 21 rfl hσ14 dX6_passesOver_88 (fun H locs hJ => ?_)
      have h := Option.some.inj h
      subst h
      exact hE _ _ _ _ none hJ rfl rfl dX6_passesOver_89
  refine lp_ind (P := fun (w1 : Int32 × Int32) => ∀ (H : Heap) (locs : List Loc) (ls : Array Slot), MJ K σ s.heap H locs → lv_has ls 5 [(0, .ref (kO K)), (1, .int v1), (2, .int v2), (3, .int w1.1), (4, .int w1.2)] → W p l e (rmd 2) s m args below meth c H locs 0 0 Q (F0 m 10 ls [])) ?_ _ _ hq2 _ _ _ hJ (lv_sub hl [2, 3, 4, 1, 0] rfl)
  intro nw1 w1 ihw1 zw1 hzw1 hqw1 H locs ls hJ hl
  refine lv_iload hx hb dX6_passesOver_10 (lv_at hl 4 rfl) ?_
  refine lv_if_lt (tgt := 60) hx hb dX6_passesOver_12 (by decide) (fun hc3 => ?_) (fun hc3 => ?_)
  · have hzw1 := ip hzw1 hc3
    have hzw1 := Option.some.inj hzw1
    subst hzw1
    have hqw1 : _ = q2 := hqw1
    subst hqw1
    exact hxq2 _ _ _ hJ (lv_sub hl [0, 1, 3] rfl)
  · have hzw1 := im hzw1 hc3
    refine lv_iload hx hb dX6_passesOver_15 (lv_at hl 4 rfl) ?_
    refine lv_iload_n hx hb dX6_passesOver_17 rfl (lv_at hl 1 rfl) ?_
    refine lv_icmp_eq (tgt := 52) hx hb dX6_passesOver_18 (by decide) (fun hc4 => ?_) (fun hc4 => ?_)
    · have hzw1 := ip hzw1 hc4
      refine lv_iload_n hx hb dX6_passesOver_52 rfl (lv_at hl 3 rfl) ?_
      refine lv_istore_n (lv' := [(3, .int w1.1), (0, .ref (kO K)), (1, .int v1), (2, .int v2), (4, .int w1.2)]) hx hb dX6_passesOver_53 rfl hl (Nat.le_of_ble_eq_true rfl) rfl (fun ls hl => ?_)
      refine lv_iinc (v := (w1.2 + (-1))) (lv' := [(4, .int (w1.2 + (-1))), (3, .int w1.1), (0, .ref (kO K)), (1, .int v1), (2, .int v2)]) hx hb dX6_passesOver_54 hl (k := 4) rfl rfl (Nat.le_of_ble_eq_true rfl) rfl (fun ls hl => ?_)
      refine lv_goto (tgt := 10) hx hb dX6_passesOver_57 (by decide) ?_
      have hzw1 := Option.some.inj hzw1
      subst hzw1
      exact ihw1 _ hqw1 _ _ _ hJ (lv_sub hl [2, 3, 4, 1, 0] rfl)
    · have hzw1 := im hzw1 hc4
      refine lv_aload_n hx hb dX6_passesOver_21 rfl (lv_at hl 0 rfl) ?_
      refine mx_ga C hJ 18 (Nat.le_of_ble_eq_true rfl) rfl lk18 dX6_passesOver_22 ?_
      refine lv_iload hx hb dX6_passesOver_25 (lv_at hl 4 rfl) ?_
      obtain ⟨x5, hx5, hzw1⟩ := ob hzw1
      refine my_il C hJ 18 rfl hx5 dX6_passesOver_27 ?_
      refine lv_aload_n hx hb dX6_passesOver_28 rfl (lv_at hl 0 rfl) ?_
      refine mx_ga C hJ 18 (Nat.le_of_ble_eq_true rfl) rfl lk18 dX6_passesOver_29 ?_
      refine lv_iload_n hx hb dX6_passesOver_32 rfl (lv_at hl 1 rfl) ?_
      obtain ⟨x6, hx6, hzw1⟩ := ob hzw1
      refine my_il C hJ 18 rfl hx6 dX6_passesOver_33 ?_
      refine lv_icmp_ne (tgt := 52) hx hb dX6_passesOver_34 (by decide) (fun hc7 => ?_) (fun hc7 => ?_)
      · have hzw1 := im hzw1 hc7
        refine lv_iload_n hx hb dX6_passesOver_52 rfl (lv_at hl 3 rfl) ?_
        refine lv_istore_n (lv' := [(3, .int w1.1), (0, .ref (kO K)), (1, .int v1), (2, .int v2), (4, .int w1.2)]) hx hb dX6_passesOver_53 rfl hl (Nat.le_of_ble_eq_true rfl) rfl (fun ls hl => ?_)
        refine lv_iinc (v := (w1.2 + (-1))) (lv' := [(4, .int (w1.2 + (-1))), (3, .int w1.1), (0, .ref (kO K)), (1, .int v1), (2, .int v2)]) hx hb dX6_passesOver_54 hl (k := 4) rfl rfl (Nat.le_of_ble_eq_true rfl) rfl (fun ls hl => ?_)
        refine lv_goto (tgt := 10) hx hb dX6_passesOver_57 (by decide) ?_
        have hzw1 := Option.some.inj hzw1
        subst hzw1
        exact ihw1 _ hqw1 _ _ _ hJ (lv_sub hl [2, 3, 4, 1, 0] rfl)
      · have hzw1 := ip hzw1 hc7
        refine lv_aload_n hx hb dX6_passesOver_37 rfl (lv_at hl 0 rfl) ?_
        refine lv_iload hx hb dX6_passesOver_38 (lv_at hl 4 rfl) ?_
        refine lv_iload_n hx hb dX6_passesOver_40 rfl (lv_at hl 2 rfl) ?_
        obtain ⟨c8, hc8, hzw1⟩ := ob hzw1
        refine mc_V (As := [.int w1.2, .int v2]) (rest := []) C hJ (metM_isRolled l σ w1.2 v2 c8 hc8) (cwV 2 hts (lw_V q1501 q1503 qs72 q118 q1504) rfl rfl rfl hdM_isRolled ⟨Nat.le_of_ble_eq_true rfl, Nat.le_of_ble_eq_true rfl⟩) rfl hl.1 rfl (lv_room (Nat.le_of_ble_eq_true rfl)) dX6_passesOver_41 (fun H locs hJ => ?_)
        refine lv_if_ne (tgt := 52) hx hb dX6_passesOver_44 (by decide) (fun hc9 => ?_) (fun hc9 => ?_)
        · have hzw1 := im hzw1 hc9
          refine lv_iload_n hx hb dX6_passesOver_52 rfl (lv_at hl 3 rfl) ?_
          refine lv_istore_n (lv' := [(3, .int w1.1), (0, .ref (kO K)), (1, .int v1), (2, .int v2), (4, .int w1.2)]) hx hb dX6_passesOver_53 rfl hl (Nat.le_of_ble_eq_true rfl) rfl (fun ls hl => ?_)
          refine lv_iinc (v := (w1.2 + (-1))) (lv' := [(4, .int (w1.2 + (-1))), (3, .int w1.1), (0, .ref (kO K)), (1, .int v1), (2, .int v2)]) hx hb dX6_passesOver_54 hl (k := 4) rfl rfl (Nat.le_of_ble_eq_true rfl) rfl (fun ls hl => ?_)
          refine lv_goto (tgt := 10) hx hb dX6_passesOver_57 (by decide) ?_
          have hzw1 := Option.some.inj hzw1
          subst hzw1
          exact ihw1 _ hqw1 _ _ _ hJ (lv_sub hl [2, 3, 4, 1, 0] rfl)
        · have hzw1 := ip hzw1 hc9
          refine lv_iload hx hb dX6_passesOver_47 (lv_at hl 4 rfl) ?_
          refine lv_goto (tgt := 53) hx hb dX6_passesOver_49 (by decide) ?_
          refine lv_istore_n (lv' := [(3, .int w1.2), (0, .ref (kO K)), (1, .int v1), (2, .int v2), (4, .int w1.2)]) hx hb dX6_passesOver_53 rfl hl (Nat.le_of_ble_eq_true rfl) rfl (fun ls hl => ?_)
          refine lv_iinc (v := (w1.2 + (-1))) (lv' := [(4, .int (w1.2 + (-1))), (3, .int w1.2), (0, .ref (kO K)), (1, .int v1), (2, .int v2)]) hx hb dX6_passesOver_54 hl (k := 4) rfl rfl (Nat.le_of_ble_eq_true rfl) rfl (fun ls hl => ?_)
          refine lv_goto (tgt := 10) hx hb dX6_passesOver_57 (by decide) ?_
          have hzw1 := Option.some.inj hzw1
          subst hzw1
          exact ihw1 _ hqw1 _ _ _ hJ (lv_sub hl [2, 3, 4, 1, 0] rfl)
def M_divides (σ : MM) (v1 : Int32) : Option (MM) :=
  (mst σ 28 v1 (0 : Int32)).bind fun σ1 =>
  (mst σ1 29 v1 (0 : Int32)).bind fun σ2 =>
  (mst σ2 27 v1 (0 : Int32)).bind fun σ3 =>
  (lp (S := Int32 × MM) (T := MM) (fun w4 =>
    if (w4.2 4 0) ≤ w4.1 then
        some (.inr w4.2)
      else
        (M_isRolled w4.2 w4.1 v1).bind fun c7 =>
        (mld w4.2 27 v1).bind fun x8 =>
        (if c7 = 0 then
            some (0 : Int32)
          else
            some ((1 : Int32) <<< (w4.1 &&& 31)) : Option (Int32)).bind fun q10 =>
        (mst w4.2 27 v1 (x8 ||| q10)).bind fun σ11 =>
        (mld σ11 28 v1).bind fun x12 =>
        (if c7 = 0 then
            (mld σ11 19 w4.1).bind fun x14 =>
            if x14 = (1 : Int32) then
              some (1 : Int32)
            else
              some (0 : Int32)
          else
            some (0 : Int32) : Option (Int32)).bind fun q16 =>
        (mst σ11 28 v1 (x12 + q16)).bind fun σ17 =>
        (mld σ17 29 v1).bind fun x18 =>
        (if c7 = 0 then
            (mld σ17 19 w4.1).bind fun x20 =>
            if x20 = 0 then
              some (1 : Int32)
            else
              some (0 : Int32)
          else
            some (0 : Int32) : Option (Int32)).bind fun q22 =>
        (mst σ17 29 v1 (x18 + q22)).bind fun σ23 =>
        some (.inl ((w4.1 + 1), σ23))) 2000 ((0 : Int32), σ3)).bind fun q5 =>
  some q5
theorem hdM_divides : yX6_divides.cls = RX6 ∧ yX6_divides.cls ≠ "java/lang/invoke/MethodHandle" ∧ yX6_divides.cls ≠ "java/lang/invoke/VarHandle" ∧ (parseMethodDescriptor yX6_divides.desc).map (fun d => d.parameters.length) = some 1 := by decide +kernel
set_option maxHeartbeats 4000000 in
theorem metM_divides (l : Launch) (σ : MM) (v1 : Int32) (res : MM) (h : M_divides σ v1 = some res) : MetM l yX6_divides cX6_divides 4 none 2 (fun K => [.ref (kO K), .int v1]) σ none res := by
  refine met_walk rfl (by simp [mRt]) (fun _ => Nat.le_of_ble_eq_true rfl) (fun K p e s m args below meth c Q C hE ls hl hJ => ?_)
  have hx := C.1.1
  have hb := C.1.2.1
  have hown := C.1.2.2.2.1
  have hts := C.1.2.2.2.2
  have hl : lv_has ls 4 [(0, .ref (kO K)), (1, .int v1)] := hl
  unfold M_divides at h
  refine lv_aload_n hx hb dX6_divides_0 rfl (lv_at hl 0 rfl) ?_
  refine mx_ga C hJ 28 (Nat.le_of_ble_eq_true rfl) rfl lk28 dX6_divides_1 ?_
  refine lv_iload_n hx hb dX6_divides_4 rfl (lv_at hl 1 rfl) ?_
  refine lv_iconst hx hb dX6_divides_5 kc_0 ?_
  obtain ⟨σ1, hσ1, h⟩ := ob h
  refine my_is C hJ 28 rfl hσ1 dX6_divides_6 (fun H locs hJ => ?_)
  refine lv_aload_n hx hb dX6_divides_7 rfl (lv_at hl 0 rfl) ?_
  refine mx_ga C hJ 29 (Nat.le_of_ble_eq_true rfl) rfl lk29 dX6_divides_8 ?_
  refine lv_iload_n hx hb dX6_divides_11 rfl (lv_at hl 1 rfl) ?_
  refine lv_iconst hx hb dX6_divides_12 kc_0 ?_
  obtain ⟨σ2, hσ2, h⟩ := ob h
  refine my_is C hJ 29 rfl hσ2 dX6_divides_13 (fun H locs hJ => ?_)
  refine lv_aload_n hx hb dX6_divides_14 rfl (lv_at hl 0 rfl) ?_
  refine mx_ga C hJ 27 (Nat.le_of_ble_eq_true rfl) rfl lk27 dX6_divides_15 ?_
  refine lv_iload_n hx hb dX6_divides_18 rfl (lv_at hl 1 rfl) ?_
  refine lv_iconst hx hb dX6_divides_19 kc_0 ?_
  obtain ⟨σ3, hσ3, h⟩ := ob h
  refine my_is C hJ 27 rfl hσ3 dX6_divides_20 (fun H locs hJ => ?_)
  refine lv_iconst hx hb dX6_divides_21 kc_0 ?_
  refine lv_istore_n (lv' := [(2, .int (0 : Int32)), (0, .ref (kO K)), (1, .int v1)]) hx hb dX6_divides_22 rfl hl (Nat.le_of_ble_eq_true rfl) rfl (fun ls hl => ?_)
  obtain ⟨q5, hq5, h⟩ := ob h
  have hxq5 : ∀ (H : Heap) (locs : List Loc) (ls : Array Slot), MJ K q5 s.heap H locs → lv_has ls 4 [] → W p l e (rmd 2) s m args below meth c H locs 0 0 Q (F0 m 119 ls []) := by
    intro H locs ls hJ hl
    have h := Option.some.inj h
    subst h
    exact hE _ _ _ _ none hJ rfl rfl dX6_divides_119
  refine lp_ind (P := fun (w4 : Int32 × MM) => ∀ (H : Heap) (locs : List Loc) (ls : Array Slot), MJ K w4.2 s.heap H locs → lv_has ls 4 [(0, .ref (kO K)), (1, .int v1), (2, .int w4.1)] → W p l e (rmd 2) s m args below meth c H locs 0 0 Q (F0 m 23 ls [])) ?_ _ _ hq5 _ _ _ hJ (lv_sub hl [1, 2, 0] rfl)
  intro nw4 w4 ihw4 zw4 hzw4 hqw4 H locs ls hJ hl
  refine lv_iload_n hx hb dX6_divides_23 rfl (lv_at hl 2 rfl) ?_
  refine lv_aload_n hx hb dX6_divides_24 rfl (lv_at hl 0 rfl) ?_
  refine mx_gi C hJ 4 (Nat.le_of_ble_eq_true rfl) rfl lk4 dX6_divides_25 ?_
  refine lv_icmp_ge (tgt := 119) hx hb dX6_divides_28 (by decide) (fun hc6 => ?_) (fun hc6 => ?_)
  · have hzw4 := ip hzw4 hc6
    have hzw4 := Option.some.inj hzw4
    subst hzw4
    have hqw4 : _ = q5 := hqw4
    subst hqw4
    exact hxq5 _ _ _ hJ (lv_sub hl [] rfl)
  · have hzw4 := im hzw4 hc6
    refine lv_aload_n hx hb dX6_divides_31 rfl (lv_at hl 0 rfl) ?_
    refine lv_iload_n hx hb dX6_divides_32 rfl (lv_at hl 2 rfl) ?_
    refine lv_iload_n hx hb dX6_divides_33 rfl (lv_at hl 1 rfl) ?_
    obtain ⟨c7, hc7, hzw4⟩ := ob hzw4
    refine mc_V (As := [.int w4.1, .int v1]) (rest := []) C hJ (metM_isRolled l w4.2 w4.1 v1 c7 hc7) (cwV 2 hts (lw_V q1501 q1503 qs72 q118 q1504) rfl rfl rfl hdM_isRolled ⟨Nat.le_of_ble_eq_true rfl, Nat.le_of_ble_eq_true rfl⟩) rfl hl.1 rfl (lv_room (Nat.le_of_ble_eq_true rfl)) dX6_divides_34 (fun H locs hJ => ?_)
    refine lv_istore_n (lv' := [(3, .int c7), (0, .ref (kO K)), (1, .int v1), (2, .int w4.1)]) hx hb dX6_divides_37 rfl hl (Nat.le_of_ble_eq_true rfl) rfl (fun ls hl => ?_)
    refine lv_aload_n hx hb dX6_divides_38 rfl (lv_at hl 1 rfl) ?_
    refine mx_ga C hJ 27 (Nat.le_of_ble_eq_true rfl) rfl lk27 dX6_divides_39 ?_
    refine lv_iload_n hx hb dX6_divides_42 rfl (lv_at hl 2 rfl) ?_
    refine lv_dup2_11 hx hb dX6_divides_43 rfl rfl ?_
    obtain ⟨x8, hx8, hzw4⟩ := ob hzw4
    refine my_il C hJ 27 rfl hx8 dX6_divides_44 ?_
    refine lv_iload_n hx hb dX6_divides_45 rfl (lv_at hl 0 rfl) ?_
    obtain ⟨q10, hq10, hzw4⟩ := ob hzw4
    have hjq10 : ∀ (H : Heap) (locs : List Loc) (ls : Array Slot), MJ K w4.2 s.heap H locs → lv_has ls 4 [(0, .ref (kO K)), (1, .int v1), (2, .int w4.1), (3, .int c7)] → W p l e (rmd 2) s m args below meth c H locs 0 0 Q (F0 m 56 ls [.int q10, .int x8, .int v1, .ref (kA K 27)]) := by
      intro H locs ls hJ hl
      refine lv_ior hx hb dX6_divides_56 ?_
      obtain ⟨σ11, hσ11, hzw4⟩ := ob hzw4
      refine my_is C hJ 27 rfl hσ11 dX6_divides_57 (fun H locs hJ => ?_)
      refine lv_aload_n hx hb dX6_divides_58 rfl (lv_at hl 0 rfl) ?_
      refine mx_ga C hJ 28 (Nat.le_of_ble_eq_true rfl) rfl lk28 dX6_divides_59 ?_
      refine lv_iload_n hx hb dX6_divides_62 rfl (lv_at hl 1 rfl) ?_
      refine lv_dup2_11 hx hb dX6_divides_63 rfl rfl ?_
      obtain ⟨x12, hx12, hzw4⟩ := ob hzw4
      refine my_il C hJ 28 rfl hx12 dX6_divides_64 ?_
      refine lv_iload_n hx hb dX6_divides_65 rfl (lv_at hl 3 rfl) ?_
      obtain ⟨q16, hq16, hzw4⟩ := ob hzw4
      have hjq16 : ∀ (H : Heap) (locs : List Loc) (ls : Array Slot), MJ K σ11 s.heap H locs → lv_has ls 4 [(0, .ref (kO K)), (1, .int v1), (2, .int w4.1), (3, .int c7)] → W p l e (rmd 2) s m args below meth c H locs 0 0 Q (F0 m 84 ls [.int q16, .int x12, .int v1, .ref (kA K 28)]) := by
        intro H locs ls hJ hl
        refine lv_iadd hx hb dX6_divides_84 ?_
        obtain ⟨σ17, hσ17, hzw4⟩ := ob hzw4
        refine my_is C hJ 28 rfl hσ17 dX6_divides_85 (fun H locs hJ => ?_)
        refine lv_aload_n hx hb dX6_divides_86 rfl (lv_at hl 0 rfl) ?_
        refine mx_ga C hJ 29 (Nat.le_of_ble_eq_true rfl) rfl lk29 dX6_divides_87 ?_
        refine lv_iload_n hx hb dX6_divides_90 rfl (lv_at hl 1 rfl) ?_
        refine lv_dup2_11 hx hb dX6_divides_91 rfl rfl ?_
        obtain ⟨x18, hx18, hzw4⟩ := ob hzw4
        refine my_il C hJ 29 rfl hx18 dX6_divides_92 ?_
        refine lv_iload_n hx hb dX6_divides_93 rfl (lv_at hl 3 rfl) ?_
        obtain ⟨q22, hq22, hzw4⟩ := ob hzw4
        have hjq22 : ∀ (H : Heap) (locs : List Loc) (ls : Array Slot), MJ K σ17 s.heap H locs → lv_has ls 4 [(0, .ref (kO K)), (1, .int v1), (2, .int w4.1)] → W p l e (rmd 2) s m args below meth c H locs 0 0 Q (F0 m 111 ls [.int q22, .int x18, .int v1, .ref (kA K 29)]) := by
          intro H locs ls hJ hl
          refine lv_iadd hx hb dX6_divides_111 ?_
          obtain ⟨σ23, hσ23, hzw4⟩ := ob hzw4
          refine my_is C hJ 29 rfl hσ23 dX6_divides_112 (fun H locs hJ => ?_)
          refine lv_iinc (v := (w4.1 + 1)) (lv' := [(2, .int (w4.1 + 1)), (0, .ref (kO K)), (1, .int v1)]) hx hb dX6_divides_113 hl (k := 2) rfl rfl (Nat.le_of_ble_eq_true rfl) rfl (fun ls hl => ?_)
          refine lv_goto (tgt := 23) hx hb dX6_divides_116 (by decide) ?_
          have hzw4 := Option.some.inj hzw4
          subst hzw4
          exact ihw4 _ hqw4 _ _ _ hJ (lv_sub hl [1, 2, 0] rfl)
        refine lv_if_ne (tgt := 110) hx hb dX6_divides_94 (by decide) (fun hc19 => ?_) (fun hc19 => ?_)
        · have hq22 := im hq22 hc19
          refine lv_iconst hx hb dX6_divides_110 kc_0 ?_
          have hq22 := Option.some.inj hq22
          subst hq22
          exact hjq22 _ _ _ hJ (lv_sub hl [0, 1, 2] rfl)
        · have hq22 := ip hq22 hc19
          refine lv_aload_n hx hb dX6_divides_97 rfl (lv_at hl 0 rfl) ?_
          refine mx_ga C hJ 19 (Nat.le_of_ble_eq_true rfl) rfl lk19 dX6_divides_98 ?_
          refine lv_iload_n hx hb dX6_divides_101 rfl (lv_at hl 2 rfl) ?_
          obtain ⟨x20, hx20, hq22⟩ := ob hq22
          refine my_il C hJ 19 rfl hx20 dX6_divides_102 ?_
          refine lv_if_ne (tgt := 110) hx hb dX6_divides_103 (by decide) (fun hc21 => ?_) (fun hc21 => ?_)
          · have hq22 := im hq22 hc21
            refine lv_iconst hx hb dX6_divides_110 kc_0 ?_
            have hq22 := Option.some.inj hq22
            subst hq22
            exact hjq22 _ _ _ hJ (lv_sub hl [0, 1, 2] rfl)
          · have hq22 := ip hq22 hc21
            refine lv_iconst hx hb dX6_divides_106 kc_1 ?_
            refine lv_goto (tgt := 111) hx hb dX6_divides_107 (by decide) ?_
            have hq22 := Option.some.inj hq22
            subst hq22
            exact hjq22 _ _ _ hJ (lv_sub hl [0, 1, 2] rfl)
      refine lv_if_ne (tgt := 83) hx hb dX6_divides_66 (by decide) (fun hc13 => ?_) (fun hc13 => ?_)
      · have hq16 := im hq16 hc13
        refine lv_iconst hx hb dX6_divides_83 kc_0 ?_
        have hq16 := Option.some.inj hq16
        subst hq16
        exact hjq16 _ _ _ hJ (lv_sub hl [0, 1, 2, 3] rfl)
      · have hq16 := ip hq16 hc13
        refine lv_aload_n hx hb dX6_divides_69 rfl (lv_at hl 0 rfl) ?_
        refine mx_ga C hJ 19 (Nat.le_of_ble_eq_true rfl) rfl lk19 dX6_divides_70 ?_
        refine lv_iload_n hx hb dX6_divides_73 rfl (lv_at hl 2 rfl) ?_
        obtain ⟨x14, hx14, hq16⟩ := ob hq16
        refine my_il C hJ 19 rfl hx14 dX6_divides_74 ?_
        refine lv_iconst hx hb dX6_divides_75 kc_1 ?_
        refine lv_icmp_ne (tgt := 83) hx hb dX6_divides_76 (by decide) (fun hc15 => ?_) (fun hc15 => ?_)
        · have hq16 := im hq16 hc15
          refine lv_iconst hx hb dX6_divides_83 kc_0 ?_
          have hq16 := Option.some.inj hq16
          subst hq16
          exact hjq16 _ _ _ hJ (lv_sub hl [0, 1, 2, 3] rfl)
        · have hq16 := ip hq16 hc15
          refine lv_iconst hx hb dX6_divides_79 kc_1 ?_
          refine lv_goto (tgt := 84) hx hb dX6_divides_80 (by decide) ?_
          have hq16 := Option.some.inj hq16
          subst hq16
          exact hjq16 _ _ _ hJ (lv_sub hl [0, 1, 2, 3] rfl)
    refine lv_if_eq (tgt := 55) hx hb dX6_divides_46 (by decide) (fun hc9 => ?_) (fun hc9 => ?_)
    · have hq10 := ip hq10 hc9
      refine lv_iconst hx hb dX6_divides_55 kc_0 ?_
      have hq10 := Option.some.inj hq10
      subst hq10
      exact hjq10 _ _ _ hJ (lv_sub hl [1, 2, 3, 0] rfl)
    · have hq10 := im hq10 hc9
      refine lv_iconst hx hb dX6_divides_49 kc_1 ?_
      refine lv_iload_n hx hb dX6_divides_50 rfl (lv_at hl 3 rfl) ?_
      refine lv_ishl hx hb dX6_divides_51 ?_
      refine lv_goto (tgt := 56) hx hb dX6_divides_52 (by decide) ?_
      have hq10 := Option.some.inj hq10
      subst hq10
      exact hjq10 _ _ _ hJ (lv_sub hl [1, 2, 3, 0] rfl)
