/-! the reference, walked (printed by tool/gen_m.py) -/
set_option maxRecDepth 100000
def M_count (σ : MM) (v1 : Int32) : Option (Int32 × MM) :=
  if v1 = 0 then
    (M_sumOf σ v1).bind fun c1 =>
    some (c1.1, c1.2)
  else
  if v1 = 1 then
    some ((σ 8 0), σ)
  else
  if v1 = 2 then
    (mld σ 0 (v1 - (2 : Int32))).bind fun x2 =>
    some (x2, σ)
  else
  if v1 = 3 then
    (mld σ 0 (v1 - (2 : Int32))).bind fun x3 =>
    some (x3, σ)
  else
  if v1 = 4 then
    (M_sumOf σ v1).bind fun c4 =>
    some (c4.1, c4.2)
  else
  if v1 = 5 then
    (M_sumOf σ v1).bind fun c5 =>
    some (c5.1, c5.2)
  else
  if v1 = 6 then
    (M_sumOf σ v1).bind fun c6 =>
    some (c6.1, c6.2)
  else
  if v1 = 7 then
    some ((σ 31 0), σ)
  else
  if v1 = 8 then
    some ((σ 41 0), σ)
  else
  some ((-2 : Int32), σ)
theorem hdM_count : yX6_count.cls = RX6 ∧ yX6_count.cls ≠ "java/lang/invoke/MethodHandle" ∧ yX6_count.cls ≠ "java/lang/invoke/VarHandle" ∧ (parseMethodDescriptor yX6_count.desc).map (fun d => d.parameters.length) = some 1 := by decide +kernel
set_option maxHeartbeats 4000000 in
theorem metM_count (l : Launch) (σ : MM) (v1 : Int32) (res : Int32 × MM) (h : M_count σ v1 = some res) : MetM l yX6_count cX6_count 2 (some .int) 10 (fun K => [.ref (kO K), .int v1]) σ (some (.int res.1)) res.2 := by
  refine met_walk rfl (by simp [mRt]) (fun _ => Nat.le_of_ble_eq_true rfl) (fun K p e s m args below meth c Q C hE ls hl hJ => ?_)
  have hx := C.1.1
  have hb := C.1.2.1
  have hown := C.1.2.2.2.1
  have hts := C.1.2.2.2.2
  have hl : lv_has ls 2 [(0, .ref (kO K)), (1, .int v1)] := hl
  unfold M_count at h
  refine lv_iload_n hx hb dX6_count_0 rfl (lv_at hl 1 rfl) ?_
  by_cases hc7_0 : v1 = 0
  · have h := ip h hc7_0
    refine lv_tableIn (tgt := 52) (off := 51) hx hb dX6_count_1 (by rw [hc7_0]; decide) (by rw [hc7_0]; decide) (by rw [hc7_0]; rfl) (by decide) ?_
    refine lv_aload_n hx hb dX6_count_52 rfl (lv_at hl 0 rfl) ?_
    refine lv_iload_n hx hb dX6_count_53 rfl (lv_at hl 1 rfl) ?_
    obtain ⟨c1, hc1, h⟩ := ob h
    refine mc_V (As := [.int v1]) (rest := []) C hJ (metM_sumOf l σ v1 c1 hc1) (cwV 1 hts (lw_V q1742 q1744 qs104 q118 q1745) rfl rfl rfl hdM_sumOf ⟨Nat.le_of_ble_eq_true rfl, Nat.le_of_ble_eq_true rfl⟩) rfl hl.1 rfl (lv_room (Nat.le_of_ble_eq_true rfl)) dX6_count_54 (fun H locs hJ => ?_)
    have h := Option.some.inj h
    subst h
    exact hE _ _ _ _ (some (.int (c1.1))) hJ ⟨_, rfl⟩ rfl dX6_count_57
  have h := im h hc7_0
  by_cases hc7_1 : v1 = 1
  · have h := ip h hc7_1
    refine lv_tableIn (tgt := 58) (off := 57) hx hb dX6_count_1 (by rw [hc7_1]; decide) (by rw [hc7_1]; decide) (by rw [hc7_1]; rfl) (by decide) ?_
    refine lv_aload_n hx hb dX6_count_58 rfl (lv_at hl 0 rfl) ?_
    refine mx_gi C hJ 8 (Nat.le_of_ble_eq_true rfl) rfl lk8 dX6_count_59 ?_
    have h := Option.some.inj h
    subst h
    exact hE _ _ _ _ (some (.int ((σ 8 0)))) hJ ⟨_, rfl⟩ rfl dX6_count_62
  have h := im h hc7_1
  by_cases hc7_2 : v1 = 2
  · have h := ip h hc7_2
    refine lv_tableIn (tgt := 63) (off := 62) hx hb dX6_count_1 (by rw [hc7_2]; decide) (by rw [hc7_2]; decide) (by rw [hc7_2]; rfl) (by decide) ?_
    refine lv_aload_n hx hb dX6_count_63 rfl (lv_at hl 0 rfl) ?_
    refine mx_ga C hJ 0 (Nat.le_of_ble_eq_true rfl) rfl lk0 dX6_count_64 ?_
    refine lv_iload_n hx hb dX6_count_67 rfl (lv_at hl 1 rfl) ?_
    refine lv_iconst hx hb dX6_count_68 kc_2 ?_
    refine lv_isub hx hb dX6_count_69 ?_
    obtain ⟨x2, hx2, h⟩ := ob h
    refine my_il C hJ 0 rfl hx2 dX6_count_70 ?_
    have h := Option.some.inj h
    subst h
    exact hE _ _ _ _ (some (.int (x2))) hJ ⟨_, rfl⟩ rfl dX6_count_71
  have h := im h hc7_2
  by_cases hc7_3 : v1 = 3
  · have h := ip h hc7_3
    refine lv_tableIn (tgt := 63) (off := 62) hx hb dX6_count_1 (by rw [hc7_3]; decide) (by rw [hc7_3]; decide) (by rw [hc7_3]; rfl) (by decide) ?_
    refine lv_aload_n hx hb dX6_count_63 rfl (lv_at hl 0 rfl) ?_
    refine mx_ga C hJ 0 (Nat.le_of_ble_eq_true rfl) rfl lk0 dX6_count_64 ?_
    refine lv_iload_n hx hb dX6_count_67 rfl (lv_at hl 1 rfl) ?_
    refine lv_iconst hx hb dX6_count_68 kc_2 ?_
    refine lv_isub hx hb dX6_count_69 ?_
    obtain ⟨x3, hx3, h⟩ := ob h
    refine my_il C hJ 0 rfl hx3 dX6_count_70 ?_
    have h := Option.some.inj h
    subst h
    exact hE _ _ _ _ (some (.int (x3))) hJ ⟨_, rfl⟩ rfl dX6_count_71
  have h := im h hc7_3
  by_cases hc7_4 : v1 = 4
  · have h := ip h hc7_4
    refine lv_tableIn (tgt := 52) (off := 51) hx hb dX6_count_1 (by rw [hc7_4]; decide) (by rw [hc7_4]; decide) (by rw [hc7_4]; rfl) (by decide) ?_
    refine lv_aload_n hx hb dX6_count_52 rfl (lv_at hl 0 rfl) ?_
    refine lv_iload_n hx hb dX6_count_53 rfl (lv_at hl 1 rfl) ?_
    obtain ⟨c4, hc4, h⟩ := ob h
    refine mc_V (As := [.int v1]) (rest := []) C hJ (metM_sumOf l σ v1 c4 hc4) (cwV 1 hts (lw_V q1742 q1744 qs104 q118 q1745) rfl rfl rfl hdM_sumOf ⟨Nat.le_of_ble_eq_true rfl, Nat.le_of_ble_eq_true rfl⟩) rfl hl.1 rfl (lv_room (Nat.le_of_ble_eq_true rfl)) dX6_count_54 (fun H locs hJ => ?_)
    have h := Option.some.inj h
    subst h
    exact hE _ _ _ _ (some (.int (c4.1))) hJ ⟨_, rfl⟩ rfl dX6_count_57
  have h := im h hc7_4
  by_cases hc7_5 : v1 = 5
  · have h := ip h hc7_5
    refine lv_tableIn (tgt := 52) (off := 51) hx hb dX6_count_1 (by rw [hc7_5]; decide) (by rw [hc7_5]; decide) (by rw [hc7_5]; rfl) (by decide) ?_
    refine lv_aload_n hx hb dX6_count_52 rfl (lv_at hl 0 rfl) ?_
    refine lv_iload_n hx hb dX6_count_53 rfl (lv_at hl 1 rfl) ?_
    obtain ⟨c5, hc5, h⟩ := ob h
    refine mc_V (As := [.int v1]) (rest := []) C hJ (metM_sumOf l σ v1 c5 hc5) (cwV 1 hts (lw_V q1742 q1744 qs104 q118 q1745) rfl rfl rfl hdM_sumOf ⟨Nat.le_of_ble_eq_true rfl, Nat.le_of_ble_eq_true rfl⟩) rfl hl.1 rfl (lv_room (Nat.le_of_ble_eq_true rfl)) dX6_count_54 (fun H locs hJ => ?_)
    have h := Option.some.inj h
    subst h
    exact hE _ _ _ _ (some (.int (c5.1))) hJ ⟨_, rfl⟩ rfl dX6_count_57
  have h := im h hc7_5
  by_cases hc7_6 : v1 = 6
  · have h := ip h hc7_6
    refine lv_tableIn (tgt := 52) (off := 51) hx hb dX6_count_1 (by rw [hc7_6]; decide) (by rw [hc7_6]; decide) (by rw [hc7_6]; rfl) (by decide) ?_
    refine lv_aload_n hx hb dX6_count_52 rfl (lv_at hl 0 rfl) ?_
    refine lv_iload_n hx hb dX6_count_53 rfl (lv_at hl 1 rfl) ?_
    obtain ⟨c6, hc6, h⟩ := ob h
    refine mc_V (As := [.int v1]) (rest := []) C hJ (metM_sumOf l σ v1 c6 hc6) (cwV 1 hts (lw_V q1742 q1744 qs104 q118 q1745) rfl rfl rfl hdM_sumOf ⟨Nat.le_of_ble_eq_true rfl, Nat.le_of_ble_eq_true rfl⟩) rfl hl.1 rfl (lv_room (Nat.le_of_ble_eq_true rfl)) dX6_count_54 (fun H locs hJ => ?_)
    have h := Option.some.inj h
    subst h
    exact hE _ _ _ _ (some (.int (c6.1))) hJ ⟨_, rfl⟩ rfl dX6_count_57
  have h := im h hc7_6
  by_cases hc7_7 : v1 = 7
  · have h := ip h hc7_7
    refine lv_tableIn (tgt := 72) (off := 71) hx hb dX6_count_1 (by rw [hc7_7]; decide) (by rw [hc7_7]; decide) (by rw [hc7_7]; rfl) (by decide) ?_
    refine lv_aload_n hx hb dX6_count_72 rfl (lv_at hl 0 rfl) ?_
    refine mx_gi C hJ 31 (Nat.le_of_ble_eq_true rfl) rfl lk31 dX6_count_73 ?_
    have h := Option.some.inj h
    subst h
    exact hE _ _ _ _ (some (.int ((σ 31 0)))) hJ ⟨_, rfl⟩ rfl dX6_count_76
  have h := im h hc7_7
  by_cases hc7_8 : v1 = 8
  · have h := ip h hc7_8
    refine lv_tableIn (tgt := 77) (off := 76) hx hb dX6_count_1 (by rw [hc7_8]; decide) (by rw [hc7_8]; decide) (by rw [hc7_8]; rfl) (by decide) ?_
    refine lv_aload_n hx hb dX6_count_77 rfl (lv_at hl 0 rfl) ?_
    refine mx_gi C hJ 41 (Nat.le_of_ble_eq_true rfl) rfl lk41 dX6_count_78 ?_
    have h := Option.some.inj h
    subst h
    exact hE _ _ _ _ (some (.int ((σ 41 0)))) hJ ⟨_, rfl⟩ rfl dX6_count_81
  have h := im h hc7_8
  have hthc7_0 := lv_neT (a := 0) hc7_0 (by decide)
  have hthc7_1 := lv_neT (a := 1) hc7_1 (by decide)
  have hthc7_2 := lv_neT (a := 2) hc7_2 (by decide)
  have hthc7_3 := lv_neT (a := 3) hc7_3 (by decide)
  have hthc7_4 := lv_neT (a := 4) hc7_4 (by decide)
  have hthc7_5 := lv_neT (a := 5) hc7_5 (by decide)
  have hthc7_6 := lv_neT (a := 6) hc7_6 (by decide)
  have hthc7_7 := lv_neT (a := 7) hc7_7 (by decide)
  have hthc7_8 := lv_neT (a := 8) hc7_8 (by decide)
  refine lv_tableOut (tgt := 82) hx hb dX6_count_1 (by omega) (by decide) ?_
  refine lv_bipush hx hb dX6_count_82 kb_m2 ?_
  have h := Option.some.inj h
  subst h
  exact hE _ _ _ _ (some (.int ((-2 : Int32)))) hJ ⟨_, rfl⟩ rfl dX6_count_84
def M_hourDigest (σ : MM) (v1 : Int64) (v3 : Int32) (v4 : Int32) : Option (Int64 × MM) :=
  (lp (S := Int64 × Int32 × MM) (T := Int64 × MM) (fun w1 =>
    if (4 : Int32) ≤ w1.2.1 then
        some (.inr (w1.1, w1.2.2))
      else
        (M_atOf w1.2.2 v3 v4 w1.2.1).bind fun c4 =>
        some (.inl ((((31 : Int64) * w1.1) + c4.1.toInt64), (w1.2.1 + 1), c4.2))) 2000 (v1, (0 : Int32), σ)).bind fun q2 =>
  some (q2.1, q2.2)
theorem hdM_hourDigest : yX6_hourDigest.cls = RX6 ∧ yX6_hourDigest.cls ≠ "java/lang/invoke/MethodHandle" ∧ yX6_hourDigest.cls ≠ "java/lang/invoke/VarHandle" ∧ (parseMethodDescriptor yX6_hourDigest.desc).map (fun d => d.parameters.length) = some 3 := by decide +kernel
set_option maxHeartbeats 4000000 in
theorem metM_hourDigest (l : Launch) (σ : MM) (v1 : Int64) (v3 : Int32) (v4 : Int32) (res : Int64 × MM) (h : M_hourDigest σ v1 v3 v4 = some res) : MetM l yX6_hourDigest cX6_hourDigest 8 (some .long) 10 (fun K => [.ref (kO K), .long v1, .int v3, .int v4]) σ (some (.long res.1)) res.2 := by
  refine met_walk rfl (by simp [mRt]) (fun _ => Nat.le_of_ble_eq_true rfl) (fun K p e s m args below meth c Q C hE ls hl hJ => ?_)
  have hx := C.1.1
  have hb := C.1.2.1
  have hown := C.1.2.2.2.1
  have hts := C.1.2.2.2.2
  have hl : lv_has ls 8 [(0, .ref (kO K)), (1, .long v1), (3, .int v3), (4, .int v4)] := hl
  unfold M_hourDigest at h
  refine lv_lload_n hx hb dX6_hourDigest_0 rfl (lv_at hl 1 rfl) ?_
  refine lv_lstore (lv' := [(5, .long v1), (0, .ref (kO K)), (1, .long v1), (3, .int v3), (4, .int v4)]) hx hb dX6_hourDigest_1 hl (Nat.le_of_ble_eq_true rfl) rfl (fun ls hl => ?_)
  refine lv_iconst hx hb dX6_hourDigest_3 kc_0 ?_
  refine lv_istore (lv' := [(7, .int (0 : Int32)), (5, .long v1), (0, .ref (kO K)), (1, .long v1), (3, .int v3), (4, .int v4)]) hx hb dX6_hourDigest_4 hl (Nat.le_of_ble_eq_true rfl) rfl (fun ls hl => ?_)
  obtain ⟨q2, hq2, h⟩ := ob h
  have hxq2 : ∀ (H : Heap) (locs : List Loc) (ls : Array Slot), MJ K q2.2 s.heap H locs → lv_has ls 8 [(5, .long q2.1)] → W p l e (rmd 10) s m args below meth c H locs 0 0 Q (F0 m 37 ls []) := by
    intro H locs ls hJ hl
    refine lv_lload hx hb dX6_hourDigest_37 (lv_at hl 0 rfl) ?_
    have h := Option.some.inj h
    subst h
    exact hE _ _ _ _ (some (.long (q2.1))) hJ ⟨_, rfl⟩ rfl dX6_hourDigest_39
  refine lp_ind (P := fun (w1 : Int64 × Int32 × MM) => ∀ (H : Heap) (locs : List Loc) (ls : Array Slot), MJ K w1.2.2 s.heap H locs → lv_has ls 8 [(0, .ref (kO K)), (3, .int v3), (4, .int v4), (5, .long w1.1), (7, .int w1.2.1)] → W p l e (rmd 10) s m args below meth c H locs 0 0 Q (F0 m 6 ls [])) ?_ _ _ hq2 _ _ _ hJ (lv_sub hl [2, 4, 5, 1, 0] rfl)
  intro nw1 w1 ihw1 zw1 hzw1 hqw1 H locs ls hJ hl
  refine lv_iload hx hb dX6_hourDigest_6 (lv_at hl 4 rfl) ?_
  refine lv_iconst hx hb dX6_hourDigest_8 kc_4 ?_
  refine lv_icmp_ge (tgt := 37) hx hb dX6_hourDigest_9 (by decide) (fun hc3 => ?_) (fun hc3 => ?_)
  · have hzw1 := ip hzw1 hc3
    have hzw1 := Option.some.inj hzw1
    subst hzw1
    have hqw1 : _ = q2 := hqw1
    subst hqw1
    exact hxq2 _ _ _ hJ (lv_sub hl [3] rfl)
  · have hzw1 := im hzw1 hc3
    refine lv_ldc2 (v := (31 : Int64)) hx hb hown (hts _ q1751) dX6_hourDigest_12 ?_
    refine lv_lload hx hb dX6_hourDigest_15 (lv_at hl 3 rfl) ?_
    refine lv_lmul hx hb dX6_hourDigest_17 ?_
    refine lv_aload_n hx hb dX6_hourDigest_18 rfl (lv_at hl 0 rfl) ?_
    refine lv_iload_n hx hb dX6_hourDigest_19 rfl (lv_at hl 1 rfl) ?_
    refine lv_iload hx hb dX6_hourDigest_20 (lv_at hl 2 rfl) ?_
    refine lv_iload hx hb dX6_hourDigest_22 (lv_at hl 4 rfl) ?_
    obtain ⟨c4, hc4, hzw1⟩ := ob hzw1
    refine mc_V (As := [.int v3, .int v4, .int w1.2.1]) (rest := [.long ((31 : Int64) * w1.1)]) C hJ (metM_atOf l w1.2.2 v3 v4 w1.2.1 c4 hc4) (cwV 3 hts (lw_V q1529 q1531 qs78 q118 q1532) rfl rfl rfl hdM_atOf ⟨Nat.le_of_ble_eq_true rfl, Nat.le_of_ble_eq_true rfl⟩) rfl hl.1 rfl (lv_room (Nat.le_of_ble_eq_true rfl)) dX6_hourDigest_24 (fun H locs hJ => ?_)
    refine lv_i2l (v := c4.1.toInt64) hx hb dX6_hourDigest_27 rfl ?_
    refine lv_ladd hx hb dX6_hourDigest_28 ?_
    refine lv_lstore (lv' := [(5, .long (((31 : Int64) * w1.1) + c4.1.toInt64)), (0, .ref (kO K)), (3, .int v3), (4, .int v4), (7, .int w1.2.1)]) hx hb dX6_hourDigest_29 hl (Nat.le_of_ble_eq_true rfl) rfl (fun ls hl => ?_)
    refine lv_iinc (v := (w1.2.1 + 1)) (lv' := [(7, .int (w1.2.1 + 1)), (5, .long (((31 : Int64) * w1.1) + c4.1.toInt64)), (0, .ref (kO K)), (3, .int v3), (4, .int v4)]) hx hb dX6_hourDigest_31 hl (k := 4) rfl rfl (Nat.le_of_ble_eq_true rfl) rfl (fun ls hl => ?_)
    refine lv_goto (tgt := 6) hx hb dX6_hourDigest_34 (by decide) ?_
    have hzw1 := Option.some.inj hzw1
    subst hzw1
    exact ihw1 _ hqw1 _ _ _ hJ (lv_sub hl [2, 3, 4, 1, 0] rfl)
def M_ask (σ : MM) (v1 : Int32) : Option (Int32 × MM) :=
  (M_isPlace σ v1).bind fun c1 =>
  if c1 = 0 then
    some ((-2 : Int32), σ)
  else
    (M_askOf σ v1).bind fun c3 =>
    some (c3.1, c3.2)
theorem hdM_ask : yX6_ask.cls = RX6 ∧ yX6_ask.cls ≠ "java/lang/invoke/MethodHandle" ∧ yX6_ask.cls ≠ "java/lang/invoke/VarHandle" ∧ (parseMethodDescriptor yX6_ask.desc).map (fun d => d.parameters.length) = some 1 := by decide +kernel
set_option maxHeartbeats 4000000 in
theorem metM_ask (l : Launch) (σ : MM) (v1 : Int32) (res : Int32 × MM) (h : M_ask σ v1 = some res) : MetM l yX6_ask cX6_ask 2 (some .int) 11 (fun K => [.ref (kO K), .int v1]) σ (some (.int res.1)) res.2 := by
  refine met_walk rfl (by simp [mRt]) (fun _ => Nat.le_of_ble_eq_true rfl) (fun K p e s m args below meth c Q C hE ls hl hJ => ?_)
  have hx := C.1.1
  have hb := C.1.2.1
  have hown := C.1.2.2.2.1
  have hts := C.1.2.2.2.2
  have hl : lv_has ls 2 [(0, .ref (kO K)), (1, .int v1)] := hl
  unfold M_ask at h
  refine lv_iload_n hx hb dX6_ask_0 rfl (lv_at hl 1 rfl) ?_
  obtain ⟨c1, hc1, h⟩ := ob h
  refine mc_S (As := [.int v1]) (rest := []) C hJ (metM_isPlace l σ v1 c1 hc1) (va_cwS 1 hts (lw_S q1408 q1409 q118 q1410) rfl rfl rfl hdM_isPlace ⟨Nat.le_of_ble_eq_true rfl, Nat.le_of_ble_eq_true rfl⟩) rfl hl.1 rfl (lv_room (Nat.le_of_ble_eq_true rfl)) dX6_ask_1 (fun H locs hJ => ?_)
  refine lv_if_eq (tgt := 15) hx hb dX6_ask_4 (by decide) (fun hc2 => ?_) (fun hc2 => ?_)
  · have h := ip h hc2
    refine lv_bipush hx hb dX6_ask_15 kb_m2 ?_
    have h := Option.some.inj h
    subst h
    exact hE _ _ _ _ (some (.int ((-2 : Int32)))) hJ ⟨_, rfl⟩ rfl dX6_ask_17
  · have h := im h hc2
    refine lv_aload_n hx hb dX6_ask_7 rfl (lv_at hl 0 rfl) ?_
    refine lv_iload_n hx hb dX6_ask_8 rfl (lv_at hl 1 rfl) ?_
    obtain ⟨c3, hc3, h⟩ := ob h
    refine mc_V (As := [.int v1]) (rest := []) C hJ (metM_askOf l σ v1 c3 hc3) (cwV 1 hts (lw_V q1677 q1679 qs99 q118 q1680) rfl rfl rfl hdM_askOf ⟨Nat.le_of_ble_eq_true rfl, Nat.le_of_ble_eq_true rfl⟩) rfl hl.1 rfl (lv_room (Nat.le_of_ble_eq_true rfl)) dX6_ask_9 (fun H locs hJ => ?_)
    refine lv_goto (tgt := 17) hx hb dX6_ask_12 (by decide) ?_
    have h := Option.some.inj h
    subst h
    exact hE _ _ _ _ (some (.int (c3.1))) hJ ⟨_, rfl⟩ rfl dX6_ask_17
def M_placeDigest (σ : MM) (v1 : Int64) (v3 : Int32) : Option (Int64 × MM) :=
  (M_stoneOf σ v3).bind fun c1 =>
  (M_dampOf c1.2 (6 : Int32) v3 (0 : Int32)).bind fun c2 =>
  (M_dampOf c2.2 (6 : Int32) v3 (1 : Int32)).bind fun c3 =>
  (M_dampOf c3.2 (19 : Int32) v3 (0 : Int32)).bind fun c4 =>
  (M_dampOf c4.2 (19 : Int32) v3 (1 : Int32)).bind fun c5 =>
  (M_wetBy c5.2 v3).bind fun c6 =>
  (M_askOf c6.2 v3).bind fun c7 =>
  some ((((31 : Int64) * (((31 : Int64) * (((31 : Int64) * (((31 : Int64) * (((31 : Int64) * (((31 : Int64) * (((31 : Int64) * v1) + c1.1.toInt64)) + c2.1.toInt64)) + c3.1.toInt64)) + c4.1.toInt64)) + c5.1.toInt64)) + c6.1.toInt64)) + c7.1.toInt64), c7.2)
theorem hdM_placeDigest : yX6_placeDigest.cls = RX6 ∧ yX6_placeDigest.cls ≠ "java/lang/invoke/MethodHandle" ∧ yX6_placeDigest.cls ≠ "java/lang/invoke/VarHandle" ∧ (parseMethodDescriptor yX6_placeDigest.desc).map (fun d => d.parameters.length) = some 2 := by decide +kernel
set_option maxHeartbeats 4000000 in
theorem metM_placeDigest (l : Launch) (σ : MM) (v1 : Int64) (v3 : Int32) (res : Int64 × MM) (h : M_placeDigest σ v1 v3 = some res) : MetM l yX6_placeDigest cX6_placeDigest 6 (some .long) 11 (fun K => [.ref (kO K), .long v1, .int v3]) σ (some (.long res.1)) res.2 := by
  refine met_walk rfl (by simp [mRt]) (fun _ => Nat.le_of_ble_eq_true rfl) (fun K p e s m args below meth c Q C hE ls hl hJ => ?_)
  have hx := C.1.1
  have hb := C.1.2.1
  have hown := C.1.2.2.2.1
  have hts := C.1.2.2.2.2
  have hl : lv_has ls 6 [(0, .ref (kO K)), (1, .long v1), (3, .int v3)] := hl
  unfold M_placeDigest at h
  refine lv_ldc2 (v := (31 : Int64)) hx hb hown (hts _ q1751) dX6_placeDigest_0 ?_
  refine lv_lload_n hx hb dX6_placeDigest_3 rfl (lv_at hl 1 rfl) ?_
  refine lv_lmul hx hb dX6_placeDigest_4 ?_
  refine lv_aload_n hx hb dX6_placeDigest_5 rfl (lv_at hl 0 rfl) ?_
  refine lv_iload_n hx hb dX6_placeDigest_6 rfl (lv_at hl 2 rfl) ?_
  obtain ⟨c1, hc1, h⟩ := ob h
  refine mc_V (As := [.int v3]) (rest := [.long ((31 : Int64) * v1)]) C hJ (metM_stoneOf l σ v3 c1 hc1) (cwV 1 hts (lw_V q1411 q1413 qs57 q118 q1414) rfl rfl rfl hdM_stoneOf ⟨Nat.le_of_ble_eq_true rfl, Nat.le_of_ble_eq_true rfl⟩) rfl hl.1 rfl (lv_room (Nat.le_of_ble_eq_true rfl)) dX6_placeDigest_7 (fun H locs hJ => ?_)
  refine lv_i2l (v := c1.1.toInt64) hx hb dX6_placeDigest_10 rfl ?_
  refine lv_ladd hx hb dX6_placeDigest_11 ?_
  refine lv_lstore (lv' := [(4, .long (((31 : Int64) * v1) + c1.1.toInt64)), (0, .ref (kO K)), (1, .long v1), (3, .int v3)]) hx hb dX6_placeDigest_12 hl (Nat.le_of_ble_eq_true rfl) rfl (fun ls hl => ?_)
  refine lv_ldc2 (v := (31 : Int64)) hx hb hown (hts _ q1751) dX6_placeDigest_14 ?_
  refine lv_lload hx hb dX6_placeDigest_17 (lv_at hl 0 rfl) ?_
  refine lv_lmul hx hb dX6_placeDigest_19 ?_
  refine lv_aload_n hx hb dX6_placeDigest_20 rfl (lv_at hl 1 rfl) ?_
  refine lv_bipush hx hb dX6_placeDigest_21 kb_6 ?_
  refine lv_iload_n hx hb dX6_placeDigest_23 rfl (lv_at hl 3 rfl) ?_
  refine lv_iconst hx hb dX6_placeDigest_24 kc_0 ?_
  obtain ⟨c2, hc2, h⟩ := ob h
  refine mc_V (As := [.int (6 : Int32), .int v3, .int (0 : Int32)]) (rest := [.long ((31 : Int64) * (((31 : Int64) * v1) + c1.1.toInt64))]) C hJ (metM_dampOf l c1.2 (6 : Int32) v3 (0 : Int32) c2 hc2) (cwV 3 hts (lw_V q1458 q1460 qs62 q118 q1461) rfl rfl rfl hdM_dampOf ⟨Nat.le_of_ble_eq_true rfl, Nat.le_of_ble_eq_true rfl⟩) rfl hl.1 rfl (lv_room (Nat.le_of_ble_eq_true rfl)) dX6_placeDigest_25 (fun H locs hJ => ?_)
  refine lv_i2l (v := c2.1.toInt64) hx hb dX6_placeDigest_28 rfl ?_
  refine lv_ladd hx hb dX6_placeDigest_29 ?_
  refine lv_lstore (lv' := [(4, .long (((31 : Int64) * (((31 : Int64) * v1) + c1.1.toInt64)) + c2.1.toInt64)), (0, .ref (kO K)), (1, .long v1), (3, .int v3)]) hx hb dX6_placeDigest_30 hl (Nat.le_of_ble_eq_true rfl) rfl (fun ls hl => ?_)
  refine lv_ldc2 (v := (31 : Int64)) hx hb hown (hts _ q1751) dX6_placeDigest_32 ?_
  refine lv_lload hx hb dX6_placeDigest_35 (lv_at hl 0 rfl) ?_
  refine lv_lmul hx hb dX6_placeDigest_37 ?_
  refine lv_aload_n hx hb dX6_placeDigest_38 rfl (lv_at hl 1 rfl) ?_
  refine lv_bipush hx hb dX6_placeDigest_39 kb_6 ?_
  refine lv_iload_n hx hb dX6_placeDigest_41 rfl (lv_at hl 3 rfl) ?_
  refine lv_iconst hx hb dX6_placeDigest_42 kc_1 ?_
  obtain ⟨c3, hc3, h⟩ := ob h
  refine mc_V (As := [.int (6 : Int32), .int v3, .int (1 : Int32)]) (rest := [.long ((31 : Int64) * (((31 : Int64) * (((31 : Int64) * v1) + c1.1.toInt64)) + c2.1.toInt64))]) C hJ (metM_dampOf l c2.2 (6 : Int32) v3 (1 : Int32) c3 hc3) (cwV 3 hts (lw_V q1458 q1460 qs62 q118 q1461) rfl rfl rfl hdM_dampOf ⟨Nat.le_of_ble_eq_true rfl, Nat.le_of_ble_eq_true rfl⟩) rfl hl.1 rfl (lv_room (Nat.le_of_ble_eq_true rfl)) dX6_placeDigest_43 (fun H locs hJ => ?_)
  refine lv_i2l (v := c3.1.toInt64) hx hb dX6_placeDigest_46 rfl ?_
  refine lv_ladd hx hb dX6_placeDigest_47 ?_
  refine lv_lstore (lv' := [(4, .long (((31 : Int64) * (((31 : Int64) * (((31 : Int64) * v1) + c1.1.toInt64)) + c2.1.toInt64)) + c3.1.toInt64)), (0, .ref (kO K)), (1, .long v1), (3, .int v3)]) hx hb dX6_placeDigest_48 hl (Nat.le_of_ble_eq_true rfl) rfl (fun ls hl => ?_)
  refine lv_ldc2 (v := (31 : Int64)) hx hb hown (hts _ q1751) dX6_placeDigest_50 ?_
  refine lv_lload hx hb dX6_placeDigest_53 (lv_at hl 0 rfl) ?_
  refine lv_lmul hx hb dX6_placeDigest_55 ?_
  refine lv_aload_n hx hb dX6_placeDigest_56 rfl (lv_at hl 1 rfl) ?_
  refine lv_bipush hx hb dX6_placeDigest_57 kb_19 ?_
  refine lv_iload_n hx hb dX6_placeDigest_59 rfl (lv_at hl 3 rfl) ?_
  refine lv_iconst hx hb dX6_placeDigest_60 kc_0 ?_
  obtain ⟨c4, hc4, h⟩ := ob h
  refine mc_V (As := [.int (19 : Int32), .int v3, .int (0 : Int32)]) (rest := [.long ((31 : Int64) * (((31 : Int64) * (((31 : Int64) * (((31 : Int64) * v1) + c1.1.toInt64)) + c2.1.toInt64)) + c3.1.toInt64))]) C hJ (metM_dampOf l c3.2 (19 : Int32) v3 (0 : Int32) c4 hc4) (cwV 3 hts (lw_V q1458 q1460 qs62 q118 q1461) rfl rfl rfl hdM_dampOf ⟨Nat.le_of_ble_eq_true rfl, Nat.le_of_ble_eq_true rfl⟩) rfl hl.1 rfl (lv_room (Nat.le_of_ble_eq_true rfl)) dX6_placeDigest_61 (fun H locs hJ => ?_)
  refine lv_i2l (v := c4.1.toInt64) hx hb dX6_placeDigest_64 rfl ?_
  refine lv_ladd hx hb dX6_placeDigest_65 ?_
  refine lv_lstore (lv' := [(4, .long (((31 : Int64) * (((31 : Int64) * (((31 : Int64) * (((31 : Int64) * v1) + c1.1.toInt64)) + c2.1.toInt64)) + c3.1.toInt64)) + c4.1.toInt64)), (0, .ref (kO K)), (1, .long v1), (3, .int v3)]) hx hb dX6_placeDigest_66 hl (Nat.le_of_ble_eq_true rfl) rfl (fun ls hl => ?_)
  refine lv_ldc2 (v := (31 : Int64)) hx hb hown (hts _ q1751) dX6_placeDigest_68 ?_
  refine lv_lload hx hb dX6_placeDigest_71 (lv_at hl 0 rfl) ?_
  refine lv_lmul hx hb dX6_placeDigest_73 ?_
  refine lv_aload_n hx hb dX6_placeDigest_74 rfl (lv_at hl 1 rfl) ?_
  refine lv_bipush hx hb dX6_placeDigest_75 kb_19 ?_
  refine lv_iload_n hx hb dX6_placeDigest_77 rfl (lv_at hl 3 rfl) ?_
  refine lv_iconst hx hb dX6_placeDigest_78 kc_1 ?_
  obtain ⟨c5, hc5, h⟩ := ob h
  refine mc_V (As := [.int (19 : Int32), .int v3, .int (1 : Int32)]) (rest := [.long ((31 : Int64) * (((31 : Int64) * (((31 : Int64) * (((31 : Int64) * (((31 : Int64) * v1) + c1.1.toInt64)) + c2.1.toInt64)) + c3.1.toInt64)) + c4.1.toInt64))]) C hJ (metM_dampOf l c4.2 (19 : Int32) v3 (1 : Int32) c5 hc5) (cwV 3 hts (lw_V q1458 q1460 qs62 q118 q1461) rfl rfl rfl hdM_dampOf ⟨Nat.le_of_ble_eq_true rfl, Nat.le_of_ble_eq_true rfl⟩) rfl hl.1 rfl (lv_room (Nat.le_of_ble_eq_true rfl)) dX6_placeDigest_79 (fun H locs hJ => ?_)
  refine lv_i2l (v := c5.1.toInt64) hx hb dX6_placeDigest_82 rfl ?_
  refine lv_ladd hx hb dX6_placeDigest_83 ?_
  refine lv_lstore (lv' := [(4, .long (((31 : Int64) * (((31 : Int64) * (((31 : Int64) * (((31 : Int64) * (((31 : Int64) * v1) + c1.1.toInt64)) + c2.1.toInt64)) + c3.1.toInt64)) + c4.1.toInt64)) + c5.1.toInt64)), (0, .ref (kO K)), (1, .long v1), (3, .int v3)]) hx hb dX6_placeDigest_84 hl (Nat.le_of_ble_eq_true rfl) rfl (fun ls hl => ?_)
  refine lv_ldc2 (v := (31 : Int64)) hx hb hown (hts _ q1751) dX6_placeDigest_86 ?_
  refine lv_lload hx hb dX6_placeDigest_89 (lv_at hl 0 rfl) ?_
  refine lv_lmul hx hb dX6_placeDigest_91 ?_
  refine lv_aload_n hx hb dX6_placeDigest_92 rfl (lv_at hl 1 rfl) ?_
  refine lv_iload_n hx hb dX6_placeDigest_93 rfl (lv_at hl 3 rfl) ?_
  obtain ⟨c6, hc6, h⟩ := ob h
  refine mc_V (As := [.int v3]) (rest := [.long ((31 : Int64) * (((31 : Int64) * (((31 : Int64) * (((31 : Int64) * (((31 : Int64) * (((31 : Int64) * v1) + c1.1.toInt64)) + c2.1.toInt64)) + c3.1.toInt64)) + c4.1.toInt64)) + c5.1.toInt64))]) C hJ (metM_wetBy l c5.2 v3 c6 hc6) (cwV 1 hts (lw_V q1669 q1671 qs98 q118 q1672) rfl rfl rfl hdM_wetBy ⟨Nat.le_of_ble_eq_true rfl, Nat.le_of_ble_eq_true rfl⟩) rfl hl.1 rfl (lv_room (Nat.le_of_ble_eq_true rfl)) dX6_placeDigest_94 (fun H locs hJ => ?_)
  refine lv_i2l (v := c6.1.toInt64) hx hb dX6_placeDigest_97 rfl ?_
  refine lv_ladd hx hb dX6_placeDigest_98 ?_
  refine lv_lstore (lv' := [(4, .long (((31 : Int64) * (((31 : Int64) * (((31 : Int64) * (((31 : Int64) * (((31 : Int64) * (((31 : Int64) * v1) + c1.1.toInt64)) + c2.1.toInt64)) + c3.1.toInt64)) + c4.1.toInt64)) + c5.1.toInt64)) + c6.1.toInt64)), (0, .ref (kO K)), (1, .long v1), (3, .int v3)]) hx hb dX6_placeDigest_99 hl (Nat.le_of_ble_eq_true rfl) rfl (fun ls hl => ?_)
  refine lv_ldc2 (v := (31 : Int64)) hx hb hown (hts _ q1751) dX6_placeDigest_101 ?_
  refine lv_lload hx hb dX6_placeDigest_104 (lv_at hl 0 rfl) ?_
  refine lv_lmul hx hb dX6_placeDigest_106 ?_
  refine lv_aload_n hx hb dX6_placeDigest_107 rfl (lv_at hl 1 rfl) ?_
  refine lv_iload_n hx hb dX6_placeDigest_108 rfl (lv_at hl 3 rfl) ?_
  obtain ⟨c7, hc7, h⟩ := ob h
  refine mc_V (As := [.int v3]) (rest := [.long ((31 : Int64) * (((31 : Int64) * (((31 : Int64) * (((31 : Int64) * (((31 : Int64) * (((31 : Int64) * (((31 : Int64) * v1) + c1.1.toInt64)) + c2.1.toInt64)) + c3.1.toInt64)) + c4.1.toInt64)) + c5.1.toInt64)) + c6.1.toInt64))]) C hJ (metM_askOf l c6.2 v3 c7 hc7) (cwV 1 hts (lw_V q1677 q1679 qs99 q118 q1680) rfl rfl rfl hdM_askOf ⟨Nat.le_of_ble_eq_true rfl, Nat.le_of_ble_eq_true rfl⟩) rfl hl.1 rfl (lv_room (Nat.le_of_ble_eq_true rfl)) dX6_placeDigest_109 (fun H locs hJ => ?_)
  refine lv_i2l (v := c7.1.toInt64) hx hb dX6_placeDigest_112 rfl ?_
  refine lv_ladd hx hb dX6_placeDigest_113 ?_
  have h := Option.some.inj h
  subst h
  exact hE _ _ _ _ (some (.long ((((31 : Int64) * (((31 : Int64) * (((31 : Int64) * (((31 : Int64) * (((31 : Int64) * (((31 : Int64) * (((31 : Int64) * v1) + c1.1.toInt64)) + c2.1.toInt64)) + c3.1.toInt64)) + c4.1.toInt64)) + c5.1.toInt64)) + c6.1.toInt64)) + c7.1.toInt64)))) hJ ⟨_, rfl⟩ rfl dX6_placeDigest_114
def M_memberDigest (σ : MM) (v1 : Int64) (v3 : Int32) : Option (Int64 × MM) :=
  (lp (S := Int64 × Int32) (T := Int64) (fun w1 =>
    if (3 : Int32) ≤ w1.2 then
        some (.inr w1.1)
      else
        (M_memberOf σ v3 w1.2).bind fun c4 =>
        some (.inl ((((31 : Int64) * w1.1) + c4.toInt64), (w1.2 + 1)))) 2000 (v1, (0 : Int32))).bind fun q2 =>
  (M_hourDigest σ q2 (0 : Int32) v3).bind fun c5 =>
  (M_hourDigest c5.2 c5.1 (7 : Int32) v3).bind fun c6 =>
  (M_hourDigest c6.2 c6.1 (19 : Int32) v3).bind fun c7 =>
  (M_seatOf c7.2 v3 (0 : Int32)).bind fun c8 =>
  (M_seatOf c8.2 v3 (1 : Int32)).bind fun c9 =>
  (M_sortsBy c9.2 v3).bind fun c10 =>
  some ((((31 : Int64) * (((31 : Int64) * (((31 : Int64) * c7.1) + c8.1.toInt64)) + c9.1.toInt64)) + c10.1.toInt64), c10.2)
theorem hdM_memberDigest : yX6_memberDigest.cls = RX6 ∧ yX6_memberDigest.cls ≠ "java/lang/invoke/MethodHandle" ∧ yX6_memberDigest.cls ≠ "java/lang/invoke/VarHandle" ∧ (parseMethodDescriptor yX6_memberDigest.desc).map (fun d => d.parameters.length) = some 2 := by decide +kernel
set_option maxHeartbeats 4000000 in
theorem metM_memberDigest (l : Launch) (σ : MM) (v1 : Int64) (v3 : Int32) (res : Int64 × MM) (h : M_memberDigest σ v1 v3 = some res) : MetM l yX6_memberDigest cX6_memberDigest 7 (some .long) 11 (fun K => [.ref (kO K), .long v1, .int v3]) σ (some (.long res.1)) res.2 := by
  refine met_walk rfl (by simp [mRt]) (fun _ => Nat.le_of_ble_eq_true rfl) (fun K p e s m args below meth c Q C hE ls hl hJ => ?_)
  have hx := C.1.1
  have hb := C.1.2.1
  have hown := C.1.2.2.2.1
  have hts := C.1.2.2.2.2
  have hl : lv_has ls 7 [(0, .ref (kO K)), (1, .long v1), (3, .int v3)] := hl
  unfold M_memberDigest at h
  refine lv_lload_n hx hb dX6_memberDigest_0 rfl (lv_at hl 1 rfl) ?_
  refine lv_lstore (lv' := [(4, .long v1), (0, .ref (kO K)), (1, .long v1), (3, .int v3)]) hx hb dX6_memberDigest_1 hl (Nat.le_of_ble_eq_true rfl) rfl (fun ls hl => ?_)
  refine lv_iconst hx hb dX6_memberDigest_3 kc_0 ?_
  refine lv_istore (lv' := [(6, .int (0 : Int32)), (4, .long v1), (0, .ref (kO K)), (1, .long v1), (3, .int v3)]) hx hb dX6_memberDigest_4 hl (Nat.le_of_ble_eq_true rfl) rfl (fun ls hl => ?_)
  obtain ⟨q2, hq2, h⟩ := ob h
  have hxq2 : ∀ (H : Heap) (locs : List Loc) (ls : Array Slot), MJ K σ s.heap H locs → lv_has ls 7 [(0, .ref (kO K)), (3, .int v3), (4, .long q2)] → W p l e (rmd 11) s m args below meth c H locs 0 0 Q (F0 m 35 ls []) := by
    intro H locs ls hJ hl
    refine lv_aload_n hx hb dX6_memberDigest_35 rfl (lv_at hl 0 rfl) ?_
    refine lv_lload hx hb dX6_memberDigest_36 (lv_at hl 2 rfl) ?_
    refine lv_iconst hx hb dX6_memberDigest_38 kc_0 ?_
    refine lv_iload_n hx hb dX6_memberDigest_39 rfl (lv_at hl 1 rfl) ?_
    obtain ⟨c5, hc5, h⟩ := ob h
    refine mc_V (As := [.long q2, .int (0 : Int32), .int v3]) (rest := []) C hJ (metM_hourDigest l σ q2 (0 : Int32) v3 c5 hc5) (cwV 3 hts (lw_V q1761 q1763 qs107 q118 q1764) rfl rfl rfl hdM_hourDigest ⟨Nat.le_of_ble_eq_true rfl, Nat.le_of_ble_eq_true rfl⟩) rfl hl.1 rfl (lv_room (Nat.le_of_ble_eq_true rfl)) dX6_memberDigest_40 (fun H locs hJ => ?_)
    refine lv_lstore (lv' := [(4, .long c5.1), (0, .ref (kO K)), (3, .int v3)]) hx hb dX6_memberDigest_43 hl (Nat.le_of_ble_eq_true rfl) rfl (fun ls hl => ?_)
    refine lv_aload_n hx hb dX6_memberDigest_45 rfl (lv_at hl 1 rfl) ?_
    refine lv_lload hx hb dX6_memberDigest_46 (lv_at hl 0 rfl) ?_
    refine lv_bipush hx hb dX6_memberDigest_48 kb_7 ?_
    refine lv_iload_n hx hb dX6_memberDigest_50 rfl (lv_at hl 2 rfl) ?_
    obtain ⟨c6, hc6, h⟩ := ob h
    refine mc_V (As := [.long c5.1, .int (7 : Int32), .int v3]) (rest := []) C hJ (metM_hourDigest l c5.2 c5.1 (7 : Int32) v3 c6 hc6) (cwV 3 hts (lw_V q1761 q1763 qs107 q118 q1764) rfl rfl rfl hdM_hourDigest ⟨Nat.le_of_ble_eq_true rfl, Nat.le_of_ble_eq_true rfl⟩) rfl hl.1 rfl (lv_room (Nat.le_of_ble_eq_true rfl)) dX6_memberDigest_51 (fun H locs hJ => ?_)
    refine lv_lstore (lv' := [(4, .long c6.1), (0, .ref (kO K)), (3, .int v3)]) hx hb dX6_memberDigest_54 hl (Nat.le_of_ble_eq_true rfl) rfl (fun ls hl => ?_)
    refine lv_aload_n hx hb dX6_memberDigest_56 rfl (lv_at hl 1 rfl) ?_
    refine lv_lload hx hb dX6_memberDigest_57 (lv_at hl 0 rfl) ?_
    refine lv_bipush hx hb dX6_memberDigest_59 kb_19 ?_
    refine lv_iload_n hx hb dX6_memberDigest_61 rfl (lv_at hl 2 rfl) ?_
    obtain ⟨c7, hc7, h⟩ := ob h
    refine mc_V (As := [.long c6.1, .int (19 : Int32), .int v3]) (rest := []) C hJ (metM_hourDigest l c6.2 c6.1 (19 : Int32) v3 c7 hc7) (cwV 3 hts (lw_V q1761 q1763 qs107 q118 q1764) rfl rfl rfl hdM_hourDigest ⟨Nat.le_of_ble_eq_true rfl, Nat.le_of_ble_eq_true rfl⟩) rfl hl.1 rfl (lv_room (Nat.le_of_ble_eq_true rfl)) dX6_memberDigest_62 (fun H locs hJ => ?_)
    refine lv_lstore (lv' := [(4, .long c7.1), (0, .ref (kO K)), (3, .int v3)]) hx hb dX6_memberDigest_65 hl (Nat.le_of_ble_eq_true rfl) rfl (fun ls hl => ?_)
    refine lv_ldc2 (v := (31 : Int64)) hx hb hown (hts _ q1751) dX6_memberDigest_67 ?_
    refine lv_lload hx hb dX6_memberDigest_70 (lv_at hl 0 rfl) ?_
    refine lv_lmul hx hb dX6_memberDigest_72 ?_
    refine lv_aload_n hx hb dX6_memberDigest_73 rfl (lv_at hl 1 rfl) ?_
    refine lv_iload_n hx hb dX6_memberDigest_74 rfl (lv_at hl 2 rfl) ?_
    refine lv_iconst hx hb dX6_memberDigest_75 kc_0 ?_
    obtain ⟨c8, hc8, h⟩ := ob h
    refine mc_V (As := [.int v3, .int (0 : Int32)]) (rest := [.long ((31 : Int64) * c7.1)]) C hJ (metM_seatOf l c7.2 v3 (0 : Int32) c8 hc8) (cwV 2 hts (lw_V q1597 q1599 qs88 q118 q1600) rfl rfl rfl hdM_seatOf ⟨Nat.le_of_ble_eq_true rfl, Nat.le_of_ble_eq_true rfl⟩) rfl hl.1 rfl (lv_room (Nat.le_of_ble_eq_true rfl)) dX6_memberDigest_76 (fun H locs hJ => ?_)
    refine lv_i2l (v := c8.1.toInt64) hx hb dX6_memberDigest_79 rfl ?_
    refine lv_ladd hx hb dX6_memberDigest_80 ?_
    refine lv_lstore (lv' := [(4, .long (((31 : Int64) * c7.1) + c8.1.toInt64)), (0, .ref (kO K)), (3, .int v3)]) hx hb dX6_memberDigest_81 hl (Nat.le_of_ble_eq_true rfl) rfl (fun ls hl => ?_)
    refine lv_ldc2 (v := (31 : Int64)) hx hb hown (hts _ q1751) dX6_memberDigest_83 ?_
    refine lv_lload hx hb dX6_memberDigest_86 (lv_at hl 0 rfl) ?_
    refine lv_lmul hx hb dX6_memberDigest_88 ?_
    refine lv_aload_n hx hb dX6_memberDigest_89 rfl (lv_at hl 1 rfl) ?_
    refine lv_iload_n hx hb dX6_memberDigest_90 rfl (lv_at hl 2 rfl) ?_
    refine lv_iconst hx hb dX6_memberDigest_91 kc_1 ?_
    obtain ⟨c9, hc9, h⟩ := ob h
    refine mc_V (As := [.int v3, .int (1 : Int32)]) (rest := [.long ((31 : Int64) * (((31 : Int64) * c7.1) + c8.1.toInt64))]) C hJ (metM_seatOf l c8.2 v3 (1 : Int32) c9 hc9) (cwV 2 hts (lw_V q1597 q1599 qs88 q118 q1600) rfl rfl rfl hdM_seatOf ⟨Nat.le_of_ble_eq_true rfl, Nat.le_of_ble_eq_true rfl⟩) rfl hl.1 rfl (lv_room (Nat.le_of_ble_eq_true rfl)) dX6_memberDigest_92 (fun H locs hJ => ?_)
    refine lv_i2l (v := c9.1.toInt64) hx hb dX6_memberDigest_95 rfl ?_
    refine lv_ladd hx hb dX6_memberDigest_96 ?_
    refine lv_lstore (lv' := [(4, .long (((31 : Int64) * (((31 : Int64) * c7.1) + c8.1.toInt64)) + c9.1.toInt64)), (0, .ref (kO K)), (3, .int v3)]) hx hb dX6_memberDigest_97 hl (Nat.le_of_ble_eq_true rfl) rfl (fun ls hl => ?_)
    refine lv_ldc2 (v := (31 : Int64)) hx hb hown (hts _ q1751) dX6_memberDigest_99 ?_
    refine lv_lload hx hb dX6_memberDigest_102 (lv_at hl 0 rfl) ?_
    refine lv_lmul hx hb dX6_memberDigest_104 ?_
    refine lv_aload_n hx hb dX6_memberDigest_105 rfl (lv_at hl 1 rfl) ?_
    refine lv_iload_n hx hb dX6_memberDigest_106 rfl (lv_at hl 2 rfl) ?_
    obtain ⟨c10, hc10, h⟩ := ob h
    refine mc_V (As := [.int v3]) (rest := [.long ((31 : Int64) * (((31 : Int64) * (((31 : Int64) * c7.1) + c8.1.toInt64)) + c9.1.toInt64))]) C hJ (metM_sortsBy l c9.2 v3 c10 hc10) (cwV 1 hts (lw_V q1661 q1663 qs97 q118 q1664) rfl rfl rfl hdM_sortsBy ⟨Nat.le_of_ble_eq_true rfl, Nat.le_of_ble_eq_true rfl⟩) rfl hl.1 rfl (lv_room (Nat.le_of_ble_eq_true rfl)) dX6_memberDigest_107 (fun H locs hJ => ?_)
    refine lv_i2l (v := c10.1.toInt64) hx hb dX6_memberDigest_110 rfl ?_
    refine lv_ladd hx hb dX6_memberDigest_111 ?_
    have h := Option.some.inj h
    subst h
    exact hE _ _ _ _ (some (.long ((((31 : Int64) * (((31 : Int64) * (((31 : Int64) * c7.1) + c8.1.toInt64)) + c9.1.toInt64)) + c10.1.toInt64)))) hJ ⟨_, rfl⟩ rfl dX6_memberDigest_112
  refine lp_ind (P := fun (w1 : Int64 × Int32) => ∀ (H : Heap) (locs : List Loc) (ls : Array Slot), MJ K σ s.heap H locs → lv_has ls 7 [(0, .ref (kO K)), (3, .int v3), (4, .long w1.1), (6, .int w1.2)] → W p l e (rmd 11) s m args below meth c H locs 0 0 Q (F0 m 6 ls [])) ?_ _ _ hq2 _ _ _ hJ (lv_sub hl [2, 4, 1, 0] rfl)
  intro nw1 w1 ihw1 zw1 hzw1 hqw1 H locs ls hJ hl
  refine lv_iload hx hb dX6_memberDigest_6 (lv_at hl 3 rfl) ?_
  refine lv_iconst hx hb dX6_memberDigest_8 kc_3 ?_
  refine lv_icmp_ge (tgt := 35) hx hb dX6_memberDigest_9 (by decide) (fun hc3 => ?_) (fun hc3 => ?_)
  · have hzw1 := ip hzw1 hc3
    have hzw1 := Option.some.inj hzw1
    subst hzw1
    have hqw1 : _ = q2 := hqw1
    subst hqw1
    exact hxq2 _ _ _ hJ (lv_sub hl [0, 1, 2] rfl)
  · have hzw1 := im hzw1 hc3
    refine lv_ldc2 (v := (31 : Int64)) hx hb hown (hts _ q1751) dX6_memberDigest_12 ?_
    refine lv_lload hx hb dX6_memberDigest_15 (lv_at hl 2 rfl) ?_
    refine lv_lmul hx hb dX6_memberDigest_17 ?_
    refine lv_aload_n hx hb dX6_memberDigest_18 rfl (lv_at hl 0 rfl) ?_
    refine lv_iload_n hx hb dX6_memberDigest_19 rfl (lv_at hl 1 rfl) ?_
    refine lv_iload hx hb dX6_memberDigest_20 (lv_at hl 3 rfl) ?_
    obtain ⟨c4, hc4, hzw1⟩ := ob hzw1
    refine mc_V (As := [.int v3, .int w1.2]) (rest := [.long ((31 : Int64) * w1.1)]) C hJ (metM_memberOf l σ v3 w1.2 c4 hc4) (cwV 2 hts (lw_V q1427 q1429 qs60 q118 q1430) rfl rfl rfl hdM_memberOf ⟨Nat.le_of_ble_eq_true rfl, Nat.le_of_ble_eq_true rfl⟩) rfl hl.1 rfl (lv_room (Nat.le_of_ble_eq_true rfl)) dX6_memberDigest_22 (fun H locs hJ => ?_)
    refine lv_i2l (v := c4.toInt64) hx hb dX6_memberDigest_25 rfl ?_
    refine lv_ladd hx hb dX6_memberDigest_26 ?_
    refine lv_lstore (lv' := [(4, .long (((31 : Int64) * w1.1) + c4.toInt64)), (0, .ref (kO K)), (3, .int v3), (6, .int w1.2)]) hx hb dX6_memberDigest_27 hl (Nat.le_of_ble_eq_true rfl) rfl (fun ls hl => ?_)
    refine lv_iinc (v := (w1.2 + 1)) (lv' := [(6, .int (w1.2 + 1)), (4, .long (((31 : Int64) * w1.1) + c4.toInt64)), (0, .ref (kO K)), (3, .int v3)]) hx hb dX6_memberDigest_29 hl (k := 3) rfl rfl (Nat.le_of_ble_eq_true rfl) rfl (fun ls hl => ?_)
    refine lv_goto (tgt := 6) hx hb dX6_memberDigest_32 (by decide) ?_
    have hzw1 := Option.some.inj hzw1
    subst hzw1
    exact ihw1 _ hqw1 _ _ _ hJ (lv_sub hl [2, 3, 1, 0] rfl)
def M_digest (σ : MM) : Option (Int64 × MM) :=
  (lp (S := Int64 × Int32 × MM) (T := Int64 × MM) (fun w1 =>
    if (8 : Int32) ≤ w1.2.1 then
        some (.inr (w1.1, w1.2.2))
      else
        (M_count w1.2.2 w1.2.1).bind fun c4 =>
        some (.inl ((((31 : Int64) * w1.1) + c4.1.toInt64), (w1.2.1 + 1), c4.2))) 2000 ((17 : Int64), (0 : Int32), σ)).bind fun q2 =>
  (M_faultOf q2.2 (0 : Int32)).bind fun c5 =>
  (M_faultOf c5.2 (1 : Int32)).bind fun c6 =>
  (lp (S := Int64 × Int32 × MM) (T := Int64 × MM) (fun w7 =>
    if (12 : Int32) ≤ w7.2.1 then
        some (.inr (w7.1, w7.2.2))
      else
        (M_placeDigest w7.2.2 w7.1 w7.2.1).bind fun c10 =>
        some (.inl (c10.1, (w7.2.1 + 1), c10.2))) 2000 ((((31 : Int64) * (((31 : Int64) * q2.1) + c5.1.toInt64)) + c6.1.toInt64), (0 : Int32), c6.2)).bind fun q8 =>
  (lp (S := Int64 × Int32 × MM) (T := Int64 × MM) (fun w11 =>
    if (w11.2.2 4 0) ≤ w11.2.1 then
        some (.inr (w11.1, w11.2.2))
      else
        (M_memberDigest w11.2.2 w11.1 w11.2.1).bind fun c14 =>
        some (.inl (c14.1, (w11.2.1 + 1), c14.2))) 2000 (q8.1, (0 : Int32), q8.2)).bind fun q12 =>
  (lp (S := Int64 × Int32 × MM) (T := Int64 × MM) (fun w15 =>
    if (20 : Int32) ≤ w15.2.1 then
        some (.inr (w15.1, w15.2.2))
      else
        (lp (S := Int64 × Int32 × MM) (T := Int64 × MM) (fun w18 =>
          if (3 : Int32) ≤ w18.2.1 then
              some (.inr (w18.1, w18.2.2))
            else
              (M_houseOf w18.2.2 w15.2.1 w18.2.1).bind fun c21 =>
              some (.inl ((((31 : Int64) * w18.1) + c21.1.toInt64), (w18.2.1 + 1), c21.2))) 2000 (w15.1, (0 : Int32), w15.2.2)).bind fun q19 =>
        some (.inl (q19.1, (w15.2.1 + 1), q19.2))) 2000 (q12.1, (0 : Int32), q12.2)).bind fun q16 =>
  (M_governmentsOf q16.2).bind fun c22 =>
  (M_carriedOf c22.2).bind fun c23 =>
  (lp (S := Int64 × Int32 × MM) (T := Int64 × MM) (fun w24 =>
    if (3 : Int32) ≤ w24.2.1 then
        some (.inr (w24.1, w24.2.2))
      else
        (M_crowdOf w24.2.2 w24.2.1).bind fun c27 =>
        some (.inl ((((31 : Int64) * w24.1) + c27.1.toInt64), (w24.2.1 + 1), c27.2))) 2000 ((((31 : Int64) * (((31 : Int64) * q16.1) + c22.1.toInt64)) + c23.1.toInt64), (0 : Int32), c23.2)).bind fun q25 =>
  (M_oratorOf q25.2).bind fun c28 =>
  (M_stillOf c28.2).bind fun c29 =>
  (M_dustOf c29.2 (8 : Int32) (0 : Int32)).bind fun c30 =>
  (M_dustOf c30.2 (8 : Int32) (1 : Int32)).bind fun c31 =>
  (M_boyOf c31.2 (0 : Int32)).bind fun c32 =>
  (M_boyOf c32.2 (1 : Int32)).bind fun c33 =>
  (M_calmBy c33.2).bind fun c34 =>
  (M_ofRow c34.2 c34.1 (0 : Int32)).bind fun c35 =>
  (M_neverNow c34.2).bind fun c36 =>
  (M_chanceOf c36.2 (5 : Int32) (9 : Int32) (0 : Int32)).bind fun c37 =>
  (M_chanceOf c37.2 (5 : Int32) (9 : Int32) (1 : Int32)).bind fun c38 =>
  (M_agesOf c38.2 (7 : Int32) (6 : Int32) (0 : Int32)).bind fun c39 =>
  (M_agesOf c39.2 (7 : Int32) (6 : Int32) (1 : Int32)).bind fun c40 =>
  some ((((31 : Int64) * (((31 : Int64) * (((31 : Int64) * (((31 : Int64) * (((31 : Int64) * (((31 : Int64) * (((31 : Int64) * (((31 : Int64) * (((31 : Int64) * (((31 : Int64) * (((31 : Int64) * (((31 : Int64) * (((31 : Int64) * q25.1) + c28.1.toInt64)) + c29.1.toInt64)) + c30.1.toInt64)) + c31.1.toInt64)) + c32.1.toInt64)) + c33.1.toInt64)) + c34.1.toInt64)) + c35.toInt64)) + c36.1.toInt64)) + c37.1)) + c38.1)) + c39.1.toInt64)) + c40.1.toInt64), c40.2)
theorem hdM_digest : yX6_digest.cls = RX6 ∧ yX6_digest.cls ≠ "java/lang/invoke/MethodHandle" ∧ yX6_digest.cls ≠ "java/lang/invoke/VarHandle" ∧ (parseMethodDescriptor yX6_digest.desc).map (fun d => d.parameters.length) = some 0 := by decide +kernel
set_option maxHeartbeats 4000000 in
theorem metM_digest (l : Launch) (σ : MM) (res : Int64 × MM) (h : M_digest σ = some res) : MetM l yX6_digest cX6_digest 5 (some .long) 12 (fun K => [.ref (kO K)]) σ (some (.long res.1)) res.2 := by
  refine met_walk rfl (by simp [mRt]) (fun _ => Nat.le_of_ble_eq_true rfl) (fun K p e s m args below meth c Q C hE ls hl hJ => ?_)
  have hx := C.1.1
  have hb := C.1.2.1
  have hown := C.1.2.2.2.1
  have hts := C.1.2.2.2.2
  have hl : lv_has ls 5 [(0, .ref (kO K))] := hl
  unfold M_digest at h
  refine lv_ldc2 (v := (17 : Int64)) hx hb hown (hts _ q1750) dX6_digest_0 ?_
  refine lv_lstore_n (lv' := [(1, .long (17 : Int64)), (0, .ref (kO K))]) hx hb dX6_digest_3 rfl hl (Nat.le_of_ble_eq_true rfl) rfl (fun ls hl => ?_)
  refine lv_iconst hx hb dX6_digest_4 kc_0 ?_
  refine lv_istore_n (lv' := [(3, .int (0 : Int32)), (1, .long (17 : Int64)), (0, .ref (kO K))]) hx hb dX6_digest_5 rfl hl (Nat.le_of_ble_eq_true rfl) rfl (fun ls hl => ?_)
  obtain ⟨q2, hq2, h⟩ := ob h
  have hxq2 : ∀ (H : Heap) (locs : List Loc) (ls : Array Slot), MJ K q2.2 s.heap H locs → lv_has ls 5 [(0, .ref (kO K)), (1, .long q2.1)] → W p l e (rmd 12) s m args below meth c H locs 0 0 Q (F0 m 31 ls []) := by
    intro H locs ls hJ hl
    refine lv_ldc2 (v := (31 : Int64)) hx hb hown (hts _ q1751) dX6_digest_31 ?_
    refine lv_lload_n hx hb dX6_digest_34 rfl (lv_at hl 1 rfl) ?_
    refine lv_lmul hx hb dX6_digest_35 ?_
    refine lv_aload_n hx hb dX6_digest_36 rfl (lv_at hl 0 rfl) ?_
    refine lv_iconst hx hb dX6_digest_37 kc_0 ?_
    obtain ⟨c5, hc5, h⟩ := ob h
    refine mc_V (As := [.int (0 : Int32)]) (rest := [.long ((31 : Int64) * q2.1)]) C hJ (metM_faultOf l q2.2 (0 : Int32) c5 hc5) (cwV 1 hts (lw_V q1380 q1382 qs51 q118 q1383) rfl rfl rfl hdM_faultOf ⟨Nat.le_of_ble_eq_true rfl, Nat.le_of_ble_eq_true rfl⟩) rfl hl.1 rfl (lv_room (Nat.le_of_ble_eq_true rfl)) dX6_digest_38 (fun H locs hJ => ?_)
    refine lv_i2l (v := c5.1.toInt64) hx hb dX6_digest_41 rfl ?_
    refine lv_ladd hx hb dX6_digest_42 ?_
    refine lv_lstore_n (lv' := [(1, .long (((31 : Int64) * q2.1) + c5.1.toInt64)), (0, .ref (kO K))]) hx hb dX6_digest_43 rfl hl (Nat.le_of_ble_eq_true rfl) rfl (fun ls hl => ?_)
    refine lv_ldc2 (v := (31 : Int64)) hx hb hown (hts _ q1751) dX6_digest_44 ?_
    refine lv_lload_n hx hb dX6_digest_47 rfl (lv_at hl 0 rfl) ?_
    refine lv_lmul hx hb dX6_digest_48 ?_
    refine lv_aload_n hx hb dX6_digest_49 rfl (lv_at hl 1 rfl) ?_
    refine lv_iconst hx hb dX6_digest_50 kc_1 ?_
    obtain ⟨c6, hc6, h⟩ := ob h
    refine mc_V (As := [.int (1 : Int32)]) (rest := [.long ((31 : Int64) * (((31 : Int64) * q2.1) + c5.1.toInt64))]) C hJ (metM_faultOf l c5.2 (1 : Int32) c6 hc6) (cwV 1 hts (lw_V q1380 q1382 qs51 q118 q1383) rfl rfl rfl hdM_faultOf ⟨Nat.le_of_ble_eq_true rfl, Nat.le_of_ble_eq_true rfl⟩) rfl hl.1 rfl (lv_room (Nat.le_of_ble_eq_true rfl)) dX6_digest_51 (fun H locs hJ => ?_)
    refine lv_i2l (v := c6.1.toInt64) hx hb dX6_digest_54 rfl ?_
    refine lv_ladd hx hb dX6_digest_55 ?_
    refine lv_lstore_n (lv' := [(1, .long (((31 : Int64) * (((31 : Int64) * q2.1) + c5.1.toInt64)) + c6.1.toInt64)), (0, .ref (kO K))]) hx hb dX6_digest_56 rfl hl (Nat.le_of_ble_eq_true rfl) rfl (fun ls hl => ?_)
    refine lv_iconst hx hb dX6_digest_57 kc_0 ?_
    refine lv_istore_n (lv' := [(3, .int (0 : Int32)), (1, .long (((31 : Int64) * (((31 : Int64) * q2.1) + c5.1.toInt64)) + c6.1.toInt64)), (0, .ref (kO K))]) hx hb dX6_digest_58 rfl hl (Nat.le_of_ble_eq_true rfl) rfl (fun ls hl => ?_)
    obtain ⟨q8, hq8, h⟩ := ob h
    have hxq8 : ∀ (H : Heap) (locs : List Loc) (ls : Array Slot), MJ K q8.2 s.heap H locs → lv_has ls 5 [(0, .ref (kO K)), (1, .long q8.1)] → W p l e (rmd 12) s m args below meth c H locs 0 0 Q (F0 m 78 ls []) := by
      intro H locs ls hJ hl
      refine lv_iconst hx hb dX6_digest_78 kc_0 ?_
      refine lv_istore_n (lv' := [(3, .int (0 : Int32)), (0, .ref (kO K)), (1, .long q8.1)]) hx hb dX6_digest_79 rfl hl (Nat.le_of_ble_eq_true rfl) rfl (fun ls hl => ?_)
      obtain ⟨q12, hq12, h⟩ := ob h
      have hxq12 : ∀ (H : Heap) (locs : List Loc) (ls : Array Slot), MJ K q12.2 s.heap H locs → lv_has ls 5 [(0, .ref (kO K)), (1, .long q12.1)] → W p l e (rmd 12) s m args below meth c H locs 0 0 Q (F0 m 101 ls []) := by
        intro H locs ls hJ hl
        refine lv_iconst hx hb dX6_digest_101 kc_0 ?_
        refine lv_istore_n (lv' := [(3, .int (0 : Int32)), (0, .ref (kO K)), (1, .long q12.1)]) hx hb dX6_digest_102 rfl hl (Nat.le_of_ble_eq_true rfl) rfl (fun ls hl => ?_)
        obtain ⟨q16, hq16, h⟩ := ob h
        have hxq16 : ∀ (H : Heap) (locs : List Loc) (ls : Array Slot), MJ K q16.2 s.heap H locs → lv_has ls 5 [(0, .ref (kO K)), (1, .long q16.1)] → W p l e (rmd 12) s m args below meth c H locs 0 0 Q (F0 m 145 ls []) := by
          intro H locs ls hJ hl
          refine lv_ldc2 (v := (31 : Int64)) hx hb hown (hts _ q1751) dX6_digest_145 ?_
          refine lv_lload_n hx hb dX6_digest_148 rfl (lv_at hl 1 rfl) ?_
          refine lv_lmul hx hb dX6_digest_149 ?_
          refine lv_aload_n hx hb dX6_digest_150 rfl (lv_at hl 0 rfl) ?_
          obtain ⟨c22, hc22, h⟩ := ob h
          refine mc_V (As := []) (rest := [.long ((31 : Int64) * q16.1)]) C hJ (metM_governmentsOf l q16.2 c22 hc22) (cwV 0 hts (lw_V q1549 q1551 qs81 q118 q1552) rfl rfl rfl hdM_governmentsOf ⟨Nat.le_of_ble_eq_true rfl, Nat.le_of_ble_eq_true rfl⟩) rfl hl.1 rfl (lv_room (Nat.le_of_ble_eq_true rfl)) dX6_digest_151 (fun H locs hJ => ?_)
          refine lv_i2l (v := c22.1.toInt64) hx hb dX6_digest_154 rfl ?_
          refine lv_ladd hx hb dX6_digest_155 ?_
          refine lv_lstore_n (lv' := [(1, .long (((31 : Int64) * q16.1) + c22.1.toInt64)), (0, .ref (kO K))]) hx hb dX6_digest_156 rfl hl (Nat.le_of_ble_eq_true rfl) rfl (fun ls hl => ?_)
          refine lv_ldc2 (v := (31 : Int64)) hx hb hown (hts _ q1751) dX6_digest_157 ?_
          refine lv_lload_n hx hb dX6_digest_160 rfl (lv_at hl 0 rfl) ?_
          refine lv_lmul hx hb dX6_digest_161 ?_
          refine lv_aload_n hx hb dX6_digest_162 rfl (lv_at hl 1 rfl) ?_
          obtain ⟨c23, hc23, h⟩ := ob h
          refine mc_V (As := []) (rest := [.long ((31 : Int64) * (((31 : Int64) * q16.1) + c22.1.toInt64))]) C hJ (metM_carriedOf l c22.2 c23 hc23) (cwV 0 hts (lw_V q1561 q1563 qs83 q118 q1564) rfl rfl rfl hdM_carriedOf ⟨Nat.le_of_ble_eq_true rfl, Nat.le_of_ble_eq_true rfl⟩) rfl hl.1 rfl (lv_room (Nat.le_of_ble_eq_true rfl)) dX6_digest_163 (fun H locs hJ => ?_)
          refine lv_i2l (v := c23.1.toInt64) hx hb dX6_digest_166 rfl ?_
          refine lv_ladd hx hb dX6_digest_167 ?_
          refine lv_lstore_n (lv' := [(1, .long (((31 : Int64) * (((31 : Int64) * q16.1) + c22.1.toInt64)) + c23.1.toInt64)), (0, .ref (kO K))]) hx hb dX6_digest_168 rfl hl (Nat.le_of_ble_eq_true rfl) rfl (fun ls hl => ?_)
          refine lv_iconst hx hb dX6_digest_169 kc_0 ?_
          refine lv_istore_n (lv' := [(3, .int (0 : Int32)), (1, .long (((31 : Int64) * (((31 : Int64) * q16.1) + c22.1.toInt64)) + c23.1.toInt64)), (0, .ref (kO K))]) hx hb dX6_digest_170 rfl hl (Nat.le_of_ble_eq_true rfl) rfl (fun ls hl => ?_)
          obtain ⟨q25, hq25, h⟩ := ob h
          have hxq25 : ∀ (H : Heap) (locs : List Loc) (ls : Array Slot), MJ K q25.2 s.heap H locs → lv_has ls 5 [(0, .ref (kO K)), (1, .long q25.1)] → W p l e (rmd 12) s m args below meth c H locs 0 0 Q (F0 m 195 ls []) := by
            intro H locs ls hJ hl
            refine lv_ldc2 (v := (31 : Int64)) hx hb hown (hts _ q1751) dX6_digest_195 ?_
            refine lv_lload_n hx hb dX6_digest_198 rfl (lv_at hl 1 rfl) ?_
            refine lv_lmul hx hb dX6_digest_199 ?_
            refine lv_aload_n hx hb dX6_digest_200 rfl (lv_at hl 0 rfl) ?_
            obtain ⟨c28, hc28, h⟩ := ob h
            refine mc_V (As := []) (rest := [.long ((31 : Int64) * q25.1)]) C hJ (metM_oratorOf l q25.2 c28 hc28) (cwV 0 hts (lw_V q1581 q1583 qs86 q118 q1584) rfl rfl rfl hdM_oratorOf ⟨Nat.le_of_ble_eq_true rfl, Nat.le_of_ble_eq_true rfl⟩) rfl hl.1 rfl (lv_room (Nat.le_of_ble_eq_true rfl)) dX6_digest_201 (fun H locs hJ => ?_)
            refine lv_i2l (v := c28.1.toInt64) hx hb dX6_digest_204 rfl ?_
            refine lv_ladd hx hb dX6_digest_205 ?_
            refine lv_lstore_n (lv' := [(1, .long (((31 : Int64) * q25.1) + c28.1.toInt64)), (0, .ref (kO K))]) hx hb dX6_digest_206 rfl hl (Nat.le_of_ble_eq_true rfl) rfl (fun ls hl => ?_)
            refine lv_ldc2 (v := (31 : Int64)) hx hb hown (hts _ q1751) dX6_digest_207 ?_
            refine lv_lload_n hx hb dX6_digest_210 rfl (lv_at hl 0 rfl) ?_
            refine lv_lmul hx hb dX6_digest_211 ?_
            refine lv_aload_n hx hb dX6_digest_212 rfl (lv_at hl 1 rfl) ?_
            obtain ⟨c29, hc29, h⟩ := ob h
            refine mc_V (As := []) (rest := [.long ((31 : Int64) * (((31 : Int64) * q25.1) + c28.1.toInt64))]) C hJ (metM_stillOf l c28.2 c29 hc29) (cwV 0 hts (lw_V q1589 q1591 qs87 q118 q1592) rfl rfl rfl hdM_stillOf ⟨Nat.le_of_ble_eq_true rfl, Nat.le_of_ble_eq_true rfl⟩) rfl hl.1 rfl (lv_room (Nat.le_of_ble_eq_true rfl)) dX6_digest_213 (fun H locs hJ => ?_)
            refine lv_i2l (v := c29.1.toInt64) hx hb dX6_digest_216 rfl ?_
            refine lv_ladd hx hb dX6_digest_217 ?_
            refine lv_lstore_n (lv' := [(1, .long (((31 : Int64) * (((31 : Int64) * q25.1) + c28.1.toInt64)) + c29.1.toInt64)), (0, .ref (kO K))]) hx hb dX6_digest_218 rfl hl (Nat.le_of_ble_eq_true rfl) rfl (fun ls hl => ?_)
            refine lv_ldc2 (v := (31 : Int64)) hx hb hown (hts _ q1751) dX6_digest_219 ?_
            refine lv_lload_n hx hb dX6_digest_222 rfl (lv_at hl 0 rfl) ?_
            refine lv_lmul hx hb dX6_digest_223 ?_
            refine lv_aload_n hx hb dX6_digest_224 rfl (lv_at hl 1 rfl) ?_
            refine lv_bipush hx hb dX6_digest_225 kb_8 ?_
            refine lv_iconst hx hb dX6_digest_227 kc_0 ?_
            obtain ⟨c30, hc30, h⟩ := ob h
            refine mc_V (As := [.int (8 : Int32), .int (0 : Int32)]) (rest := [.long ((31 : Int64) * (((31 : Int64) * (((31 : Int64) * q25.1) + c28.1.toInt64)) + c29.1.toInt64))]) C hJ (metM_dustOf l c29.2 (8 : Int32) (0 : Int32) c30 hc30) (cwV 2 hts (lw_V q1605 q1607 qs89 q118 q1608) rfl rfl rfl hdM_dustOf ⟨Nat.le_of_ble_eq_true rfl, Nat.le_of_ble_eq_true rfl⟩) rfl hl.1 rfl (lv_room (Nat.le_of_ble_eq_true rfl)) dX6_digest_228 (fun H locs hJ => ?_)
            refine lv_i2l (v := c30.1.toInt64) hx hb dX6_digest_231 rfl ?_
            refine lv_ladd hx hb dX6_digest_232 ?_
            refine lv_lstore_n (lv' := [(1, .long (((31 : Int64) * (((31 : Int64) * (((31 : Int64) * q25.1) + c28.1.toInt64)) + c29.1.toInt64)) + c30.1.toInt64)), (0, .ref (kO K))]) hx hb dX6_digest_233 rfl hl (Nat.le_of_ble_eq_true rfl) rfl (fun ls hl => ?_)
            refine lv_ldc2 (v := (31 : Int64)) hx hb hown (hts _ q1751) dX6_digest_234 ?_
            refine lv_lload_n hx hb dX6_digest_237 rfl (lv_at hl 0 rfl) ?_
            refine lv_lmul hx hb dX6_digest_238 ?_
            refine lv_aload_n hx hb dX6_digest_239 rfl (lv_at hl 1 rfl) ?_
            refine lv_bipush hx hb dX6_digest_240 kb_8 ?_
            refine lv_iconst hx hb dX6_digest_242 kc_1 ?_
            obtain ⟨c31, hc31, h⟩ := ob h
            refine mc_V (As := [.int (8 : Int32), .int (1 : Int32)]) (rest := [.long ((31 : Int64) * (((31 : Int64) * (((31 : Int64) * (((31 : Int64) * q25.1) + c28.1.toInt64)) + c29.1.toInt64)) + c30.1.toInt64))]) C hJ (metM_dustOf l c30.2 (8 : Int32) (1 : Int32) c31 hc31) (cwV 2 hts (lw_V q1605 q1607 qs89 q118 q1608) rfl rfl rfl hdM_dustOf ⟨Nat.le_of_ble_eq_true rfl, Nat.le_of_ble_eq_true rfl⟩) rfl hl.1 rfl (lv_room (Nat.le_of_ble_eq_true rfl)) dX6_digest_243 (fun H locs hJ => ?_)
            refine lv_i2l (v := c31.1.toInt64) hx hb dX6_digest_246 rfl ?_
            refine lv_ladd hx hb dX6_digest_247 ?_
            refine lv_lstore_n (lv' := [(1, .long (((31 : Int64) * (((31 : Int64) * (((31 : Int64) * (((31 : Int64) * q25.1) + c28.1.toInt64)) + c29.1.toInt64)) + c30.1.toInt64)) + c31.1.toInt64)), (0, .ref (kO K))]) hx hb dX6_digest_248 rfl hl (Nat.le_of_ble_eq_true rfl) rfl (fun ls hl => ?_)
            refine lv_ldc2 (v := (31 : Int64)) hx hb hown (hts _ q1751) dX6_digest_249 ?_
            refine lv_lload_n hx hb dX6_digest_252 rfl (lv_at hl 0 rfl) ?_
            refine lv_lmul hx hb dX6_digest_253 ?_
            refine lv_aload_n hx hb dX6_digest_254 rfl (lv_at hl 1 rfl) ?_
            refine lv_iconst hx hb dX6_digest_255 kc_0 ?_
            obtain ⟨c32, hc32, h⟩ := ob h
            refine mc_V (As := [.int (0 : Int32)]) (rest := [.long ((31 : Int64) * (((31 : Int64) * (((31 : Int64) * (((31 : Int64) * (((31 : Int64) * q25.1) + c28.1.toInt64)) + c29.1.toInt64)) + c30.1.toInt64)) + c31.1.toInt64))]) C hJ (metM_boyOf l c31.2 (0 : Int32) c32 hc32) (cwV 1 hts (lw_V q1617 q1619 qs91 q118 q1620) rfl rfl rfl hdM_boyOf ⟨Nat.le_of_ble_eq_true rfl, Nat.le_of_ble_eq_true rfl⟩) rfl hl.1 rfl (lv_room (Nat.le_of_ble_eq_true rfl)) dX6_digest_256 (fun H locs hJ => ?_)
            refine lv_i2l (v := c32.1.toInt64) hx hb dX6_digest_259 rfl ?_
            refine lv_ladd hx hb dX6_digest_260 ?_
            refine lv_lstore_n (lv' := [(1, .long (((31 : Int64) * (((31 : Int64) * (((31 : Int64) * (((31 : Int64) * (((31 : Int64) * q25.1) + c28.1.toInt64)) + c29.1.toInt64)) + c30.1.toInt64)) + c31.1.toInt64)) + c32.1.toInt64)), (0, .ref (kO K))]) hx hb dX6_digest_261 rfl hl (Nat.le_of_ble_eq_true rfl) rfl (fun ls hl => ?_)
            refine lv_ldc2 (v := (31 : Int64)) hx hb hown (hts _ q1751) dX6_digest_262 ?_
            refine lv_lload_n hx hb dX6_digest_265 rfl (lv_at hl 0 rfl) ?_
            refine lv_lmul hx hb dX6_digest_266 ?_
            refine lv_aload_n hx hb dX6_digest_267 rfl (lv_at hl 1 rfl) ?_
            refine lv_iconst hx hb dX6_digest_268 kc_1 ?_
            obtain ⟨c33, hc33, h⟩ := ob h
            refine mc_V (As := [.int (1 : Int32)]) (rest := [.long ((31 : Int64) * (((31 : Int64) * (((31 : Int64) * (((31 : Int64) * (((31 : Int64) * (((31 : Int64) * q25.1) + c28.1.toInt64)) + c29.1.toInt64)) + c30.1.toInt64)) + c31.1.toInt64)) + c32.1.toInt64))]) C hJ (metM_boyOf l c32.2 (1 : Int32) c33 hc33) (cwV 1 hts (lw_V q1617 q1619 qs91 q118 q1620) rfl rfl rfl hdM_boyOf ⟨Nat.le_of_ble_eq_true rfl, Nat.le_of_ble_eq_true rfl⟩) rfl hl.1 rfl (lv_room (Nat.le_of_ble_eq_true rfl)) dX6_digest_269 (fun H locs hJ => ?_)
            refine lv_i2l (v := c33.1.toInt64) hx hb dX6_digest_272 rfl ?_
            refine lv_ladd hx hb dX6_digest_273 ?_
            refine lv_lstore_n (lv' := [(1, .long (((31 : Int64) * (((31 : Int64) * (((31 : Int64) * (((31 : Int64) * (((31 : Int64) * (((31 : Int64) * q25.1) + c28.1.toInt64)) + c29.1.toInt64)) + c30.1.toInt64)) + c31.1.toInt64)) + c32.1.toInt64)) + c33.1.toInt64)), (0, .ref (kO K))]) hx hb dX6_digest_274 rfl hl (Nat.le_of_ble_eq_true rfl) rfl (fun ls hl => ?_)
            refine lv_aload_n hx hb dX6_digest_275 rfl (lv_at hl 1 rfl) ?_
            obtain ⟨c34, hc34, h⟩ := ob h
            refine mc_V (As := []) (rest := []) C hJ (metM_calmBy l c33.2 c34 hc34) (cwV 0 hts (lw_V q1625 q1627 qs92 q118 q1628) rfl rfl rfl hdM_calmBy ⟨Nat.le_of_ble_eq_true rfl, Nat.le_of_ble_eq_true rfl⟩) rfl hl.1 rfl (lv_room (Nat.le_of_ble_eq_true rfl)) dX6_digest_276 (fun H locs hJ => ?_)
            refine lv_istore_n (lv' := [(3, .int c34.1), (1, .long (((31 : Int64) * (((31 : Int64) * (((31 : Int64) * (((31 : Int64) * (((31 : Int64) * (((31 : Int64) * q25.1) + c28.1.toInt64)) + c29.1.toInt64)) + c30.1.toInt64)) + c31.1.toInt64)) + c32.1.toInt64)) + c33.1.toInt64)), (0, .ref (kO K))]) hx hb dX6_digest_279 rfl hl (Nat.le_of_ble_eq_true rfl) rfl (fun ls hl => ?_)
            refine lv_ldc2 (v := (31 : Int64)) hx hb hown (hts _ q1751) dX6_digest_280 ?_
            refine lv_lload_n hx hb dX6_digest_283 rfl (lv_at hl 1 rfl) ?_
            refine lv_lmul hx hb dX6_digest_284 ?_
            refine lv_iload_n hx hb dX6_digest_285 rfl (lv_at hl 0 rfl) ?_
            refine lv_i2l (v := c34.1.toInt64) hx hb dX6_digest_286 rfl ?_
            refine lv_ladd hx hb dX6_digest_287 ?_
            refine lv_lstore_n (lv' := [(1, .long (((31 : Int64) * (((31 : Int64) * (((31 : Int64) * (((31 : Int64) * (((31 : Int64) * (((31 : Int64) * (((31 : Int64) * q25.1) + c28.1.toInt64)) + c29.1.toInt64)) + c30.1.toInt64)) + c31.1.toInt64)) + c32.1.toInt64)) + c33.1.toInt64)) + c34.1.toInt64)), (3, .int c34.1), (0, .ref (kO K))]) hx hb dX6_digest_288 rfl hl (Nat.le_of_ble_eq_true rfl) rfl (fun ls hl => ?_)
            refine lv_ldc2 (v := (31 : Int64)) hx hb hown (hts _ q1751) dX6_digest_289 ?_
            refine lv_lload_n hx hb dX6_digest_292 rfl (lv_at hl 0 rfl) ?_
            refine lv_lmul hx hb dX6_digest_293 ?_
            refine lv_aload_n hx hb dX6_digest_294 rfl (lv_at hl 2 rfl) ?_
            refine lv_iload_n hx hb dX6_digest_295 rfl (lv_at hl 1 rfl) ?_
            refine lv_iconst hx hb dX6_digest_296 kc_0 ?_
            obtain ⟨c35, hc35, h⟩ := ob h
            refine mc_V (As := [.int c34.1, .int (0 : Int32)]) (rest := [.long ((31 : Int64) * (((31 : Int64) * (((31 : Int64) * (((31 : Int64) * (((31 : Int64) * (((31 : Int64) * (((31 : Int64) * (((31 : Int64) * q25.1) + c28.1.toInt64)) + c29.1.toInt64)) + c30.1.toInt64)) + c31.1.toInt64)) + c32.1.toInt64)) + c33.1.toInt64)) + c34.1.toInt64))]) C hJ (metM_ofRow l c34.2 c34.1 (0 : Int32) c35 hc35) (cwV 2 hts (lw_V q1633 q1635 qs94 q118 q1636) rfl rfl rfl hdM_ofRow ⟨Nat.le_of_ble_eq_true rfl, Nat.le_of_ble_eq_true rfl⟩) rfl hl.1 rfl (lv_room (Nat.le_of_ble_eq_true rfl)) dX6_digest_297 (fun H locs hJ => ?_)
            refine lv_i2l (v := c35.toInt64) hx hb dX6_digest_300 rfl ?_
            refine lv_ladd hx hb dX6_digest_301 ?_
            refine lv_lstore_n (lv' := [(1, .long (((31 : Int64) * (((31 : Int64) * (((31 : Int64) * (((31 : Int64) * (((31 : Int64) * (((31 : Int64) * (((31 : Int64) * (((31 : Int64) * q25.1) + c28.1.toInt64)) + c29.1.toInt64)) + c30.1.toInt64)) + c31.1.toInt64)) + c32.1.toInt64)) + c33.1.toInt64)) + c34.1.toInt64)) + c35.toInt64)), (3, .int c34.1), (0, .ref (kO K))]) hx hb dX6_digest_302 rfl hl (Nat.le_of_ble_eq_true rfl) rfl (fun ls hl => ?_)
            refine lv_ldc2 (v := (31 : Int64)) hx hb hown (hts _ q1751) dX6_digest_303 ?_
            refine lv_lload_n hx hb dX6_digest_306 rfl (lv_at hl 0 rfl) ?_
            refine lv_lmul hx hb dX6_digest_307 ?_
            refine lv_aload_n hx hb dX6_digest_308 rfl (lv_at hl 2 rfl) ?_
            obtain ⟨c36, hc36, h⟩ := ob h
            refine mc_V (As := []) (rest := [.long ((31 : Int64) * (((31 : Int64) * (((31 : Int64) * (((31 : Int64) * (((31 : Int64) * (((31 : Int64) * (((31 : Int64) * (((31 : Int64) * (((31 : Int64) * q25.1) + c28.1.toInt64)) + c29.1.toInt64)) + c30.1.toInt64)) + c31.1.toInt64)) + c32.1.toInt64)) + c33.1.toInt64)) + c34.1.toInt64)) + c35.toInt64))]) C hJ (metM_neverNow l c34.2 c36 hc36) (cwV 0 hts (lw_V q1649 q1651 qs95 q118 q1652) rfl rfl rfl hdM_neverNow ⟨Nat.le_of_ble_eq_true rfl, Nat.le_of_ble_eq_true rfl⟩) rfl hl.1 rfl (lv_room (Nat.le_of_ble_eq_true rfl)) dX6_digest_309 (fun H locs hJ => ?_)
            refine lv_i2l (v := c36.1.toInt64) hx hb dX6_digest_312 rfl ?_
            refine lv_ladd hx hb dX6_digest_313 ?_
            refine lv_lstore_n (lv' := [(1, .long (((31 : Int64) * (((31 : Int64) * (((31 : Int64) * (((31 : Int64) * (((31 : Int64) * (((31 : Int64) * (((31 : Int64) * (((31 : Int64) * (((31 : Int64) * q25.1) + c28.1.toInt64)) + c29.1.toInt64)) + c30.1.toInt64)) + c31.1.toInt64)) + c32.1.toInt64)) + c33.1.toInt64)) + c34.1.toInt64)) + c35.toInt64)) + c36.1.toInt64)), (3, .int c34.1), (0, .ref (kO K))]) hx hb dX6_digest_314 rfl hl (Nat.le_of_ble_eq_true rfl) rfl (fun ls hl => ?_)
            refine lv_ldc2 (v := (31 : Int64)) hx hb hown (hts _ q1751) dX6_digest_315 ?_
            refine lv_lload_n hx hb dX6_digest_318 rfl (lv_at hl 0 rfl) ?_
            refine lv_lmul hx hb dX6_digest_319 ?_
            refine lv_aload_n hx hb dX6_digest_320 rfl (lv_at hl 2 rfl) ?_
            refine lv_iconst hx hb dX6_digest_321 kc_5 ?_
            refine lv_bipush hx hb dX6_digest_322 kb_9 ?_
            refine lv_iconst hx hb dX6_digest_324 kc_0 ?_
            obtain ⟨c37, hc37, h⟩ := ob h
            refine mc_V (As := [.int (5 : Int32), .int (9 : Int32), .int (0 : Int32)]) (rest := [.long ((31 : Int64) * (((31 : Int64) * (((31 : Int64) * (((31 : Int64) * (((31 : Int64) * (((31 : Int64) * (((31 : Int64) * (((31 : Int64) * (((31 : Int64) * (((31 : Int64) * q25.1) + c28.1.toInt64)) + c29.1.toInt64)) + c30.1.toInt64)) + c31.1.toInt64)) + c32.1.toInt64)) + c33.1.toInt64)) + c34.1.toInt64)) + c35.toInt64)) + c36.1.toInt64))]) C hJ (metM_chanceOf l c36.2 (5 : Int32) (9 : Int32) (0 : Int32) c37 hc37) (cwV 3 hts (lw_V q1685 q1687 qs100 q118 q1688) rfl rfl rfl hdM_chanceOf ⟨Nat.le_of_ble_eq_true rfl, Nat.le_of_ble_eq_true rfl⟩) rfl hl.1 rfl (lv_room (Nat.le_of_ble_eq_true rfl)) dX6_digest_325 (fun H locs hJ => ?_)
            refine lv_ladd hx hb dX6_digest_328 ?_
            refine lv_lstore_n (lv' := [(1, .long (((31 : Int64) * (((31 : Int64) * (((31 : Int64) * (((31 : Int64) * (((31 : Int64) * (((31 : Int64) * (((31 : Int64) * (((31 : Int64) * (((31 : Int64) * (((31 : Int64) * q25.1) + c28.1.toInt64)) + c29.1.toInt64)) + c30.1.toInt64)) + c31.1.toInt64)) + c32.1.toInt64)) + c33.1.toInt64)) + c34.1.toInt64)) + c35.toInt64)) + c36.1.toInt64)) + c37.1)), (3, .int c34.1), (0, .ref (kO K))]) hx hb dX6_digest_329 rfl hl (Nat.le_of_ble_eq_true rfl) rfl (fun ls hl => ?_)
            refine lv_ldc2 (v := (31 : Int64)) hx hb hown (hts _ q1751) dX6_digest_330 ?_
            refine lv_lload_n hx hb dX6_digest_333 rfl (lv_at hl 0 rfl) ?_
            refine lv_lmul hx hb dX6_digest_334 ?_
            refine lv_aload_n hx hb dX6_digest_335 rfl (lv_at hl 2 rfl) ?_
            refine lv_iconst hx hb dX6_digest_336 kc_5 ?_
            refine lv_bipush hx hb dX6_digest_337 kb_9 ?_
            refine lv_iconst hx hb dX6_digest_339 kc_1 ?_
            obtain ⟨c38, hc38, h⟩ := ob h
            refine mc_V (As := [.int (5 : Int32), .int (9 : Int32), .int (1 : Int32)]) (rest := [.long ((31 : Int64) * (((31 : Int64) * (((31 : Int64) * (((31 : Int64) * (((31 : Int64) * (((31 : Int64) * (((31 : Int64) * (((31 : Int64) * (((31 : Int64) * (((31 : Int64) * (((31 : Int64) * q25.1) + c28.1.toInt64)) + c29.1.toInt64)) + c30.1.toInt64)) + c31.1.toInt64)) + c32.1.toInt64)) + c33.1.toInt64)) + c34.1.toInt64)) + c35.toInt64)) + c36.1.toInt64)) + c37.1))]) C hJ (metM_chanceOf l c37.2 (5 : Int32) (9 : Int32) (1 : Int32) c38 hc38) (cwV 3 hts (lw_V q1685 q1687 qs100 q118 q1688) rfl rfl rfl hdM_chanceOf ⟨Nat.le_of_ble_eq_true rfl, Nat.le_of_ble_eq_true rfl⟩) rfl hl.1 rfl (lv_room (Nat.le_of_ble_eq_true rfl)) dX6_digest_340 (fun H locs hJ => ?_)
            refine lv_ladd hx hb dX6_digest_343 ?_
            refine lv_lstore_n (lv' := [(1, .long (((31 : Int64) * (((31 : Int64) * (((31 : Int64) * (((31 : Int64) * (((31 : Int64) * (((31 : Int64) * (((31 : Int64) * (((31 : Int64) * (((31 : Int64) * (((31 : Int64) * (((31 : Int64) * q25.1) + c28.1.toInt64)) + c29.1.toInt64)) + c30.1.toInt64)) + c31.1.toInt64)) + c32.1.toInt64)) + c33.1.toInt64)) + c34.1.toInt64)) + c35.toInt64)) + c36.1.toInt64)) + c37.1)) + c38.1)), (3, .int c34.1), (0, .ref (kO K))]) hx hb dX6_digest_344 rfl hl (Nat.le_of_ble_eq_true rfl) rfl (fun ls hl => ?_)
            refine lv_ldc2 (v := (31 : Int64)) hx hb hown (hts _ q1751) dX6_digest_345 ?_
            refine lv_lload_n hx hb dX6_digest_348 rfl (lv_at hl 0 rfl) ?_
            refine lv_lmul hx hb dX6_digest_349 ?_
            refine lv_aload_n hx hb dX6_digest_350 rfl (lv_at hl 2 rfl) ?_
            refine lv_bipush hx hb dX6_digest_351 kb_7 ?_
            refine lv_bipush hx hb dX6_digest_353 kb_6 ?_
            refine lv_iconst hx hb dX6_digest_355 kc_0 ?_
            obtain ⟨c39, hc39, h⟩ := ob h
            refine mc_V (As := [.int (7 : Int32), .int (6 : Int32), .int (0 : Int32)]) (rest := [.long ((31 : Int64) * (((31 : Int64) * (((31 : Int64) * (((31 : Int64) * (((31 : Int64) * (((31 : Int64) * (((31 : Int64) * (((31 : Int64) * (((31 : Int64) * (((31 : Int64) * (((31 : Int64) * (((31 : Int64) * q25.1) + c28.1.toInt64)) + c29.1.toInt64)) + c30.1.toInt64)) + c31.1.toInt64)) + c32.1.toInt64)) + c33.1.toInt64)) + c34.1.toInt64)) + c35.toInt64)) + c36.1.toInt64)) + c37.1)) + c38.1))]) C hJ (metM_agesOf l c38.2 (7 : Int32) (6 : Int32) (0 : Int32) c39 hc39) (cwV 3 hts (lw_V q1700 q1702 qs101 q118 q1703) rfl rfl rfl hdM_agesOf ⟨Nat.le_of_ble_eq_true rfl, Nat.le_of_ble_eq_true rfl⟩) rfl hl.1 rfl (lv_room (Nat.le_of_ble_eq_true rfl)) dX6_digest_356 (fun H locs hJ => ?_)
            refine lv_i2l (v := c39.1.toInt64) hx hb dX6_digest_359 rfl ?_
            refine lv_ladd hx hb dX6_digest_360 ?_
            refine lv_lstore_n (lv' := [(1, .long (((31 : Int64) * (((31 : Int64) * (((31 : Int64) * (((31 : Int64) * (((31 : Int64) * (((31 : Int64) * (((31 : Int64) * (((31 : Int64) * (((31 : Int64) * (((31 : Int64) * (((31 : Int64) * (((31 : Int64) * q25.1) + c28.1.toInt64)) + c29.1.toInt64)) + c30.1.toInt64)) + c31.1.toInt64)) + c32.1.toInt64)) + c33.1.toInt64)) + c34.1.toInt64)) + c35.toInt64)) + c36.1.toInt64)) + c37.1)) + c38.1)) + c39.1.toInt64)), (3, .int c34.1), (0, .ref (kO K))]) hx hb dX6_digest_361 rfl hl (Nat.le_of_ble_eq_true rfl) rfl (fun ls hl => ?_)
            refine lv_ldc2 (v := (31 : Int64)) hx hb hown (hts _ q1751) dX6_digest_362 ?_
            refine lv_lload_n hx hb dX6_digest_365 rfl (lv_at hl 0 rfl) ?_
            refine lv_lmul hx hb dX6_digest_366 ?_
            refine lv_aload_n hx hb dX6_digest_367 rfl (lv_at hl 2 rfl) ?_
            refine lv_bipush hx hb dX6_digest_368 kb_7 ?_
            refine lv_bipush hx hb dX6_digest_370 kb_6 ?_
            refine lv_iconst hx hb dX6_digest_372 kc_1 ?_
            obtain ⟨c40, hc40, h⟩ := ob h
            refine mc_V (As := [.int (7 : Int32), .int (6 : Int32), .int (1 : Int32)]) (rest := [.long ((31 : Int64) * (((31 : Int64) * (((31 : Int64) * (((31 : Int64) * (((31 : Int64) * (((31 : Int64) * (((31 : Int64) * (((31 : Int64) * (((31 : Int64) * (((31 : Int64) * (((31 : Int64) * (((31 : Int64) * (((31 : Int64) * q25.1) + c28.1.toInt64)) + c29.1.toInt64)) + c30.1.toInt64)) + c31.1.toInt64)) + c32.1.toInt64)) + c33.1.toInt64)) + c34.1.toInt64)) + c35.toInt64)) + c36.1.toInt64)) + c37.1)) + c38.1)) + c39.1.toInt64))]) C hJ (metM_agesOf l c39.2 (7 : Int32) (6 : Int32) (1 : Int32) c40 hc40) (cwV 3 hts (lw_V q1700 q1702 qs101 q118 q1703) rfl rfl rfl hdM_agesOf ⟨Nat.le_of_ble_eq_true rfl, Nat.le_of_ble_eq_true rfl⟩) rfl hl.1 rfl (lv_room (Nat.le_of_ble_eq_true rfl)) dX6_digest_373 (fun H locs hJ => ?_)
            refine lv_i2l (v := c40.1.toInt64) hx hb dX6_digest_376 rfl ?_
            refine lv_ladd hx hb dX6_digest_377 ?_
            have h := Option.some.inj h
            subst h
            exact hE _ _ _ _ (some (.long ((((31 : Int64) * (((31 : Int64) * (((31 : Int64) * (((31 : Int64) * (((31 : Int64) * (((31 : Int64) * (((31 : Int64) * (((31 : Int64) * (((31 : Int64) * (((31 : Int64) * (((31 : Int64) * (((31 : Int64) * (((31 : Int64) * q25.1) + c28.1.toInt64)) + c29.1.toInt64)) + c30.1.toInt64)) + c31.1.toInt64)) + c32.1.toInt64)) + c33.1.toInt64)) + c34.1.toInt64)) + c35.toInt64)) + c36.1.toInt64)) + c37.1)) + c38.1)) + c39.1.toInt64)) + c40.1.toInt64)))) hJ ⟨_, rfl⟩ rfl dX6_digest_378
          refine lp_ind (P := fun (w24 : Int64 × Int32 × MM) => ∀ (H : Heap) (locs : List Loc) (ls : Array Slot), MJ K w24.2.2 s.heap H locs → lv_has ls 5 [(0, .ref (kO K)), (1, .long w24.1), (3, .int w24.2.1)] → W p l e (rmd 12) s m args below meth c H locs 0 0 Q (F0 m 171 ls [])) ?_ _ _ hq25 _ _ _ hJ (lv_sub hl [2, 1, 0] rfl)
          intro nw24 w24 ihw24 zw24 hzw24 hqw24 H locs ls hJ hl
          refine lv_iload_n hx hb dX6_digest_171 rfl (lv_at hl 2 rfl) ?_
          refine lv_iconst hx hb dX6_digest_172 kc_3 ?_
          refine lv_icmp_ge (tgt := 195) hx hb dX6_digest_173 (by decide) (fun hc26 => ?_) (fun hc26 => ?_)
          · have hzw24 := ip hzw24 hc26
            have hzw24 := Option.some.inj hzw24
            subst hzw24
            have hqw24 : _ = q25 := hqw24
            subst hqw24
            exact hxq25 _ _ _ hJ (lv_sub hl [0, 1] rfl)
          · have hzw24 := im hzw24 hc26
            refine lv_ldc2 (v := (31 : Int64)) hx hb hown (hts _ q1751) dX6_digest_176 ?_
            refine lv_lload_n hx hb dX6_digest_179 rfl (lv_at hl 1 rfl) ?_
            refine lv_lmul hx hb dX6_digest_180 ?_
            refine lv_aload_n hx hb dX6_digest_181 rfl (lv_at hl 0 rfl) ?_
            refine lv_iload_n hx hb dX6_digest_182 rfl (lv_at hl 2 rfl) ?_
            obtain ⟨c27, hc27, hzw24⟩ := ob hzw24
            refine mc_V (As := [.int w24.2.1]) (rest := [.long ((31 : Int64) * w24.1)]) C hJ (metM_crowdOf l w24.2.2 w24.2.1 c27 hc27) (cwV 1 hts (lw_V q1573 q1575 qs85 q118 q1576) rfl rfl rfl hdM_crowdOf ⟨Nat.le_of_ble_eq_true rfl, Nat.le_of_ble_eq_true rfl⟩) rfl hl.1 rfl (lv_room (Nat.le_of_ble_eq_true rfl)) dX6_digest_183 (fun H locs hJ => ?_)
            refine lv_i2l (v := c27.1.toInt64) hx hb dX6_digest_186 rfl ?_
            refine lv_ladd hx hb dX6_digest_187 ?_
            refine lv_lstore_n (lv' := [(1, .long (((31 : Int64) * w24.1) + c27.1.toInt64)), (0, .ref (kO K)), (3, .int w24.2.1)]) hx hb dX6_digest_188 rfl hl (Nat.le_of_ble_eq_true rfl) rfl (fun ls hl => ?_)
            refine lv_iinc (v := (w24.2.1 + 1)) (lv' := [(3, .int (w24.2.1 + 1)), (1, .long (((31 : Int64) * w24.1) + c27.1.toInt64)), (0, .ref (kO K))]) hx hb dX6_digest_189 hl (k := 2) rfl rfl (Nat.le_of_ble_eq_true rfl) rfl (fun ls hl => ?_)
            refine lv_goto (tgt := 171) hx hb dX6_digest_192 (by decide) ?_
            have hzw24 := Option.some.inj hzw24
            subst hzw24
            exact ihw24 _ hqw24 _ _ _ hJ (lv_sub hl [2, 1, 0] rfl)
        refine lp_ind (P := fun (w15 : Int64 × Int32 × MM) => ∀ (H : Heap) (locs : List Loc) (ls : Array Slot), MJ K w15.2.2 s.heap H locs → lv_has ls 5 [(0, .ref (kO K)), (1, .long w15.1), (3, .int w15.2.1)] → W p l e (rmd 12) s m args below meth c H locs 0 0 Q (F0 m 103 ls [])) ?_ _ _ hq16 _ _ _ hJ (lv_sub hl [1, 2, 0] rfl)
        intro nw15 w15 ihw15 zw15 hzw15 hqw15 H locs ls hJ hl
        refine lv_iload_n hx hb dX6_digest_103 rfl (lv_at hl 2 rfl) ?_
        refine lv_bipush hx hb dX6_digest_104 kb_20 ?_
        refine lv_icmp_ge (tgt := 145) hx hb dX6_digest_106 (by decide) (fun hc17 => ?_) (fun hc17 => ?_)
        · have hzw15 := ip hzw15 hc17
          have hzw15 := Option.some.inj hzw15
          subst hzw15
          have hqw15 : _ = q16 := hqw15
          subst hqw15
          exact hxq16 _ _ _ hJ (lv_sub hl [0, 1] rfl)
        · have hzw15 := im hzw15 hc17
          refine lv_iconst hx hb dX6_digest_109 kc_0 ?_
          refine lv_istore (lv' := [(4, .int (0 : Int32)), (0, .ref (kO K)), (1, .long w15.1), (3, .int w15.2.1)]) hx hb dX6_digest_110 hl (Nat.le_of_ble_eq_true rfl) rfl (fun ls hl => ?_)
          obtain ⟨q19, hq19, hzw15⟩ := ob hzw15
          have hxq19 : ∀ (H : Heap) (locs : List Loc) (ls : Array Slot), MJ K q19.2 s.heap H locs → lv_has ls 5 [(0, .ref (kO K)), (1, .long q19.1), (3, .int w15.2.1)] → W p l e (rmd 12) s m args below meth c H locs 0 0 Q (F0 m 139 ls []) := by
            intro H locs ls hJ hl
            refine lv_iinc (v := (w15.2.1 + 1)) (lv' := [(3, .int (w15.2.1 + 1)), (0, .ref (kO K)), (1, .long q19.1)]) hx hb dX6_digest_139 hl (k := 2) rfl rfl (Nat.le_of_ble_eq_true rfl) rfl (fun ls hl => ?_)
            refine lv_goto (tgt := 103) hx hb dX6_digest_142 (by decide) ?_
            have hzw15 := Option.some.inj hzw15
            subst hzw15
            exact ihw15 _ hqw15 _ _ _ hJ (lv_sub hl [1, 2, 0] rfl)
          refine lp_ind (P := fun (w18 : Int64 × Int32 × MM) => ∀ (H : Heap) (locs : List Loc) (ls : Array Slot), MJ K w18.2.2 s.heap H locs → lv_has ls 5 [(0, .ref (kO K)), (1, .long w18.1), (3, .int w15.2.1), (4, .int w18.2.1)] → W p l e (rmd 12) s m args below meth c H locs 0 0 Q (F0 m 112 ls [])) ?_ _ _ hq19 _ _ _ hJ (lv_sub hl [1, 2, 3, 0] rfl)
          intro nw18 w18 ihw18 zw18 hzw18 hqw18 H locs ls hJ hl
          refine lv_iload hx hb dX6_digest_112 (lv_at hl 3 rfl) ?_
          refine lv_iconst hx hb dX6_digest_114 kc_3 ?_
          refine lv_icmp_ge (tgt := 139) hx hb dX6_digest_115 (by decide) (fun hc20 => ?_) (fun hc20 => ?_)
          · have hzw18 := ip hzw18 hc20
            have hzw18 := Option.some.inj hzw18
            subst hzw18
            have hqw18 : _ = q19 := hqw18
            subst hqw18
            exact hxq19 _ _ _ hJ (lv_sub hl [0, 1, 2] rfl)
          · have hzw18 := im hzw18 hc20
            refine lv_ldc2 (v := (31 : Int64)) hx hb hown (hts _ q1751) dX6_digest_118 ?_
            refine lv_lload_n hx hb dX6_digest_121 rfl (lv_at hl 1 rfl) ?_
            refine lv_lmul hx hb dX6_digest_122 ?_
            refine lv_aload_n hx hb dX6_digest_123 rfl (lv_at hl 0 rfl) ?_
            refine lv_iload_n hx hb dX6_digest_124 rfl (lv_at hl 2 rfl) ?_
            refine lv_iload hx hb dX6_digest_125 (lv_at hl 3 rfl) ?_
            obtain ⟨c21, hc21, hzw18⟩ := ob hzw18
            refine mc_V (As := [.int w15.2.1, .int w18.2.1]) (rest := [.long ((31 : Int64) * w18.1)]) C hJ (metM_houseOf l w18.2.2 w15.2.1 w18.2.1 c21 hc21) (cwV 2 hts (lw_V q1537 q1539 qs79 q118 q1540) rfl rfl rfl hdM_houseOf ⟨Nat.le_of_ble_eq_true rfl, Nat.le_of_ble_eq_true rfl⟩) rfl hl.1 rfl (lv_room (Nat.le_of_ble_eq_true rfl)) dX6_digest_127 (fun H locs hJ => ?_)
            refine lv_i2l (v := c21.1.toInt64) hx hb dX6_digest_130 rfl ?_
            refine lv_ladd hx hb dX6_digest_131 ?_
            refine lv_lstore_n (lv' := [(1, .long (((31 : Int64) * w18.1) + c21.1.toInt64)), (0, .ref (kO K)), (3, .int w15.2.1), (4, .int w18.2.1)]) hx hb dX6_digest_132 rfl hl (Nat.le_of_ble_eq_true rfl) rfl (fun ls hl => ?_)
            refine lv_iinc (v := (w18.2.1 + 1)) (lv' := [(4, .int (w18.2.1 + 1)), (1, .long (((31 : Int64) * w18.1) + c21.1.toInt64)), (0, .ref (kO K)), (3, .int w15.2.1)]) hx hb dX6_digest_133 hl (k := 3) rfl rfl (Nat.le_of_ble_eq_true rfl) rfl (fun ls hl => ?_)
            refine lv_goto (tgt := 112) hx hb dX6_digest_136 (by decide) ?_
            have hzw18 := Option.some.inj hzw18
            subst hzw18
            exact ihw18 _ hqw18 _ _ _ hJ (lv_sub hl [2, 1, 3, 0] rfl)
      refine lp_ind (P := fun (w11 : Int64 × Int32 × MM) => ∀ (H : Heap) (locs : List Loc) (ls : Array Slot), MJ K w11.2.2 s.heap H locs → lv_has ls 5 [(0, .ref (kO K)), (1, .long w11.1), (3, .int w11.2.1)] → W p l e (rmd 12) s m args below meth c H locs 0 0 Q (F0 m 80 ls [])) ?_ _ _ hq12 _ _ _ hJ (lv_sub hl [1, 2, 0] rfl)
      intro nw11 w11 ihw11 zw11 hzw11 hqw11 H locs ls hJ hl
      refine lv_iload_n hx hb dX6_digest_80 rfl (lv_at hl 2 rfl) ?_
      refine lv_aload_n hx hb dX6_digest_81 rfl (lv_at hl 0 rfl) ?_
      refine mx_gi C hJ 4 (Nat.le_of_ble_eq_true rfl) rfl lk4 dX6_digest_82 ?_
      refine lv_icmp_ge (tgt := 101) hx hb dX6_digest_85 (by decide) (fun hc13 => ?_) (fun hc13 => ?_)
      · have hzw11 := ip hzw11 hc13
        have hzw11 := Option.some.inj hzw11
        subst hzw11
        have hqw11 : _ = q12 := hqw11
        subst hqw11
        exact hxq12 _ _ _ hJ (lv_sub hl [0, 1] rfl)
      · have hzw11 := im hzw11 hc13
        refine lv_aload_n hx hb dX6_digest_88 rfl (lv_at hl 0 rfl) ?_
        refine lv_lload_n hx hb dX6_digest_89 rfl (lv_at hl 1 rfl) ?_
        refine lv_iload_n hx hb dX6_digest_90 rfl (lv_at hl 2 rfl) ?_
        obtain ⟨c14, hc14, hzw11⟩ := ob hzw11
        refine mc_V (As := [.long w11.1, .int w11.2.1]) (rest := []) C hJ (metM_memberDigest l w11.2.2 w11.1 w11.2.1 c14 hc14) (cwV 2 hts (lw_V q1757 q1759 qs106 q118 q1760) rfl rfl rfl hdM_memberDigest ⟨Nat.le_of_ble_eq_true rfl, Nat.le_of_ble_eq_true rfl⟩) rfl hl.1 rfl (lv_room (Nat.le_of_ble_eq_true rfl)) dX6_digest_91 (fun H locs hJ => ?_)
        refine lv_lstore_n (lv' := [(1, .long c14.1), (0, .ref (kO K)), (3, .int w11.2.1)]) hx hb dX6_digest_94 rfl hl (Nat.le_of_ble_eq_true rfl) rfl (fun ls hl => ?_)
        refine lv_iinc (v := (w11.2.1 + 1)) (lv' := [(3, .int (w11.2.1 + 1)), (1, .long c14.1), (0, .ref (kO K))]) hx hb dX6_digest_95 hl (k := 2) rfl rfl (Nat.le_of_ble_eq_true rfl) rfl (fun ls hl => ?_)
        refine lv_goto (tgt := 80) hx hb dX6_digest_98 (by decide) ?_
        have hzw11 := Option.some.inj hzw11
        subst hzw11
        exact ihw11 _ hqw11 _ _ _ hJ (lv_sub hl [2, 1, 0] rfl)
    refine lp_ind (P := fun (w7 : Int64 × Int32 × MM) => ∀ (H : Heap) (locs : List Loc) (ls : Array Slot), MJ K w7.2.2 s.heap H locs → lv_has ls 5 [(0, .ref (kO K)), (1, .long w7.1), (3, .int w7.2.1)] → W p l e (rmd 12) s m args below meth c H locs 0 0 Q (F0 m 59 ls [])) ?_ _ _ hq8 _ _ _ hJ (lv_sub hl [2, 1, 0] rfl)
    intro nw7 w7 ihw7 zw7 hzw7 hqw7 H locs ls hJ hl
    refine lv_iload_n hx hb dX6_digest_59 rfl (lv_at hl 2 rfl) ?_
    refine lv_bipush hx hb dX6_digest_60 kb_12 ?_
    refine lv_icmp_ge (tgt := 78) hx hb dX6_digest_62 (by decide) (fun hc9 => ?_) (fun hc9 => ?_)
    · have hzw7 := ip hzw7 hc9
      have hzw7 := Option.some.inj hzw7
      subst hzw7
      have hqw7 : _ = q8 := hqw7
      subst hqw7
      exact hxq8 _ _ _ hJ (lv_sub hl [0, 1] rfl)
    · have hzw7 := im hzw7 hc9
      refine lv_aload_n hx hb dX6_digest_65 rfl (lv_at hl 0 rfl) ?_
      refine lv_lload_n hx hb dX6_digest_66 rfl (lv_at hl 1 rfl) ?_
      refine lv_iload_n hx hb dX6_digest_67 rfl (lv_at hl 2 rfl) ?_
      obtain ⟨c10, hc10, hzw7⟩ := ob hzw7
      refine mc_V (As := [.long w7.1, .int w7.2.1]) (rest := []) C hJ (metM_placeDigest l w7.2.2 w7.1 w7.2.1 c10 hc10) (cwV 2 hts (lw_V q1753 q1755 qs105 q118 q1756) rfl rfl rfl hdM_placeDigest ⟨Nat.le_of_ble_eq_true rfl, Nat.le_of_ble_eq_true rfl⟩) rfl hl.1 rfl (lv_room (Nat.le_of_ble_eq_true rfl)) dX6_digest_68 (fun H locs hJ => ?_)
      refine lv_lstore_n (lv' := [(1, .long c10.1), (0, .ref (kO K)), (3, .int w7.2.1)]) hx hb dX6_digest_71 rfl hl (Nat.le_of_ble_eq_true rfl) rfl (fun ls hl => ?_)
      refine lv_iinc (v := (w7.2.1 + 1)) (lv' := [(3, .int (w7.2.1 + 1)), (1, .long c10.1), (0, .ref (kO K))]) hx hb dX6_digest_72 hl (k := 2) rfl rfl (Nat.le_of_ble_eq_true rfl) rfl (fun ls hl => ?_)
      refine lv_goto (tgt := 59) hx hb dX6_digest_75 (by decide) ?_
      have hzw7 := Option.some.inj hzw7
      subst hzw7
      exact ihw7 _ hqw7 _ _ _ hJ (lv_sub hl [2, 1, 0] rfl)
  refine lp_ind (P := fun (w1 : Int64 × Int32 × MM) => ∀ (H : Heap) (locs : List Loc) (ls : Array Slot), MJ K w1.2.2 s.heap H locs → lv_has ls 5 [(0, .ref (kO K)), (1, .long w1.1), (3, .int w1.2.1)] → W p l e (rmd 12) s m args below meth c H locs 0 0 Q (F0 m 6 ls [])) ?_ _ _ hq2 _ _ _ hJ (lv_sub hl [2, 1, 0] rfl)
  intro nw1 w1 ihw1 zw1 hzw1 hqw1 H locs ls hJ hl
  refine lv_iload_n hx hb dX6_digest_6 rfl (lv_at hl 2 rfl) ?_
  refine lv_bipush hx hb dX6_digest_7 kb_8 ?_
  refine lv_icmp_ge (tgt := 31) hx hb dX6_digest_9 (by decide) (fun hc3 => ?_) (fun hc3 => ?_)
  · have hzw1 := ip hzw1 hc3
    have hzw1 := Option.some.inj hzw1
    subst hzw1
    have hqw1 : _ = q2 := hqw1
    subst hqw1
    exact hxq2 _ _ _ hJ (lv_sub hl [0, 1] rfl)
  · have hzw1 := im hzw1 hc3
    refine lv_ldc2 (v := (31 : Int64)) hx hb hown (hts _ q1751) dX6_digest_12 ?_
    refine lv_lload_n hx hb dX6_digest_15 rfl (lv_at hl 1 rfl) ?_
    refine lv_lmul hx hb dX6_digest_16 ?_
    refine lv_aload_n hx hb dX6_digest_17 rfl (lv_at hl 0 rfl) ?_
    refine lv_iload_n hx hb dX6_digest_18 rfl (lv_at hl 2 rfl) ?_
    obtain ⟨c4, hc4, hzw1⟩ := ob hzw1
    refine mc_V (As := [.int w1.2.1]) (rest := [.long ((31 : Int64) * w1.1)]) C hJ (metM_count l w1.2.2 w1.2.1 c4 hc4) (cwV 1 hts (lw_V q1752 q1739 q1740 q118 q1741) rfl rfl rfl hdM_count ⟨Nat.le_of_ble_eq_true rfl, Nat.le_of_ble_eq_true rfl⟩) rfl hl.1 rfl (lv_room (Nat.le_of_ble_eq_true rfl)) dX6_digest_19 (fun H locs hJ => ?_)
    refine lv_i2l (v := c4.1.toInt64) hx hb dX6_digest_22 rfl ?_
    refine lv_ladd hx hb dX6_digest_23 ?_
    refine lv_lstore_n (lv' := [(1, .long (((31 : Int64) * w1.1) + c4.1.toInt64)), (0, .ref (kO K)), (3, .int w1.2.1)]) hx hb dX6_digest_24 rfl hl (Nat.le_of_ble_eq_true rfl) rfl (fun ls hl => ?_)
    refine lv_iinc (v := (w1.2.1 + 1)) (lv' := [(3, .int (w1.2.1 + 1)), (1, .long (((31 : Int64) * w1.1) + c4.1.toInt64)), (0, .ref (kO K))]) hx hb dX6_digest_25 hl (k := 2) rfl rfl (Nat.le_of_ble_eq_true rfl) rfl (fun ls hl => ?_)
    refine lv_goto (tgt := 6) hx hb dX6_digest_28 (by decide) ?_
    have hzw1 := Option.some.inj hzw1
    subst hzw1
    exact ihw1 _ hqw1 _ _ _ hJ (lv_sub hl [2, 1, 0] rfl)
