/-! the reference, walked (printed by tool/gen_m.py) -/
set_option maxRecDepth 100000
def M_readsMembers (σ : MM) : Option (Int32 × MM) :=
  (mpf σ 4 (0 : Int32)).bind fun σ1 =>
  (lp (S := Int32 × Int32 × MM) (T := (MM) ⊕ (Int32 × MM)) (fun w2 =>
    (mld w2.2.2 0 (1 : Int32)).bind fun x4 =>
      if w2.2.1 < x4 then
        (M_readsMember w2.2.2 w2.1 w2.2.1).bind fun c6 =>
        if (3 : Int32) ≤ c6.1 then
          (mld c6.2 0 (1 : Int32)).bind fun x8 =>
          if (w2.2.1 + 3) = x8 then
            (mpf c6.2 4 (w2.1 + 1)).bind fun σ12 =>
            some (.inr (.inr ((-1 : Int32), σ12)))
          else
            (M_byteAt c6.2 (w2.2.1 + 3)).bind fun c10 =>
            if c10 = (59 : Int32) then
              some (.inl ((w2.1 + 1), ((w2.2.1 + 3) + 1), c6.2))
            else
              some (.inr (.inr ((w2.2.1 + 3), c6.2)))
        else
          some (.inr (.inr ((w2.2.1 + c6.1), c6.2)))
      else
        if w2.2.1 ≤ 0 then
          some (.inr (.inl w2.2.2))
        else
          (M_readsMember w2.2.2 w2.1 w2.2.1).bind fun c14 =>
          if (3 : Int32) ≤ c14.1 then
            (mld c14.2 0 (1 : Int32)).bind fun x16 =>
            if (w2.2.1 + 3) = x16 then
              (mpf c14.2 4 (w2.1 + 1)).bind fun σ20 =>
              some (.inr (.inr ((-1 : Int32), σ20)))
            else
              (M_byteAt c14.2 (w2.2.1 + 3)).bind fun c18 =>
              if c18 = (59 : Int32) then
                some (.inl ((w2.1 + 1), ((w2.2.1 + 3) + 1), c14.2))
              else
                some (.inr (.inr ((w2.2.1 + 3), c14.2)))
          else
            some (.inr (.inr ((w2.2.1 + c14.1), c14.2)))) 2000 ((0 : Int32), (0 : Int32), σ1)).bind fun q3 =>
  lpo q3 (fun q3' =>
    some ((-1 : Int32), q3')) (fun r => some r)
theorem hdM_readsMembers : yX6_readsMembers.cls = RX6 ∧ yX6_readsMembers.cls ≠ "java/lang/invoke/MethodHandle" ∧ yX6_readsMembers.cls ≠ "java/lang/invoke/VarHandle" ∧ (parseMethodDescriptor yX6_readsMembers.desc).map (fun d => d.parameters.length) = some 0 := by decide +kernel
set_option maxHeartbeats 4000000 in
theorem metM_readsMembers (l : Launch) (σ : MM) (res : Int32 × MM) (h : M_readsMembers σ = some res) : MetM l yX6_readsMembers cX6_readsMembers 4 (some .int) 4 (fun K => [.ref (kO K)]) σ (some (.int res.1)) res.2 := by
  refine met_walk rfl (by simp [mRt]) (fun _ => Nat.le_of_ble_eq_true rfl) (fun K p e s m args below meth c Q C hE ls hl hJ => ?_)
  have hx := C.1.1
  have hb := C.1.2.1
  have hown := C.1.2.2.2.1
  have hts := C.1.2.2.2.2
  have hl : lv_has ls 4 [(0, .ref (kO K))] := hl
  unfold M_readsMembers at h
  refine lv_iconst hx hb dX6_readsMembers_0 kc_0 ?_
  refine lv_istore_n (lv' := [(1, .int (0 : Int32)), (0, .ref (kO K))]) hx hb dX6_readsMembers_1 rfl hl (Nat.le_of_ble_eq_true rfl) rfl (fun ls hl => ?_)
  refine lv_iconst hx hb dX6_readsMembers_2 kc_0 ?_
  refine lv_istore_n (lv' := [(2, .int (0 : Int32)), (1, .int (0 : Int32)), (0, .ref (kO K))]) hx hb dX6_readsMembers_3 rfl hl (Nat.le_of_ble_eq_true rfl) rfl (fun ls hl => ?_)
  refine lv_aload_n hx hb dX6_readsMembers_4 rfl (lv_at hl 2 rfl) ?_
  refine lv_iconst hx hb dX6_readsMembers_5 kc_0 ?_
  obtain ⟨σ1, hσ1, h⟩ := ob h
  refine my_pi C hJ 4 (Nat.le_of_ble_eq_true rfl) rfl rfl rfl lk4 hσ1 dX6_readsMembers_6 (fun H locs hJ => ?_)
  obtain ⟨q3, hq3, h⟩ := ob h
  have hxq3 : ∀ q3', q3 = .inl q3' → ∀ (H : Heap) (locs : List Loc) (ls : Array Slot), MJ K q3' s.heap H locs → lv_has ls 4 [] → W p l e (rmd 4) s m args below meth c H locs 0 0 Q (F0 m 80 ls []) := by
    intro q3' heq3
    subst heq3
    have h := lpo_l h
    intro H locs ls hJ hl
    refine lv_iconst hx hb dX6_readsMembers_80 kc_m1 ?_
    have h := Option.some.inj h
    subst h
    exact hE _ _ _ _ (some (.int ((-1 : Int32)))) hJ ⟨_, rfl⟩ rfl dX6_readsMembers_81
  refine lp_ind (P := fun (w2 : Int32 × Int32 × MM) => ∀ (H : Heap) (locs : List Loc) (ls : Array Slot), MJ K w2.2.2 s.heap H locs → lv_has ls 4 [(0, .ref (kO K)), (1, .int w2.1), (2, .int w2.2.1)] → W p l e (rmd 4) s m args below meth c H locs 0 0 Q (F0 m 9 ls [])) ?_ _ _ hq3 _ _ _ hJ (lv_sub hl [2, 1, 0] rfl)
  intro nw2 w2 ihw2 zw2 hzw2 hqw2 H locs ls hJ hl
  refine lv_iload_n hx hb dX6_readsMembers_9 rfl (lv_at hl 2 rfl) ?_
  refine lv_aload_n hx hb dX6_readsMembers_10 rfl (lv_at hl 0 rfl) ?_
  refine mx_ga C hJ 0 (Nat.le_of_ble_eq_true rfl) rfl lk0 dX6_readsMembers_11 ?_
  refine lv_iconst hx hb dX6_readsMembers_14 kc_1 ?_
  obtain ⟨x4, hx4, hzw2⟩ := ob hzw2
  refine my_il C hJ 0 rfl hx4 dX6_readsMembers_15 ?_
  refine lv_icmp_lt (tgt := 23) hx hb dX6_readsMembers_16 (by decide) (fun hc5 => ?_) (fun hc5 => ?_)
  · have hzw2 := ip hzw2 hc5
    refine lv_aload_n hx hb dX6_readsMembers_23 rfl (lv_at hl 0 rfl) ?_
    refine lv_iload_n hx hb dX6_readsMembers_24 rfl (lv_at hl 1 rfl) ?_
    refine lv_iload_n hx hb dX6_readsMembers_25 rfl (lv_at hl 2 rfl) ?_
    obtain ⟨c6, hc6, hzw2⟩ := ob hzw2
    refine mc_V (As := [.int w2.1, .int w2.2.1]) (rest := []) C hJ (metM_readsMember l w2.2.2 w2.1 w2.2.1 c6 hc6) (cwV 2 hts (lw_V q1392 q1394 qs54 q118 q1395) rfl rfl rfl hdM_readsMember ⟨Nat.le_of_ble_eq_true rfl, Nat.le_of_ble_eq_true rfl⟩) rfl hl.1 rfl (lv_room (Nat.le_of_ble_eq_true rfl)) dX6_readsMembers_26 (fun H locs hJ => ?_)
    refine lv_istore_n (lv' := [(3, .int c6.1), (0, .ref (kO K)), (1, .int w2.1), (2, .int w2.2.1)]) hx hb dX6_readsMembers_29 rfl hl (Nat.le_of_ble_eq_true rfl) rfl (fun ls hl => ?_)
    refine lv_iload_n hx hb dX6_readsMembers_30 rfl (lv_at hl 0 rfl) ?_
    refine lv_iconst hx hb dX6_readsMembers_31 kc_3 ?_
    refine lv_icmp_ge (tgt := 39) hx hb dX6_readsMembers_32 (by decide) (fun hc7 => ?_) (fun hc7 => ?_)
    · have hzw2 := ip hzw2 hc7
      refine lv_iinc (v := (w2.1 + 1)) (lv' := [(1, .int (w2.1 + 1)), (3, .int c6.1), (0, .ref (kO K)), (2, .int w2.2.1)]) hx hb dX6_readsMembers_39 hl (k := 2) rfl rfl (Nat.le_of_ble_eq_true rfl) rfl (fun ls hl => ?_)
      refine lv_iinc (v := (w2.2.1 + 3)) (lv' := [(2, .int (w2.2.1 + 3)), (1, .int (w2.1 + 1)), (3, .int c6.1), (0, .ref (kO K))]) hx hb dX6_readsMembers_42 hl (k := 3) rfl rfl (Nat.le_of_ble_eq_true rfl) rfl (fun ls hl => ?_)
      refine lv_iload_n hx hb dX6_readsMembers_45 rfl (lv_at hl 0 rfl) ?_
      refine lv_aload_n hx hb dX6_readsMembers_46 rfl (lv_at hl 3 rfl) ?_
      refine mx_ga C hJ 0 (Nat.le_of_ble_eq_true rfl) rfl lk0 dX6_readsMembers_47 ?_
      refine lv_iconst hx hb dX6_readsMembers_50 kc_1 ?_
      obtain ⟨x8, hx8, hzw2⟩ := ob hzw2
      refine my_il C hJ 0 rfl hx8 dX6_readsMembers_51 ?_
      refine lv_icmp_ne (tgt := 62) hx hb dX6_readsMembers_52 (by decide) (fun hc9 => ?_) (fun hc9 => ?_)
      · have hzw2 := im hzw2 hc9
        refine lv_aload_n hx hb dX6_readsMembers_62 rfl (lv_at hl 3 rfl) ?_
        refine lv_iload_n hx hb dX6_readsMembers_63 rfl (lv_at hl 0 rfl) ?_
        obtain ⟨c10, hc10, hzw2⟩ := ob hzw2
        refine mc_V (As := [.int (w2.2.1 + 3)]) (rest := []) C hJ (metM_byteAt l c6.2 (w2.2.1 + 3) c10 hc10) (cwV 1 hts (lw_V q1400 q1402 qs56 q118 q1403) rfl rfl rfl hdM_byteAt ⟨Nat.le_of_ble_eq_true rfl, Nat.le_of_ble_eq_true rfl⟩) rfl hl.1 rfl (lv_room (Nat.le_of_ble_eq_true rfl)) dX6_readsMembers_64 (fun H locs hJ => ?_)
        refine lv_bipush hx hb dX6_readsMembers_67 kb_59 ?_
        refine lv_icmp_eq (tgt := 74) hx hb dX6_readsMembers_69 (by decide) (fun hc11 => ?_) (fun hc11 => ?_)
        · have hzw2 := ip hzw2 hc11
          refine lv_iinc (v := ((w2.2.1 + 3) + 1)) (lv' := [(2, .int ((w2.2.1 + 3) + 1)), (1, .int (w2.1 + 1)), (3, .int c6.1), (0, .ref (kO K))]) hx hb dX6_readsMembers_74 hl (k := 0) rfl rfl (Nat.le_of_ble_eq_true rfl) rfl (fun ls hl => ?_)
          refine lv_goto (tgt := 9) hx hb dX6_readsMembers_77 (by decide) ?_
          have hzw2 := Option.some.inj hzw2
          subst hzw2
          exact ihw2 _ hqw2 _ _ _ hJ (lv_sub hl [3, 1, 0] rfl)
        · have hzw2 := im hzw2 hc11
          refine lv_iload_n hx hb dX6_readsMembers_72 rfl (lv_at hl 0 rfl) ?_
          have hzw2 := Option.some.inj hzw2
          subst hzw2
          have hqw2 : _ = q3 := hqw2
          subst hqw2
          have h := lpo_r h
          have h := Option.some.inj h
          subst h
          exact hE _ _ _ _ (some (.int ((w2.2.1 + 3)))) hJ ⟨_, rfl⟩ rfl dX6_readsMembers_73
      · have hzw2 := ip hzw2 hc9
        refine lv_aload_n hx hb dX6_readsMembers_55 rfl (lv_at hl 3 rfl) ?_
        refine lv_iload_n hx hb dX6_readsMembers_56 rfl (lv_at hl 1 rfl) ?_
        obtain ⟨σ12, hσ12, hzw2⟩ := ob hzw2
        refine my_pi C hJ 4 (Nat.le_of_ble_eq_true rfl) rfl rfl rfl lk4 hσ12 dX6_readsMembers_57 (fun H locs hJ => ?_)
        refine lv_iconst hx hb dX6_readsMembers_60 kc_m1 ?_
        have hzw2 := Option.some.inj hzw2
        subst hzw2
        have hqw2 : _ = q3 := hqw2
        subst hqw2
        have h := lpo_r h
        have h := Option.some.inj h
        subst h
        exact hE _ _ _ _ (some (.int ((-1 : Int32)))) hJ ⟨_, rfl⟩ rfl dX6_readsMembers_61
    · have hzw2 := im hzw2 hc7
      refine lv_iload_n hx hb dX6_readsMembers_35 rfl (lv_at hl 3 rfl) ?_
      refine lv_iload_n hx hb dX6_readsMembers_36 rfl (lv_at hl 0 rfl) ?_
      refine lv_iadd hx hb dX6_readsMembers_37 ?_
      have hzw2 := Option.some.inj hzw2
      subst hzw2
      have hqw2 : _ = q3 := hqw2
      subst hqw2
      have h := lpo_r h
      have h := Option.some.inj h
      subst h
      exact hE _ _ _ _ (some (.int ((w2.2.1 + c6.1)))) hJ ⟨_, rfl⟩ rfl dX6_readsMembers_38
  · have hzw2 := im hzw2 hc5
    refine lv_iload_n hx hb dX6_readsMembers_19 rfl (lv_at hl 2 rfl) ?_
    refine lv_if_le (tgt := 80) hx hb dX6_readsMembers_20 (by decide) (fun hc13 => ?_) (fun hc13 => ?_)
    · have hzw2 := ip hzw2 hc13
      have hzw2 := Option.some.inj hzw2
      subst hzw2
      have hqw2 : _ = q3 := hqw2
      subst hqw2
      exact hxq3 _ rfl _ _ _ hJ (lv_sub hl [] rfl)
    · have hzw2 := im hzw2 hc13
      refine lv_aload_n hx hb dX6_readsMembers_23 rfl (lv_at hl 0 rfl) ?_
      refine lv_iload_n hx hb dX6_readsMembers_24 rfl (lv_at hl 1 rfl) ?_
      refine lv_iload_n hx hb dX6_readsMembers_25 rfl (lv_at hl 2 rfl) ?_
      obtain ⟨c14, hc14, hzw2⟩ := ob hzw2
      refine mc_V (As := [.int w2.1, .int w2.2.1]) (rest := []) C hJ (metM_readsMember l w2.2.2 w2.1 w2.2.1 c14 hc14) (cwV 2 hts (lw_V q1392 q1394 qs54 q118 q1395) rfl rfl rfl hdM_readsMember ⟨Nat.le_of_ble_eq_true rfl, Nat.le_of_ble_eq_true rfl⟩) rfl hl.1 rfl (lv_room (Nat.le_of_ble_eq_true rfl)) dX6_readsMembers_26 (fun H locs hJ => ?_)
      refine lv_istore_n (lv' := [(3, .int c14.1), (0, .ref (kO K)), (1, .int w2.1), (2, .int w2.2.1)]) hx hb dX6_readsMembers_29 rfl hl (Nat.le_of_ble_eq_true rfl) rfl (fun ls hl => ?_)
      refine lv_iload_n hx hb dX6_readsMembers_30 rfl (lv_at hl 0 rfl) ?_
      refine lv_iconst hx hb dX6_readsMembers_31 kc_3 ?_
      refine lv_icmp_ge (tgt := 39) hx hb dX6_readsMembers_32 (by decide) (fun hc15 => ?_) (fun hc15 => ?_)
      · have hzw2 := ip hzw2 hc15
        refine lv_iinc (v := (w2.1 + 1)) (lv' := [(1, .int (w2.1 + 1)), (3, .int c14.1), (0, .ref (kO K)), (2, .int w2.2.1)]) hx hb dX6_readsMembers_39 hl (k := 2) rfl rfl (Nat.le_of_ble_eq_true rfl) rfl (fun ls hl => ?_)
        refine lv_iinc (v := (w2.2.1 + 3)) (lv' := [(2, .int (w2.2.1 + 3)), (1, .int (w2.1 + 1)), (3, .int c14.1), (0, .ref (kO K))]) hx hb dX6_readsMembers_42 hl (k := 3) rfl rfl (Nat.le_of_ble_eq_true rfl) rfl (fun ls hl => ?_)
        refine lv_iload_n hx hb dX6_readsMembers_45 rfl (lv_at hl 0 rfl) ?_
        refine lv_aload_n hx hb dX6_readsMembers_46 rfl (lv_at hl 3 rfl) ?_
        refine mx_ga C hJ 0 (Nat.le_of_ble_eq_true rfl) rfl lk0 dX6_readsMembers_47 ?_
        refine lv_iconst hx hb dX6_readsMembers_50 kc_1 ?_
        obtain ⟨x16, hx16, hzw2⟩ := ob hzw2
        refine my_il C hJ 0 rfl hx16 dX6_readsMembers_51 ?_
        refine lv_icmp_ne (tgt := 62) hx hb dX6_readsMembers_52 (by decide) (fun hc17 => ?_) (fun hc17 => ?_)
        · have hzw2 := im hzw2 hc17
          refine lv_aload_n hx hb dX6_readsMembers_62 rfl (lv_at hl 3 rfl) ?_
          refine lv_iload_n hx hb dX6_readsMembers_63 rfl (lv_at hl 0 rfl) ?_
          obtain ⟨c18, hc18, hzw2⟩ := ob hzw2
          refine mc_V (As := [.int (w2.2.1 + 3)]) (rest := []) C hJ (metM_byteAt l c14.2 (w2.2.1 + 3) c18 hc18) (cwV 1 hts (lw_V q1400 q1402 qs56 q118 q1403) rfl rfl rfl hdM_byteAt ⟨Nat.le_of_ble_eq_true rfl, Nat.le_of_ble_eq_true rfl⟩) rfl hl.1 rfl (lv_room (Nat.le_of_ble_eq_true rfl)) dX6_readsMembers_64 (fun H locs hJ => ?_)
          refine lv_bipush hx hb dX6_readsMembers_67 kb_59 ?_
          refine lv_icmp_eq (tgt := 74) hx hb dX6_readsMembers_69 (by decide) (fun hc19 => ?_) (fun hc19 => ?_)
          · have hzw2 := ip hzw2 hc19
            refine lv_iinc (v := ((w2.2.1 + 3) + 1)) (lv' := [(2, .int ((w2.2.1 + 3) + 1)), (1, .int (w2.1 + 1)), (3, .int c14.1), (0, .ref (kO K))]) hx hb dX6_readsMembers_74 hl (k := 0) rfl rfl (Nat.le_of_ble_eq_true rfl) rfl (fun ls hl => ?_)
            refine lv_goto (tgt := 9) hx hb dX6_readsMembers_77 (by decide) ?_
            have hzw2 := Option.some.inj hzw2
            subst hzw2
            exact ihw2 _ hqw2 _ _ _ hJ (lv_sub hl [3, 1, 0] rfl)
          · have hzw2 := im hzw2 hc19
            refine lv_iload_n hx hb dX6_readsMembers_72 rfl (lv_at hl 0 rfl) ?_
            have hzw2 := Option.some.inj hzw2
            subst hzw2
            have hqw2 : _ = q3 := hqw2
            subst hqw2
            have h := lpo_r h
            have h := Option.some.inj h
            subst h
            exact hE _ _ _ _ (some (.int ((w2.2.1 + 3)))) hJ ⟨_, rfl⟩ rfl dX6_readsMembers_73
        · have hzw2 := ip hzw2 hc17
          refine lv_aload_n hx hb dX6_readsMembers_55 rfl (lv_at hl 3 rfl) ?_
          refine lv_iload_n hx hb dX6_readsMembers_56 rfl (lv_at hl 1 rfl) ?_
          obtain ⟨σ20, hσ20, hzw2⟩ := ob hzw2
          refine my_pi C hJ 4 (Nat.le_of_ble_eq_true rfl) rfl rfl rfl lk4 hσ20 dX6_readsMembers_57 (fun H locs hJ => ?_)
          refine lv_iconst hx hb dX6_readsMembers_60 kc_m1 ?_
          have hzw2 := Option.some.inj hzw2
          subst hzw2
          have hqw2 : _ = q3 := hqw2
          subst hqw2
          have h := lpo_r h
          have h := Option.some.inj h
          subst h
          exact hE _ _ _ _ (some (.int ((-1 : Int32)))) hJ ⟨_, rfl⟩ rfl dX6_readsMembers_61
      · have hzw2 := im hzw2 hc15
        refine lv_iload_n hx hb dX6_readsMembers_35 rfl (lv_at hl 3 rfl) ?_
        refine lv_iload_n hx hb dX6_readsMembers_36 rfl (lv_at hl 0 rfl) ?_
        refine lv_iadd hx hb dX6_readsMembers_37 ?_
        have hzw2 := Option.some.inj hzw2
        subst hzw2
        have hqw2 : _ = q3 := hqw2
        subst hqw2
        have h := lpo_r h
        have h := Option.some.inj h
        subst h
        exact hE _ _ _ _ (some (.int ((w2.2.1 + c14.1)))) hJ ⟨_, rfl⟩ rfl dX6_readsMembers_38
def M_read (σ : MM) (v1 : Int32) : Option (Int32 × MM) :=
  (M_isSheet σ v1).bind fun c1 =>
  if c1 = 0 then
    some ((-2 : Int32), σ)
  else
    (mld σ 36 v1).bind fun x3 =>
    if x3 = 0 then
      (M_meets σ (1 : Int32)).bind fun c14 =>
      some (c14.1, c14.2)
    else
      (lp (S := Int32 × MM) (T := Int32 × MM) (fun w5 =>
        (mld w5.2 38 v1).bind fun x7 =>
          if x7 ≤ (((3 : Int32) * w5.1) + (2 : Int32)) then
            some (.inr (w5.1, w5.2))
          else
            (mld w5.2 39 (((60 : Int32) * v1) + ((3 : Int32) * w5.1))).bind fun x9 =>
            (mld w5.2 39 ((((60 : Int32) * v1) + ((3 : Int32) * w5.1)) + (1 : Int32))).bind fun x10 =>
            (mld w5.2 39 ((((60 : Int32) * v1) + ((3 : Int32) * w5.1)) + (2 : Int32))).bind fun x11 =>
            (M_event w5.2 x9 x10 x11).bind fun c12 =>
            if c12.1 ≤ 0 then
              some (.inr (w5.1, c12.2))
            else
              some (.inl ((w5.1 + 1), c12.2))) 2000 ((0 : Int32), σ)).bind fun q6 =>
      some (q6.1, q6.2)
theorem hdM_read : yX6_read.cls = RX6 ∧ yX6_read.cls ≠ "java/lang/invoke/MethodHandle" ∧ yX6_read.cls ≠ "java/lang/invoke/VarHandle" ∧ (parseMethodDescriptor yX6_read.desc).map (fun d => d.parameters.length) = some 1 := by decide +kernel
set_option maxHeartbeats 4000000 in
theorem metM_read (l : Launch) (σ : MM) (v1 : Int32) (res : Int32 × MM) (h : M_read σ v1 = some res) : MetM l yX6_read cX6_read 4 (some .int) 4 (fun K => [.ref (kO K), .int v1]) σ (some (.int res.1)) res.2 := by
  refine met_walk rfl (by simp [mRt]) (fun _ => Nat.le_of_ble_eq_true rfl) (fun K p e s m args below meth c Q C hE ls hl hJ => ?_)
  have hx := C.1.1
  have hb := C.1.2.1
  have hown := C.1.2.2.2.1
  have hts := C.1.2.2.2.2
  have hl : lv_has ls 4 [(0, .ref (kO K)), (1, .int v1)] := hl
  unfold M_read at h
  refine lv_iload_n hx hb dX6_read_0 rfl (lv_at hl 1 rfl) ?_
  obtain ⟨c1, hc1, h⟩ := ob h
  refine mc_S (As := [.int v1]) (rest := []) C hJ (metM_isSheet l σ v1 c1 hc1) (va_cwS 1 hts (lw_S q1446 q1447 q118 q1448) rfl rfl rfl hdM_isSheet ⟨Nat.le_of_ble_eq_true rfl, Nat.le_of_ble_eq_true rfl⟩) rfl hl.1 rfl (lv_room (Nat.le_of_ble_eq_true rfl)) dX6_read_1 (fun H locs hJ => ?_)
  refine lv_if_ne (tgt := 10) hx hb dX6_read_4 (by decide) (fun hc2 => ?_) (fun hc2 => ?_)
  · have h := im h hc2
    refine lv_aload_n hx hb dX6_read_10 rfl (lv_at hl 0 rfl) ?_
    refine mx_ga C hJ 36 (Nat.le_of_ble_eq_true rfl) rfl lk36 dX6_read_11 ?_
    refine lv_iload_n hx hb dX6_read_14 rfl (lv_at hl 1 rfl) ?_
    obtain ⟨x3, hx3, h⟩ := ob h
    refine my_zl C hJ hx3 dX6_read_15 ?_
    refine lv_if_ne (tgt := 25) hx hb dX6_read_16 (by decide) (fun hc4 => ?_) (fun hc4 => ?_)
    · have h := im h hc4
      refine lv_iconst hx hb dX6_read_25 kc_0 ?_
      refine lv_istore_n (lv' := [(2, .int (0 : Int32)), (0, .ref (kO K)), (1, .int v1)]) hx hb dX6_read_26 rfl hl (Nat.le_of_ble_eq_true rfl) rfl (fun ls hl => ?_)
      refine lv_bipush hx hb dX6_read_27 kb_60 ?_
      refine lv_iload_n hx hb dX6_read_29 rfl (lv_at hl 2 rfl) ?_
      refine lv_imul hx hb dX6_read_30 ?_
      refine lv_istore_n (lv' := [(3, .int ((60 : Int32) * v1)), (2, .int (0 : Int32)), (0, .ref (kO K)), (1, .int v1)]) hx hb dX6_read_31 rfl hl (Nat.le_of_ble_eq_true rfl) rfl (fun ls hl => ?_)
      obtain ⟨q6, hq6, h⟩ := ob h
      have hxq6 : ∀ (H : Heap) (locs : List Loc) (ls : Array Slot), MJ K q6.2 s.heap H locs → lv_has ls 4 [(2, .int q6.1)] → W p l e (rmd 4) s m args below meth c H locs 0 0 Q (F0 m 93 ls []) := by
        intro H locs ls hJ hl
        refine lv_iload_n hx hb dX6_read_93 rfl (lv_at hl 0 rfl) ?_
        have h := Option.some.inj h
        subst h
        exact hE _ _ _ _ (some (.int (q6.1))) hJ ⟨_, rfl⟩ rfl dX6_read_94
      refine lp_ind (P := fun (w5 : Int32 × MM) => ∀ (H : Heap) (locs : List Loc) (ls : Array Slot), MJ K w5.2 s.heap H locs → lv_has ls 4 [(0, .ref (kO K)), (1, .int v1), (2, .int w5.1), (3, .int ((60 : Int32) * v1))] → W p l e (rmd 4) s m args below meth c H locs 0 0 Q (F0 m 32 ls [])) ?_ _ _ hq6 _ _ _ hJ (lv_sub hl [2, 3, 1, 0] rfl)
      intro nw5 w5 ihw5 zw5 hzw5 hqw5 H locs ls hJ hl
      refine lv_iconst hx hb dX6_read_32 kc_3 ?_
      refine lv_iload_n hx hb dX6_read_33 rfl (lv_at hl 2 rfl) ?_
      refine lv_imul hx hb dX6_read_34 ?_
      refine lv_iconst hx hb dX6_read_35 kc_2 ?_
      refine lv_iadd hx hb dX6_read_36 ?_
      refine lv_aload_n hx hb dX6_read_37 rfl (lv_at hl 0 rfl) ?_
      refine mx_ga C hJ 38 (Nat.le_of_ble_eq_true rfl) rfl lk38 dX6_read_38 ?_
      refine lv_iload_n hx hb dX6_read_41 rfl (lv_at hl 1 rfl) ?_
      obtain ⟨x7, hx7, hzw5⟩ := ob hzw5
      refine my_il C hJ 38 rfl hx7 dX6_read_42 ?_
      refine lv_icmp_ge (tgt := 93) hx hb dX6_read_43 (by decide) (fun hc8 => ?_) (fun hc8 => ?_)
      · have hzw5 := ip hzw5 hc8
        have hzw5 := Option.some.inj hzw5
        subst hzw5
        have hqw5 : _ = q6 := hqw5
        subst hqw5
        exact hxq6 _ _ _ hJ (lv_sub hl [2] rfl)
      · have hzw5 := im hzw5 hc8
        refine lv_aload_n hx hb dX6_read_46 rfl (lv_at hl 0 rfl) ?_
        refine lv_aload_n hx hb dX6_read_47 rfl (lv_at hl 0 rfl) ?_
        refine mx_ga C hJ 39 (Nat.le_of_ble_eq_true rfl) rfl lk39 dX6_read_48 ?_
        refine lv_iload_n hx hb dX6_read_51 rfl (lv_at hl 3 rfl) ?_
        refine lv_iconst hx hb dX6_read_52 kc_3 ?_
        refine lv_iload_n hx hb dX6_read_53 rfl (lv_at hl 2 rfl) ?_
        refine lv_imul hx hb dX6_read_54 ?_
        refine lv_iadd hx hb dX6_read_55 ?_
        obtain ⟨x9, hx9, hzw5⟩ := ob hzw5
        refine my_il C hJ 39 rfl hx9 dX6_read_56 ?_
        refine lv_aload_n hx hb dX6_read_57 rfl (lv_at hl 0 rfl) ?_
        refine mx_ga C hJ 39 (Nat.le_of_ble_eq_true rfl) rfl lk39 dX6_read_58 ?_
        refine lv_iload_n hx hb dX6_read_61 rfl (lv_at hl 3 rfl) ?_
        refine lv_iconst hx hb dX6_read_62 kc_3 ?_
        refine lv_iload_n hx hb dX6_read_63 rfl (lv_at hl 2 rfl) ?_
        refine lv_imul hx hb dX6_read_64 ?_
        refine lv_iadd hx hb dX6_read_65 ?_
        refine lv_iconst hx hb dX6_read_66 kc_1 ?_
        refine lv_iadd hx hb dX6_read_67 ?_
        obtain ⟨x10, hx10, hzw5⟩ := ob hzw5
        refine my_il C hJ 39 rfl hx10 dX6_read_68 ?_
        refine lv_aload_n hx hb dX6_read_69 rfl (lv_at hl 0 rfl) ?_
        refine mx_ga C hJ 39 (Nat.le_of_ble_eq_true rfl) rfl lk39 dX6_read_70 ?_
        refine lv_iload_n hx hb dX6_read_73 rfl (lv_at hl 3 rfl) ?_
        refine lv_iconst hx hb dX6_read_74 kc_3 ?_
        refine lv_iload_n hx hb dX6_read_75 rfl (lv_at hl 2 rfl) ?_
        refine lv_imul hx hb dX6_read_76 ?_
        refine lv_iadd hx hb dX6_read_77 ?_
        refine lv_iconst hx hb dX6_read_78 kc_2 ?_
        refine lv_iadd hx hb dX6_read_79 ?_
        obtain ⟨x11, hx11, hzw5⟩ := ob hzw5
        refine my_il C hJ 39 rfl hx11 dX6_read_80 ?_
        obtain ⟨c12, hc12, hzw5⟩ := ob hzw5
        refine mc_V (As := [.int x9, .int x10, .int x11]) (rest := []) C hJ (metM_event l w5.2 x9 x10 x11 c12 hc12) (cwV 3 hts (lw_V q1453 q1432 q1433 q118 q1434) rfl rfl rfl hdM_event ⟨Nat.le_of_ble_eq_true rfl, Nat.le_of_ble_eq_true rfl⟩) rfl hl.1 rfl (lv_room (Nat.le_of_ble_eq_true rfl)) dX6_read_81 (fun H locs hJ => ?_)
        refine lv_if_le (tgt := 93) hx hb dX6_read_84 (by decide) (fun hc13 => ?_) (fun hc13 => ?_)
        · have hzw5 := ip hzw5 hc13
          have hzw5 := Option.some.inj hzw5
          subst hzw5
          have hqw5 : _ = q6 := hqw5
          subst hqw5
          exact hxq6 _ _ _ hJ (lv_sub hl [2] rfl)
        · have hzw5 := im hzw5 hc13
          refine lv_iinc (v := (w5.1 + 1)) (lv' := [(2, .int (w5.1 + 1)), (0, .ref (kO K)), (1, .int v1), (3, .int ((60 : Int32) * v1))]) hx hb dX6_read_87 hl (k := 2) rfl rfl (Nat.le_of_ble_eq_true rfl) rfl (fun ls hl => ?_)
          refine lv_goto (tgt := 32) hx hb dX6_read_90 (by decide) ?_
          have hzw5 := Option.some.inj hzw5
          subst hzw5
          exact ihw5 _ hqw5 _ _ _ hJ (lv_sub hl [1, 2, 0, 3] rfl)
    · have h := ip h hc4
      refine lv_aload_n hx hb dX6_read_19 rfl (lv_at hl 0 rfl) ?_
      refine lv_iconst hx hb dX6_read_20 kc_1 ?_
      obtain ⟨c14, hc14, h⟩ := ob h
      refine mc_V (As := [.int (1 : Int32)]) (rest := []) C hJ (metM_meets l σ (1 : Int32) c14 hc14) (cwV 1 hts (lw_V q1449 q1451 qs61 q118 q1452) rfl rfl rfl hdM_meets ⟨Nat.le_of_ble_eq_true rfl, Nat.le_of_ble_eq_true rfl⟩) rfl hl.1 rfl (lv_room (Nat.le_of_ble_eq_true rfl)) dX6_read_21 (fun H locs hJ => ?_)
      have h := Option.some.inj h
      subst h
      exact hE _ _ _ _ (some (.int (c14.1))) hJ ⟨_, rfl⟩ rfl dX6_read_24
  · have h := ip h hc2
    refine lv_bipush hx hb dX6_read_7 kb_m2 ?_
    have h := Option.some.inj h
    subst h
    exact hE _ _ _ _ (some (.int ((-2 : Int32)))) hJ ⟨_, rfl⟩ rfl dX6_read_9
def M_steps (σ : MM) (v1 : Int32) (v2 : Int32) : Option (MM) :=
  (mld σ 18 v1).bind fun x1 =>
  (M_dampNow σ (x1 - (1 : Int32))).bind fun c2 =>
  (mld σ 18 v1).bind fun x3 =>
  (M_dampNow σ (x3 + (1 : Int32))).bind fun c4 =>
  (if c2 < c4 then
      some c4
    else
      some c2 : Option (Int32)).bind fun q6 =>
  (mld σ 18 v1).bind fun x7 =>
  (mld σ 17 x7).bind fun x8 =>
  if q6 ≤ x8 then
    some σ
  else
    (mld σ 18 v1).bind fun x10 =>
    (if c2 < c4 then
        some (1 : Int32)
      else
        some (-1 : Int32) : Option (Int32)).bind fun q12 =>
    (mst σ 18 v1 (x10 + q12)).bind fun σ13 =>
    (mpf σ13 22 ((σ13 22 0) ||| ((1 : Int32) <<< (v1 &&& 31)))).bind fun σ14 =>
    (M_passesOver σ14 v1 v2).bind fun c15 =>
    some c15
theorem hdM_steps : yX6_steps.cls = RX6 ∧ yX6_steps.cls ≠ "java/lang/invoke/MethodHandle" ∧ yX6_steps.cls ≠ "java/lang/invoke/VarHandle" ∧ (parseMethodDescriptor yX6_steps.desc).map (fun d => d.parameters.length) = some 2 := by decide +kernel
set_option maxHeartbeats 4000000 in
theorem metM_steps (l : Launch) (σ : MM) (v1 : Int32) (v2 : Int32) (res : MM) (h : M_steps σ v1 v2 = some res) : MetM l yX6_steps cX6_steps 6 none 4 (fun K => [.ref (kO K), .int v1, .int v2]) σ none res := by
  refine met_walk rfl (by simp [mRt]) (fun _ => Nat.le_of_ble_eq_true rfl) (fun K p e s m args below meth c Q C hE ls hl hJ => ?_)
  have hx := C.1.1
  have hb := C.1.2.1
  have hown := C.1.2.2.2.1
  have hts := C.1.2.2.2.2
  have hl : lv_has ls 6 [(0, .ref (kO K)), (1, .int v1), (2, .int v2)] := hl
  unfold M_steps at h
  refine lv_aload_n hx hb dX6_steps_0 rfl (lv_at hl 0 rfl) ?_
  refine lv_aload_n hx hb dX6_steps_1 rfl (lv_at hl 0 rfl) ?_
  refine mx_ga C hJ 18 (Nat.le_of_ble_eq_true rfl) rfl lk18 dX6_steps_2 ?_
  refine lv_iload_n hx hb dX6_steps_5 rfl (lv_at hl 1 rfl) ?_
  obtain ⟨x1, hx1, h⟩ := ob h
  refine my_il C hJ 18 rfl hx1 dX6_steps_6 ?_
  refine lv_iconst hx hb dX6_steps_7 kc_1 ?_
  refine lv_isub hx hb dX6_steps_8 ?_
  obtain ⟨c2, hc2, h⟩ := ob h
  refine mc_V (As := [.int (x1 - (1 : Int32))]) (rest := []) C hJ (metM_dampNow l σ (x1 - (1 : Int32)) c2 hc2) (cwV 1 hts (lw_V q1509 q1511 qs74 q118 q1512) rfl rfl rfl hdM_dampNow ⟨Nat.le_of_ble_eq_true rfl, Nat.le_of_ble_eq_true rfl⟩) rfl hl.1 rfl (lv_room (Nat.le_of_ble_eq_true rfl)) dX6_steps_9 (fun H locs hJ => ?_)
  refine lv_istore_n (lv' := [(3, .int c2), (0, .ref (kO K)), (1, .int v1), (2, .int v2)]) hx hb dX6_steps_12 rfl hl (Nat.le_of_ble_eq_true rfl) rfl (fun ls hl => ?_)
  refine lv_aload_n hx hb dX6_steps_13 rfl (lv_at hl 1 rfl) ?_
  refine lv_aload_n hx hb dX6_steps_14 rfl (lv_at hl 1 rfl) ?_
  refine mx_ga C hJ 18 (Nat.le_of_ble_eq_true rfl) rfl lk18 dX6_steps_15 ?_
  refine lv_iload_n hx hb dX6_steps_18 rfl (lv_at hl 2 rfl) ?_
  obtain ⟨x3, hx3, h⟩ := ob h
  refine my_il C hJ 18 rfl hx3 dX6_steps_19 ?_
  refine lv_iconst hx hb dX6_steps_20 kc_1 ?_
  refine lv_iadd hx hb dX6_steps_21 ?_
  obtain ⟨c4, hc4, h⟩ := ob h
  refine mc_V (As := [.int (x3 + (1 : Int32))]) (rest := []) C hJ (metM_dampNow l σ (x3 + (1 : Int32)) c4 hc4) (cwV 1 hts (lw_V q1509 q1511 qs74 q118 q1512) rfl rfl rfl hdM_dampNow ⟨Nat.le_of_ble_eq_true rfl, Nat.le_of_ble_eq_true rfl⟩) rfl hl.1 rfl (lv_room (Nat.le_of_ble_eq_true rfl)) dX6_steps_22 (fun H locs hJ => ?_)
  refine lv_istore (lv' := [(4, .int c4), (3, .int c2), (0, .ref (kO K)), (1, .int v1), (2, .int v2)]) hx hb dX6_steps_25 hl (Nat.le_of_ble_eq_true rfl) rfl (fun ls hl => ?_)
  refine lv_iload_n hx hb dX6_steps_27 rfl (lv_at hl 1 rfl) ?_
  refine lv_iload hx hb dX6_steps_28 (lv_at hl 0 rfl) ?_
  obtain ⟨q6, hq6, h⟩ := ob h
  have hjq6 : ∀ (H : Heap) (locs : List Loc) (ls : Array Slot), MJ K σ s.heap H locs → lv_has ls 6 [(0, .ref (kO K)), (1, .int v1), (2, .int v2), (3, .int c2), (4, .int c4)] → W p l e (rmd 4) s m args below meth c H locs 0 0 Q (F0 m 39 ls [.int q6]) := by
    intro H locs ls hJ hl
    refine lv_istore (lv' := [(5, .int q6), (0, .ref (kO K)), (1, .int v1), (2, .int v2), (3, .int c2), (4, .int c4)]) hx hb dX6_steps_39 hl (Nat.le_of_ble_eq_true rfl) rfl (fun ls hl => ?_)
    refine lv_iload hx hb dX6_steps_41 (lv_at hl 0 rfl) ?_
    refine lv_aload_n hx hb dX6_steps_43 rfl (lv_at hl 1 rfl) ?_
    refine mx_ga C hJ 17 (Nat.le_of_ble_eq_true rfl) rfl lk17 dX6_steps_44 ?_
    refine lv_aload_n hx hb dX6_steps_47 rfl (lv_at hl 1 rfl) ?_
    refine mx_ga C hJ 18 (Nat.le_of_ble_eq_true rfl) rfl lk18 dX6_steps_48 ?_
    refine lv_iload_n hx hb dX6_steps_51 rfl (lv_at hl 2 rfl) ?_
    obtain ⟨x7, hx7, h⟩ := ob h
    refine my_il C hJ 18 rfl hx7 dX6_steps_52 ?_
    obtain ⟨x8, hx8, h⟩ := ob h
    refine my_il C hJ 17 rfl hx8 dX6_steps_53 ?_
    refine lv_icmp_le (tgt := 95) hx hb dX6_steps_54 (by decide) (fun hc9 => ?_) (fun hc9 => ?_)
    · have h := ip h hc9
      have h := Option.some.inj h
      subst h
      exact hE _ _ _ _ none hJ rfl rfl dX6_steps_95
    · have h := im h hc9
      refine lv_aload_n hx hb dX6_steps_57 rfl (lv_at hl 1 rfl) ?_
      refine mx_ga C hJ 18 (Nat.le_of_ble_eq_true rfl) rfl lk18 dX6_steps_58 ?_
      refine lv_iload_n hx hb dX6_steps_61 rfl (lv_at hl 2 rfl) ?_
      refine lv_dup2_11 hx hb dX6_steps_62 rfl rfl ?_
      obtain ⟨x10, hx10, h⟩ := ob h
      refine my_il C hJ 18 rfl hx10 dX6_steps_63 ?_
      refine lv_iload_n hx hb dX6_steps_64 rfl (lv_at hl 4 rfl) ?_
      refine lv_iload hx hb dX6_steps_65 (lv_at hl 5 rfl) ?_
      obtain ⟨q12, hq12, h⟩ := ob h
      have hjq12 : ∀ (H : Heap) (locs : List Loc) (ls : Array Slot), MJ K σ s.heap H locs → lv_has ls 6 [(0, .ref (kO K)), (1, .int v1), (2, .int v2)] → W p l e (rmd 4) s m args below meth c H locs 0 0 Q (F0 m 75 ls [.int q12, .int x10, .int v1, .ref (kA K 18)]) := by
        intro H locs ls hJ hl
        refine lv_iadd hx hb dX6_steps_75 ?_
        obtain ⟨σ13, hσ13, h⟩ := ob h
        refine my_is C hJ 18 rfl hσ13 dX6_steps_76 (fun H locs hJ => ?_)
        refine lv_aload_n hx hb dX6_steps_77 rfl (lv_at hl 0 rfl) ?_
        refine lv_dup hx hb dX6_steps_78 rfl ?_
        refine mx_gi C hJ 22 (Nat.le_of_ble_eq_true rfl) rfl lk22 dX6_steps_79 ?_
        refine lv_iconst hx hb dX6_steps_82 kc_1 ?_
        refine lv_iload_n hx hb dX6_steps_83 rfl (lv_at hl 1 rfl) ?_
        refine lv_ishl hx hb dX6_steps_84 ?_
        refine lv_ior hx hb dX6_steps_85 ?_
        obtain ⟨σ14, hσ14, h⟩ := ob h
        refine my_pi C hJ 22 (Nat.le_of_ble_eq_true rfl) rfl rfl rfl lk22 hσ14 dX6_steps_86 (fun H locs hJ => ?_)
        refine lv_aload_n hx hb dX6_steps_89 rfl (lv_at hl 0 rfl) ?_
        refine lv_iload_n hx hb dX6_steps_90 rfl (lv_at hl 1 rfl) ?_
        refine lv_iload_n hx hb dX6_steps_91 rfl (lv_at hl 2 rfl) ?_
        obtain ⟨c15, hc15, h⟩ := ob h
        refine mc_V (As := [.int v1, .int v2]) (rest := []) C hJ (metM_passesOver l σ14 v1 v2 c15 hc15) (cwV 2 hts (lw_V q1513 q1515 qs75 q118 q1516) rfl rfl rfl hdM_passesOver ⟨Nat.le_of_ble_eq_true rfl, Nat.le_of_ble_eq_true rfl⟩) rfl hl.1 rfl (lv_room (Nat.le_of_ble_eq_true rfl)) dX6_steps_92 (fun H locs hJ => ?_)
        have h := Option.some.inj h
        subst h
        exact hE _ _ _ _ none hJ rfl rfl dX6_steps_95
      refine lv_icmp_lt (tgt := 74) hx hb dX6_steps_67 (by decide) (fun hc11 => ?_) (fun hc11 => ?_)
      · have hq12 := ip hq12 hc11
        refine lv_iconst hx hb dX6_steps_74 kc_1 ?_
        have hq12 := Option.some.inj hq12
        subst hq12
        exact hjq12 _ _ _ hJ (lv_sub hl [1, 2, 3] rfl)
      · have hq12 := im hq12 hc11
        refine lv_iconst hx hb dX6_steps_70 kc_m1 ?_
        refine lv_goto (tgt := 75) hx hb dX6_steps_71 (by decide) ?_
        have hq12 := Option.some.inj hq12
        subst hq12
        exact hjq12 _ _ _ hJ (lv_sub hl [1, 2, 3] rfl)
  refine lv_icmp_lt (tgt := 37) hx hb dX6_steps_30 (by decide) (fun hc5 => ?_) (fun hc5 => ?_)
  · have hq6 := ip hq6 hc5
    refine lv_iload hx hb dX6_steps_37 (lv_at hl 0 rfl) ?_
    have hq6 := Option.some.inj hq6
    subst hq6
    exact hjq6 _ _ _ hJ (lv_sub hl [2, 3, 4, 1, 0] rfl)
  · have hq6 := im hq6 hc5
    refine lv_iload_n hx hb dX6_steps_33 rfl (lv_at hl 1 rfl) ?_
    refine lv_goto (tgt := 39) hx hb dX6_steps_34 (by decide) ?_
    have hq6 := Option.some.inj hq6
    subst hq6
    exact hjq6 _ _ _ hJ (lv_sub hl [2, 3, 4, 1, 0] rfl)
def M_faultOf (σ : MM) (v1 : Int32) : Option (Int32 × MM) :=
  (M_readsStone σ).bind fun c1 =>
  (M_readsMembers c1.2).bind fun c2 =>
  if v1 = 0 then
    some (c1.1, c2.2)
  else
    some (c2.1, c2.2)
theorem hdM_faultOf : yX6_faultOf.cls = RX6 ∧ yX6_faultOf.cls ≠ "java/lang/invoke/MethodHandle" ∧ yX6_faultOf.cls ≠ "java/lang/invoke/VarHandle" ∧ (parseMethodDescriptor yX6_faultOf.desc).map (fun d => d.parameters.length) = some 1 := by decide +kernel
set_option maxHeartbeats 4000000 in
theorem metM_faultOf (l : Launch) (σ : MM) (v1 : Int32) (res : Int32 × MM) (h : M_faultOf σ v1 = some res) : MetM l yX6_faultOf cX6_faultOf 4 (some .int) 5 (fun K => [.ref (kO K), .int v1]) σ (some (.int res.1)) res.2 := by
  refine met_walk rfl (by simp [mRt]) (fun _ => Nat.le_of_ble_eq_true rfl) (fun K p e s m args below meth c Q C hE ls hl hJ => ?_)
  have hx := C.1.1
  have hb := C.1.2.1
  have hown := C.1.2.2.2.1
  have hts := C.1.2.2.2.2
  have hl : lv_has ls 4 [(0, .ref (kO K)), (1, .int v1)] := hl
  unfold M_faultOf at h
  refine lv_aload_n hx hb dX6_faultOf_0 rfl (lv_at hl 0 rfl) ?_
  obtain ⟨c1, hc1, h⟩ := ob h
  refine mc_V (As := []) (rest := []) C hJ (metM_readsStone l σ c1 hc1) (cwV 0 hts (lw_V q1384 q1386 qs52 q118 q1387) rfl rfl rfl hdM_readsStone ⟨Nat.le_of_ble_eq_true rfl, Nat.le_of_ble_eq_true rfl⟩) rfl hl.1 rfl (lv_room (Nat.le_of_ble_eq_true rfl)) dX6_faultOf_1 (fun H locs hJ => ?_)
  refine lv_istore_n (lv' := [(2, .int c1.1), (0, .ref (kO K)), (1, .int v1)]) hx hb dX6_faultOf_4 rfl hl (Nat.le_of_ble_eq_true rfl) rfl (fun ls hl => ?_)
  refine lv_aload_n hx hb dX6_faultOf_5 rfl (lv_at hl 1 rfl) ?_
  obtain ⟨c2, hc2, h⟩ := ob h
  refine mc_V (As := []) (rest := []) C hJ (metM_readsMembers l c1.2 c2 hc2) (cwV 0 hts (lw_V q1388 q1390 qs53 q118 q1391) rfl rfl rfl hdM_readsMembers ⟨Nat.le_of_ble_eq_true rfl, Nat.le_of_ble_eq_true rfl⟩) rfl hl.1 rfl (lv_room (Nat.le_of_ble_eq_true rfl)) dX6_faultOf_6 (fun H locs hJ => ?_)
  refine lv_istore_n (lv' := [(3, .int c2.1), (2, .int c1.1), (0, .ref (kO K)), (1, .int v1)]) hx hb dX6_faultOf_9 rfl hl (Nat.le_of_ble_eq_true rfl) rfl (fun ls hl => ?_)
  refine lv_iload_n hx hb dX6_faultOf_10 rfl (lv_at hl 3 rfl) ?_
  refine lv_if_ne (tgt := 18) hx hb dX6_faultOf_11 (by decide) (fun hc3 => ?_) (fun hc3 => ?_)
  · have h := im h hc3
    refine lv_iload_n hx hb dX6_faultOf_18 rfl (lv_at hl 0 rfl) ?_
    have h := Option.some.inj h
    subst h
    exact hE _ _ _ _ (some (.int (c2.1))) hJ ⟨_, rfl⟩ rfl dX6_faultOf_19
  · have h := ip h hc3
    refine lv_iload_n hx hb dX6_faultOf_14 rfl (lv_at hl 1 rfl) ?_
    refine lv_goto (tgt := 19) hx hb dX6_faultOf_15 (by decide) ?_
    have h := Option.some.inj h
    subst h
    exact hE _ _ _ _ (some (.int (c1.1))) hJ ⟨_, rfl⟩ rfl dX6_faultOf_19
def M_walks (σ : MM) (v1 : Int32) (v2 : Int32) : Option (MM) :=
  (mld σ 5 v1).bind fun x1 =>
  (if x1 = 0 then
      some (2 : Int32)
    else
      (mld σ 5 v1).bind fun x3 =>
      if x3 = (1 : Int32) then
        some (1 : Int32)
      else
        if (v2 - v2 / (2 : Int32) * (2 : Int32)) = 0 then
          some (1 : Int32)
        else
          some (0 : Int32) : Option (Int32)).bind fun q6 =>
  (lp (S := Int32 × MM) (T := MM) (fun w7 =>
    if q6 ≤ w7.1 then
        some (.inr w7.2)
      else
        (mld w7.2 19 v1).bind fun x10 =>
        if x10 = (1 : Int32) then
          (M_isRolled w7.2 v1 v2).bind fun c12 =>
          if c12 = 0 then
            (M_steps w7.2 v1 v2).bind fun c14 =>
            some (.inl ((w7.1 + 1), c14))
          else
            some (.inr w7.2)
        else
          some (.inr w7.2)) 2000 ((0 : Int32), σ)).bind fun q8 =>
  some q8
theorem hdM_walks : yX6_walks.cls = RX6 ∧ yX6_walks.cls ≠ "java/lang/invoke/MethodHandle" ∧ yX6_walks.cls ≠ "java/lang/invoke/VarHandle" ∧ (parseMethodDescriptor yX6_walks.desc).map (fun d => d.parameters.length) = some 2 := by decide +kernel
set_option maxHeartbeats 4000000 in
theorem metM_walks (l : Launch) (σ : MM) (v1 : Int32) (v2 : Int32) (res : MM) (h : M_walks σ v1 v2 = some res) : MetM l yX6_walks cX6_walks 5 none 5 (fun K => [.ref (kO K), .int v1, .int v2]) σ none res := by
  refine met_walk rfl (by simp [mRt]) (fun _ => Nat.le_of_ble_eq_true rfl) (fun K p e s m args below meth c Q C hE ls hl hJ => ?_)
  have hx := C.1.1
  have hb := C.1.2.1
  have hown := C.1.2.2.2.1
  have hts := C.1.2.2.2.2
  have hl : lv_has ls 5 [(0, .ref (kO K)), (1, .int v1), (2, .int v2)] := hl
  unfold M_walks at h
  refine lv_aload_n hx hb dX6_walks_0 rfl (lv_at hl 0 rfl) ?_
  refine mx_ga C hJ 5 (Nat.le_of_ble_eq_true rfl) rfl lk5 dX6_walks_1 ?_
  refine lv_iload_n hx hb dX6_walks_4 rfl (lv_at hl 1 rfl) ?_
  obtain ⟨x1, hx1, h⟩ := ob h
  refine my_il C hJ 5 rfl hx1 dX6_walks_5 ?_
  obtain ⟨q6, hq6, h⟩ := ob h
  have hjq6 : ∀ (H : Heap) (locs : List Loc) (ls : Array Slot), MJ K σ s.heap H locs → lv_has ls 5 [(0, .ref (kO K)), (1, .int v1), (2, .int v2)] → W p l e (rmd 5) s m args below meth c H locs 0 0 Q (F0 m 34 ls [.int q6]) := by
    intro H locs ls hJ hl
    refine lv_istore_n (lv' := [(3, .int q6), (0, .ref (kO K)), (1, .int v1), (2, .int v2)]) hx hb dX6_walks_34 rfl hl (Nat.le_of_ble_eq_true rfl) rfl (fun ls hl => ?_)
    refine lv_iconst hx hb dX6_walks_35 kc_0 ?_
    refine lv_istore (lv' := [(4, .int (0 : Int32)), (3, .int q6), (0, .ref (kO K)), (1, .int v1), (2, .int v2)]) hx hb dX6_walks_36 hl (Nat.le_of_ble_eq_true rfl) rfl (fun ls hl => ?_)
    obtain ⟨q8, hq8, h⟩ := ob h
    have hxq8 : ∀ (H : Heap) (locs : List Loc) (ls : Array Slot), MJ K q8 s.heap H locs → lv_has ls 5 [] → W p l e (rmd 5) s m args below meth c H locs 0 0 Q (F0 m 75 ls []) := by
      intro H locs ls hJ hl
      have h := Option.some.inj h
      subst h
      exact hE _ _ _ _ none hJ rfl rfl dX6_walks_75
    refine lp_ind (P := fun (w7 : Int32 × MM) => ∀ (H : Heap) (locs : List Loc) (ls : Array Slot), MJ K w7.2 s.heap H locs → lv_has ls 5 [(0, .ref (kO K)), (1, .int v1), (2, .int v2), (3, .int q6), (4, .int w7.1)] → W p l e (rmd 5) s m args below meth c H locs 0 0 Q (F0 m 38 ls [])) ?_ _ _ hq8 _ _ _ hJ (lv_sub hl [2, 3, 4, 1, 0] rfl)
    intro nw7 w7 ihw7 zw7 hzw7 hqw7 H locs ls hJ hl
    refine lv_iload hx hb dX6_walks_38 (lv_at hl 4 rfl) ?_
    refine lv_iload_n hx hb dX6_walks_40 rfl (lv_at hl 3 rfl) ?_
    refine lv_icmp_ge (tgt := 75) hx hb dX6_walks_41 (by decide) (fun hc9 => ?_) (fun hc9 => ?_)
    · have hzw7 := ip hzw7 hc9
      have hzw7 := Option.some.inj hzw7
      subst hzw7
      have hqw7 : _ = q8 := hqw7
      subst hqw7
      exact hxq8 _ _ _ hJ (lv_sub hl [] rfl)
    · have hzw7 := im hzw7 hc9
      refine lv_aload_n hx hb dX6_walks_44 rfl (lv_at hl 0 rfl) ?_
      refine mx_ga C hJ 19 (Nat.le_of_ble_eq_true rfl) rfl lk19 dX6_walks_45 ?_
      refine lv_iload_n hx hb dX6_walks_48 rfl (lv_at hl 1 rfl) ?_
      obtain ⟨x10, hx10, hzw7⟩ := ob hzw7
      refine my_il C hJ 19 rfl hx10 dX6_walks_49 ?_
      refine lv_iconst hx hb dX6_walks_50 kc_1 ?_
      refine lv_icmp_ne (tgt := 75) hx hb dX6_walks_51 (by decide) (fun hc11 => ?_) (fun hc11 => ?_)
      · have hzw7 := im hzw7 hc11
        have hzw7 := Option.some.inj hzw7
        subst hzw7
        have hqw7 : _ = q8 := hqw7
        subst hqw7
        exact hxq8 _ _ _ hJ (lv_sub hl [] rfl)
      · have hzw7 := ip hzw7 hc11
        refine lv_aload_n hx hb dX6_walks_54 rfl (lv_at hl 0 rfl) ?_
        refine lv_iload_n hx hb dX6_walks_55 rfl (lv_at hl 1 rfl) ?_
        refine lv_iload_n hx hb dX6_walks_56 rfl (lv_at hl 2 rfl) ?_
        obtain ⟨c12, hc12, hzw7⟩ := ob hzw7
        refine mc_V (As := [.int v1, .int v2]) (rest := []) C hJ (metM_isRolled l w7.2 v1 v2 c12 hc12) (cwV 2 hts (lw_V q1501 q1503 qs72 q118 q1504) rfl rfl rfl hdM_isRolled ⟨Nat.le_of_ble_eq_true rfl, Nat.le_of_ble_eq_true rfl⟩) rfl hl.1 rfl (lv_room (Nat.le_of_ble_eq_true rfl)) dX6_walks_57 (fun H locs hJ => ?_)
        refine lv_if_ne (tgt := 75) hx hb dX6_walks_60 (by decide) (fun hc13 => ?_) (fun hc13 => ?_)
        · have hzw7 := im hzw7 hc13
          have hzw7 := Option.some.inj hzw7
          subst hzw7
          have hqw7 : _ = q8 := hqw7
          subst hqw7
          exact hxq8 _ _ _ hJ (lv_sub hl [] rfl)
        · have hzw7 := ip hzw7 hc13
          refine lv_aload_n hx hb dX6_walks_63 rfl (lv_at hl 0 rfl) ?_
          refine lv_iload_n hx hb dX6_walks_64 rfl (lv_at hl 1 rfl) ?_
          refine lv_iload_n hx hb dX6_walks_65 rfl (lv_at hl 2 rfl) ?_
          obtain ⟨c14, hc14, hzw7⟩ := ob hzw7
          refine mc_V (As := [.int v1, .int v2]) (rest := []) C hJ (metM_steps l w7.2 v1 v2 c14 hc14) (cwV 2 hts (lw_V q1505 q1507 qs73 q118 q1508) rfl rfl rfl hdM_steps ⟨Nat.le_of_ble_eq_true rfl, Nat.le_of_ble_eq_true rfl⟩) rfl hl.1 rfl (lv_room (Nat.le_of_ble_eq_true rfl)) dX6_walks_66 (fun H locs hJ => ?_)
          refine lv_iinc (v := (w7.1 + 1)) (lv' := [(4, .int (w7.1 + 1)), (0, .ref (kO K)), (1, .int v1), (2, .int v2), (3, .int q6)]) hx hb dX6_walks_69 hl (k := 4) rfl rfl (Nat.le_of_ble_eq_true rfl) rfl (fun ls hl => ?_)
          refine lv_goto (tgt := 38) hx hb dX6_walks_72 (by decide) ?_
          have hzw7 := Option.some.inj hzw7
          subst hzw7
          exact ihw7 _ hqw7 _ _ _ hJ (lv_sub hl [1, 2, 3, 4, 0] rfl)
  refine lv_if_ne (tgt := 13) hx hb dX6_walks_6 (by decide) (fun hc2 => ?_) (fun hc2 => ?_)
  · have hq6 := im hq6 hc2
    refine lv_aload_n hx hb dX6_walks_13 rfl (lv_at hl 0 rfl) ?_
    refine mx_ga C hJ 5 (Nat.le_of_ble_eq_true rfl) rfl lk5 dX6_walks_14 ?_
    refine lv_iload_n hx hb dX6_walks_17 rfl (lv_at hl 1 rfl) ?_
    obtain ⟨x3, hx3, hq6⟩ := ob hq6
    refine my_il C hJ 5 rfl hx3 dX6_walks_18 ?_
    refine lv_iconst hx hb dX6_walks_19 kc_1 ?_
    refine lv_icmp_eq (tgt := 29) hx hb dX6_walks_20 (by decide) (fun hc4 => ?_) (fun hc4 => ?_)
    · have hq6 := ip hq6 hc4
      refine lv_iconst hx hb dX6_walks_29 kc_1 ?_
      refine lv_goto (tgt := 34) hx hb dX6_walks_30 (by decide) ?_
      have hq6 := Option.some.inj hq6
      subst hq6
      exact hjq6 _ _ _ hJ (lv_sub hl [0, 1, 2] rfl)
    · have hq6 := im hq6 hc4
      refine lv_iload_n hx hb dX6_walks_23 rfl (lv_at hl 2 rfl) ?_
      refine lv_iconst hx hb dX6_walks_24 kc_2 ?_
      refine lv_irem hx hb dX6_walks_25 (by decide) ?_
      refine lv_if_ne (tgt := 33) hx hb dX6_walks_26 (by decide) (fun hc5 => ?_) (fun hc5 => ?_)
      · have hq6 := im hq6 hc5
        refine lv_iconst hx hb dX6_walks_33 kc_0 ?_
        have hq6 := Option.some.inj hq6
        subst hq6
        exact hjq6 _ _ _ hJ (lv_sub hl [0, 1, 2] rfl)
      · have hq6 := ip hq6 hc5
        refine lv_iconst hx hb dX6_walks_29 kc_1 ?_
        refine lv_goto (tgt := 34) hx hb dX6_walks_30 (by decide) ?_
        have hq6 := Option.some.inj hq6
        subst hq6
        exact hjq6 _ _ _ hJ (lv_sub hl [0, 1, 2] rfl)
  · have hq6 := ip hq6 hc2
    refine lv_iconst hx hb dX6_walks_9 kc_2 ?_
    refine lv_goto (tgt := 34) hx hb dX6_walks_10 (by decide) ?_
    have hq6 := Option.some.inj hq6
    subst hq6
    exact hjq6 _ _ _ hJ (lv_sub hl [0, 1, 2] rfl)
def M_reads (σ : MM) : Option (MM) :=
  (M_faultOf σ (0 : Int32)).bind fun c1 =>
  some c1.2
theorem hdM_reads : yX6_reads.cls = RX6 ∧ yX6_reads.cls ≠ "java/lang/invoke/MethodHandle" ∧ yX6_reads.cls ≠ "java/lang/invoke/VarHandle" ∧ (parseMethodDescriptor yX6_reads.desc).map (fun d => d.parameters.length) = some 0 := by decide +kernel
set_option maxHeartbeats 4000000 in
theorem metM_reads (l : Launch) (σ : MM) (res : MM) (h : M_reads σ = some res) : MetM l yX6_reads cX6_reads 2 none 6 (fun K => [.ref (kO K)]) σ none res := by
  refine met_walk rfl (by simp [mRt]) (fun _ => Nat.le_of_ble_eq_true rfl) (fun K p e s m args below meth c Q C hE ls hl hJ => ?_)
  have hx := C.1.1
  have hb := C.1.2.1
  have hown := C.1.2.2.2.1
  have hts := C.1.2.2.2.2
  have hl : lv_has ls 2 [(0, .ref (kO K))] := hl
  unfold M_reads at h
  refine lv_aload_n hx hb dX6_reads_0 rfl (lv_at hl 0 rfl) ?_
  refine lv_iconst hx hb dX6_reads_1 kc_0 ?_
  obtain ⟨c1, hc1, h⟩ := ob h
  refine mc_V (As := [.int (0 : Int32)]) (rest := []) C hJ (metM_faultOf l σ (0 : Int32) c1 hc1) (cwV 1 hts (lw_V q1380 q1382 qs51 q118 q1383) rfl rfl rfl hdM_faultOf ⟨Nat.le_of_ble_eq_true rfl, Nat.le_of_ble_eq_true rfl⟩) rfl hl.1 rfl (lv_room (Nat.le_of_ble_eq_true rfl)) dX6_reads_2 (fun H locs hJ => ?_)
  refine lv_istore_n (lv' := [(1, .int c1.1), (0, .ref (kO K))]) hx hb dX6_reads_5 rfl hl (Nat.le_of_ble_eq_true rfl) rfl (fun ls hl => ?_)
  have h := Option.some.inj h
  subst h
  exact hE _ _ _ _ none hJ rfl rfl dX6_reads_6
def M_fault (σ : MM) (v1 : Int32) : Option (Int32 × MM) :=
  (M_isText σ v1).bind fun c1 =>
  if c1 = 0 then
    some ((-2 : Int32), σ)
  else
    (M_faultOf σ v1).bind fun c3 =>
    some (c3.1, c3.2)
theorem hdM_fault : yX6_fault.cls = RX6 ∧ yX6_fault.cls ≠ "java/lang/invoke/MethodHandle" ∧ yX6_fault.cls ≠ "java/lang/invoke/VarHandle" ∧ (parseMethodDescriptor yX6_fault.desc).map (fun d => d.parameters.length) = some 1 := by decide +kernel
set_option maxHeartbeats 4000000 in
theorem metM_fault (l : Launch) (σ : MM) (v1 : Int32) (res : Int32 × MM) (h : M_fault σ v1 = some res) : MetM l yX6_fault cX6_fault 2 (some .int) 6 (fun K => [.ref (kO K), .int v1]) σ (some (.int res.1)) res.2 := by
  refine met_walk rfl (by simp [mRt]) (fun _ => Nat.le_of_ble_eq_true rfl) (fun K p e s m args below meth c Q C hE ls hl hJ => ?_)
  have hx := C.1.1
  have hb := C.1.2.1
  have hown := C.1.2.2.2.1
  have hts := C.1.2.2.2.2
  have hl : lv_has ls 2 [(0, .ref (kO K)), (1, .int v1)] := hl
  unfold M_fault at h
  refine lv_iload_n hx hb dX6_fault_0 rfl (lv_at hl 1 rfl) ?_
  obtain ⟨c1, hc1, h⟩ := ob h
  refine mc_S (As := [.int v1]) (rest := []) C hJ (metM_isText l σ v1 c1 hc1) (va_cwS 1 hts (lw_S q1362 q1363 q118 q1364) rfl rfl rfl hdM_isText ⟨Nat.le_of_ble_eq_true rfl, Nat.le_of_ble_eq_true rfl⟩) rfl hl.1 rfl (lv_room (Nat.le_of_ble_eq_true rfl)) dX6_fault_1 (fun H locs hJ => ?_)
  refine lv_if_eq (tgt := 15) hx hb dX6_fault_4 (by decide) (fun hc2 => ?_) (fun hc2 => ?_)
  · have h := ip h hc2
    refine lv_bipush hx hb dX6_fault_15 kb_m2 ?_
    have h := Option.some.inj h
    subst h
    exact hE _ _ _ _ (some (.int ((-2 : Int32)))) hJ ⟨_, rfl⟩ rfl dX6_fault_17
  · have h := im h hc2
    refine lv_aload_n hx hb dX6_fault_7 rfl (lv_at hl 0 rfl) ?_
    refine lv_iload_n hx hb dX6_fault_8 rfl (lv_at hl 1 rfl) ?_
    obtain ⟨c3, hc3, h⟩ := ob h
    refine mc_V (As := [.int v1]) (rest := []) C hJ (metM_faultOf l σ v1 c3 hc3) (cwV 1 hts (lw_V q1380 q1382 qs51 q118 q1383) rfl rfl rfl hdM_faultOf ⟨Nat.le_of_ble_eq_true rfl, Nat.le_of_ble_eq_true rfl⟩) rfl hl.1 rfl (lv_room (Nat.le_of_ble_eq_true rfl)) dX6_fault_9 (fun H locs hJ => ?_)
    refine lv_goto (tgt := 17) hx hb dX6_fault_12 (by decide) ?_
    have h := Option.some.inj h
    subst h
    exact hE _ _ _ _ (some (.int (c3.1))) hJ ⟨_, rfl⟩ rfl dX6_fault_17
